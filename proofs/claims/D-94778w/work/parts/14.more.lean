/-! MORE ROWS (partly printed by tools/more.py) -/
set_option maxRecDepth 100000
theorem df_X1 : ∀ j, j < 16 → defaultValue (tyX1 j) = vp_V (fs0 0) j := by
  intro j hj
  match j, hj with
  | 0, _ => rfl
  | 1, _ => rfl
  | 2, _ => rfl
  | 3, _ => rfl
  | 4, _ => rfl
  | 5, _ => rfl
  | 6, _ => rfl
  | 7, _ => rfl
  | 8, _ => rfl
  | 9, _ => rfl
  | 10, _ => rfl
  | 11, _ => rfl
  | 12, _ => rfl
  | 13, _ => rfl
  | 14, _ => rfl
  | 15, _ => rfl
  | n + 16, h => exact absurd h (by omega)
theorem df_X2 : ∀ j, j < 11 → defaultValue (tyX2 j) = vp_V (fs0 1) j := by
  intro j hj
  match j, hj with
  | 0, _ => rfl
  | 1, _ => rfl
  | 2, _ => rfl
  | 3, _ => rfl
  | 4, _ => rfl
  | 5, _ => rfl
  | 6, _ => rfl
  | 7, _ => rfl
  | 8, _ => rfl
  | 9, _ => rfl
  | 10, _ => rfl
  | n + 11, h => exact absurd h (by omega)
theorem df_X3 : ∀ j, j < 8 → defaultValue (tyX3 j) = vp_V (fs0 2) j := by
  intro j hj
  match j, hj with
  | 0, _ => rfl
  | 1, _ => rfl
  | 2, _ => rfl
  | 3, _ => rfl
  | 4, _ => rfl
  | 5, _ => rfl
  | 6, _ => rfl
  | 7, _ => rfl
  | n + 8, h => exact absurd h (by omega)
theorem df_X4 : ∀ j, j < 14 → defaultValue (tyX4 j) = vp_V (fs0 3) j := by
  intro j hj
  match j, hj with
  | 0, _ => rfl
  | 1, _ => rfl
  | 2, _ => rfl
  | 3, _ => rfl
  | 4, _ => rfl
  | 5, _ => rfl
  | 6, _ => rfl
  | 7, _ => rfl
  | 8, _ => rfl
  | 9, _ => rfl
  | 10, _ => rfl
  | 11, _ => rfl
  | 12, _ => rfl
  | 13, _ => rfl
  | n + 14, h => exact absurd h (by omega)
theorem df_X5 : ∀ j, j < 4 → defaultValue (tyX5 j) = vp_V (fs0 4) j := by
  intro j hj
  match j, hj with
  | 0, _ => rfl
  | 1, _ => rfl
  | 2, _ => rfl
  | 3, _ => rfl
  | n + 4, h => exact absurd h (by omega)
theorem df_X18 : ∀ j, j < 10 → defaultValue (tyX18 j) = vp_V (fs0 14) j := by
  intro j hj
  match j, hj with
  | 0, _ => rfl
  | 1, _ => rfl
  | 2, _ => rfl
  | 3, _ => rfl
  | 4, _ => rfl
  | 5, _ => rfl
  | 6, _ => rfl
  | 7, _ => rfl
  | 8, _ => rfl
  | 9, _ => rfl
  | n + 10, h => exact absurd h (by omega)
theorem df_X19 : ∀ j, j < 46 → defaultValue (tyX19 j) = vp_V (fs0 15) j := by
  intro j hj
  match j, hj with
  | 0, _ => rfl
  | 1, _ => rfl
  | 2, _ => rfl
  | 3, _ => rfl
  | 4, _ => rfl
  | 5, _ => rfl
  | 6, _ => rfl
  | 7, _ => rfl
  | 8, _ => rfl
  | 9, _ => rfl
  | 10, _ => rfl
  | 11, _ => rfl
  | 12, _ => rfl
  | 13, _ => rfl
  | 14, _ => rfl
  | 15, _ => rfl
  | 16, _ => rfl
  | 17, _ => rfl
  | 18, _ => rfl
  | 19, _ => rfl
  | 20, _ => rfl
  | 21, _ => rfl
  | 22, _ => rfl
  | 23, _ => rfl
  | 24, _ => rfl
  | 25, _ => rfl
  | 26, _ => rfl
  | 27, _ => rfl
  | 28, _ => rfl
  | 29, _ => rfl
  | 30, _ => rfl
  | 31, _ => rfl
  | 32, _ => rfl
  | 33, _ => rfl
  | 34, _ => rfl
  | 35, _ => rfl
  | 36, _ => rfl
  | 37, _ => rfl
  | 38, _ => rfl
  | 39, _ => rfl
  | 40, _ => rfl
  | 41, _ => rfl
  | 42, _ => rfl
  | 43, _ => rfl
  | 44, _ => rfl
  | 45, _ => rfl
  | n + 46, h => exact absurd h (by omega)
theorem df_X20 : ∀ j, j < 13 → defaultValue (tyX20 j) = vp_V (fs0 16) j := by
  intro j hj
  match j, hj with
  | 0, _ => rfl
  | 1, _ => rfl
  | 2, _ => rfl
  | 3, _ => rfl
  | 4, _ => rfl
  | 5, _ => rfl
  | 6, _ => rfl
  | 7, _ => rfl
  | 8, _ => rfl
  | 9, _ => rfl
  | 10, _ => rfl
  | 11, _ => rfl
  | 12, _ => rfl
  | n + 13, h => exact absurd h (by omega)
theorem df_X21 : ∀ j, j < 6 → defaultValue (tyX21 j) = vp_V (fs0 17) j := by
  intro j hj
  match j, hj with
  | 0, _ => rfl
  | 1, _ => rfl
  | 2, _ => rfl
  | 3, _ => rfl
  | 4, _ => rfl
  | 5, _ => rfl
  | n + 6, h => exact absurd h (by omega)
theorem df_X22 : ∀ j, j < 4 → defaultValue (tyX22 j) = vp_V (fs0 18) j := by
  intro j hj
  match j, hj with
  | 0, _ => rfl
  | 1, _ => rfl
  | 2, _ => rfl
  | 3, _ => rfl
  | n + 4, h => exact absurd h (by omega)
theorem df_X23 : ∀ j, j < 15 → defaultValue (tyX23 j) = vp_V (fs0 19) j := by
  intro j hj
  match j, hj with
  | 0, _ => rfl
  | 1, _ => rfl
  | 2, _ => rfl
  | 3, _ => rfl
  | 4, _ => rfl
  | 5, _ => rfl
  | 6, _ => rfl
  | 7, _ => rfl
  | 8, _ => rfl
  | 9, _ => rfl
  | 10, _ => rfl
  | 11, _ => rfl
  | 12, _ => rfl
  | 13, _ => rfl
  | 14, _ => rfl
  | n + 15, h => exact absurd h (by omega)
theorem df_J3 : ∀ j, j < 4 → defaultValue (tyJ3 j) = vp_V (fs0 20) j := by
  intro j hj
  match j, hj with
  | 0, _ => rfl
  | 1, _ => rfl
  | 2, _ => rfl
  | 3, _ => rfl
  | n + 4, h => exact absurd h (by omega)
theorem df_J9 : ∀ j, j < 6 → defaultValue (tyJ9 j) = vp_V (fs0 21) j := by
  intro j hj
  match j, hj with
  | 0, _ => rfl
  | 1, _ => rfl
  | 2, _ => rfl
  | 3, _ => rfl
  | 4, _ => rfl
  | 5, _ => rfl
  | n + 6, h => exact absurd h (by omega)

theorem kd_mkC {u : Hp} {a q k k' n : Nat} (h : kd u a = k) (hq : kd u q = 0) (hk : k ≠ 0) : kd (mkC u q k' n) a = k := by
  have : a ≠ q := fun e => hk (by rw [← h, e]; exact hq)
  exact (hu1_ne this).trans h
theorem isRu_mkC {u : Hp} {a q k' n : Nat} (h : isRu (kd u a)) (hq : kd u q = 0) : isRu (kd (mkC u q k' n) a) := by
  rcases h with h | h | h
  · exact Or.inl (kd_mkC h hq (by decide))
  · exact Or.inr (Or.inl (kd_mkC h hq (by decide)))
  · exact Or.inr (Or.inr (kd_mkC h hq (by decide)))
def jmin (x y : Int32) : Int32 := if y < x then y else x
/-- r instanceof Tabled, by r's kind -/
def jtab (k : Nat) : Int32 := if k = 19 then 1 else 0
/-- Throwable's own fields lie in two kinds -/
def isTh (k : Nat) : Prop := k = 3 ∨ k = 22
theorem isTh_mkC {u : Hp} {a q k' n : Nat} (h : isTh (kd u a)) (hq : kd u q = 0) : isTh (kd (mkC u q k' n) a) := by
  rcases h with h | h
  · exact Or.inl (kd_mkC h hq (by decide))
  · exact Or.inr (kd_mkC h hq (by decide))
theorem tbl_out {x : Int32} (lo : Int) (n : Nat) (h1 : -2147483648 ≤ lo) (h2 : lo + n ≤ 2147483648) (hx : ∀ i : Nat, i < n → ¬ x = Int32.ofInt (lo + i)) : x.toInt < lo ∨ lo + n - 1 < x.toInt := by
  rcases Int.lt_or_le x.toInt lo with h | h
  · exact Or.inl h
  · rcases Int.lt_or_le (lo + n - 1) x.toInt with h3 | h3
    · exact Or.inr h3
    · refine absurd ?_ (hx (x.toInt - lo).toNat (by omega))
      rw [show lo + ((x.toInt - lo).toNat : Int) = x.toInt by omega]
      exact (Int32.ofInt_toInt x).symm

section GM
variable {p : Program} {l : Launch} {e : Env} {R : Room} {s : State} {m : MethodId} {args : Array Value} {below : List Frame} {meth : Method} {c : Code} {H : Heap} {locs : List Loc} {cells slots : Nat} {Q : State → Prop}
variable {cc bytes : ByteArray} {pc nL maxL mc ms index : Nat} {ls : Array Slot} {As rest st : List Value} {G : GT} {u : Hp} {a b : Nat} {own C : String} {x y : MethodName} {ret : Option FieldType} {rm : Room} {Qc : Array Value → State → Outcome → State → Prop}
theorem g_getRu0R (X : Mc G p s m args meth c own cc nL) (hw : GW G u s H locs) (hk : isRu (kd u a)) (hlink : (Cond.fieldLink own index "FifthCard$Rule" "name" "Ljava/lang/String;") ∈ lw_all) (hb : FR u 1700 a = some b) (hdg : decode cc pc = .ok (.getfield index, 3)) (kk : W p l e R s m args below meth c H locs cells slots Q (F0 m (pc + 3) ls (.ref b :: rest))) : W p l e R s m args below meth c H locs cells slots Q (F0 m pc ls (.ref a :: rest)) := by
  rcases hk with hk | hk | hk
  · exact g_getR X hw in_X18 (ci := 14) hk rfl 0 rfl (by decide) hlink (fun _ z => z) hb hdg kk
  · exact g_getR X hw in_X21 (ci := 17) hk rfl 0 rfl (by decide) hlink (fun _ z => z) hb hdg kk
  · exact g_getR X hw in_X22 (ci := 18) hk rfl 0 rfl (by decide) hlink (fun _ z => z) hb hdg kk
theorem g_getRu1I (X : Mc G p s m args meth c own cc nL) (hw : GW G u s H locs) (hk : isRu (kd u a)) (hlink : (Cond.fieldLink own index "FifthCard$Rule" "number" "I") ∈ lw_all) (hdg : decode cc pc = .ok (.getfield index, 3)) (kk : W p l e R s m args below meth c H locs cells slots Q (F0 m (pc + 3) ls (.int (FI u 1701 a) :: rest))) : W p l e R s m args below meth c H locs cells slots Q (F0 m pc ls (.ref a :: rest)) := by
  rcases hk with hk | hk | hk
  · exact g_getI X hw in_X18 (ci := 14) hk rfl 1 rfl (by decide) hlink (fun _ z => z) hdg kk
  · exact g_getI X hw in_X21 (ci := 17) hk rfl 1 rfl (by decide) hlink (fun _ z => z) hdg kk
  · exact g_getI X hw in_X22 (ci := 18) hk rfl 1 rfl (by decide) hlink (fun _ z => z) hdg kk
theorem g_getRu2R (X : Mc G p s m args meth c own cc nL) (hw : GW G u s H locs) (hk : isRu (kd u a)) (hlink : (Cond.fieldLink own index "FifthCard$Rule" "rows" "[I") ∈ lw_all) (hb : FR u 1702 a = some b) (hdg : decode cc pc = .ok (.getfield index, 3)) (kk : W p l e R s m args below meth c H locs cells slots Q (F0 m (pc + 3) ls (.ref b :: rest))) : W p l e R s m args below meth c H locs cells slots Q (F0 m pc ls (.ref a :: rest)) := by
  rcases hk with hk | hk | hk
  · exact g_getR X hw in_X18 (ci := 14) hk rfl 2 rfl (by decide) hlink (fun _ z => z) hb hdg kk
  · exact g_getR X hw in_X21 (ci := 17) hk rfl 2 rfl (by decide) hlink (fun _ z => z) hb hdg kk
  · exact g_getR X hw in_X22 (ci := 18) hk rfl 2 rfl (by decide) hlink (fun _ z => z) hb hdg kk
theorem g_getRu3I (X : Mc G p s m args meth c own cc nL) (hw : GW G u s H locs) (hk : isRu (kd u a)) (hlink : (Cond.fieldLink own index "FifthCard$Rule" "isLaid" "Z") ∈ lw_all) (hdg : decode cc pc = .ok (.getfield index, 3)) (kk : W p l e R s m args below meth c H locs cells slots Q (F0 m (pc + 3) ls (.int (FI u 1703 a) :: rest))) : W p l e R s m args below meth c H locs cells slots Q (F0 m pc ls (.ref a :: rest)) := by
  rcases hk with hk | hk | hk
  · exact g_getI X hw in_X18 (ci := 14) hk rfl 3 rfl (by decide) hlink (fun _ z => z) hdg kk
  · exact g_getI X hw in_X21 (ci := 17) hk rfl 3 rfl (by decide) hlink (fun _ z => z) hdg kk
  · exact g_getI X hw in_X22 (ci := 18) hk rfl 3 rfl (by decide) hlink (fun _ z => z) hdg kk
theorem g_putRu3I (X : Mc G p s m args meth c own cc nL) (hw : GW G u s H locs) (hk : isRu (kd u a)) (hlink : (Cond.fieldLink own index "FifthCard$Rule" "isLaid" "Z") ∈ lw_all) {v : Int32} (hn : narrow .boolean (.int v) = .int v) (hfit : fits .boolean (.int v) = true) (hdg : decode cc pc = .ok (.putfield index, 3)) (kk : ∀ (H1 : Heap) (locs1 : List Loc), GW G (sFI u 1703 a v) s H1 locs1 → W p l e R s m args below meth c H1 locs1 cells slots Q (F0 m (pc + 3) ls rest)) : W p l e R s m args below meth c H locs cells slots Q (F0 m pc ls (.int v :: .ref a :: rest)) := by
  rcases hk with hk | hk | hk
  · exact g_putI X hw in_X18 tyX18_ok nmX18 (ci := 14) hk rfl 3 rfl (by decide) hlink (fun _ z => z) rfl hn hfit hdg kk
  · exact g_putI X hw in_X21 tyX21_ok nmX21 (ci := 17) hk rfl 3 rfl (by decide) hlink (fun _ z => z) rfl hn hfit hdg kk
  · exact g_putI X hw in_X22 tyX22_ok nmX22 (ci := 18) hk rfl 3 rfl (by decide) hlink (fun _ z => z) rfl hn hfit hdg kk
theorem g_putRu1FI (X : Mc G p s m args meth c "FifthCard$Rule" cc nL) (hini : meth.name = "<init>") (hw : GW G u s H locs) (hk : isRu (kd u a)) (hlink : (Cond.fieldLink "FifthCard$Rule" index "FifthCard$Rule" "number" "I") ∈ lw_all) {v : Int32} (hdg : decode cc pc = .ok (.putfield index, 3)) (kk : ∀ (H1 : Heap) (locs1 : List Loc), GW G (sFI u 1701 a v) s H1 locs1 → W p l e R s m args below meth c H1 locs1 cells slots Q (F0 m (pc + 3) ls rest)) : W p l e R s m args below meth c H locs cells slots Q (F0 m pc ls (.int v :: .ref a :: rest)) := by
  rcases hk with hk | hk | hk
  · exact g_putFI X hini hw in_X18 tyX18_ok nmX18 (ci := 14) hk rfl 1 rfl (by decide) hlink (fun _ z => z) rfl rfl rfl rfl hdg kk
  · exact g_putFI X hini hw in_X21 tyX21_ok nmX21 (ci := 17) hk rfl 1 rfl (by decide) hlink (fun _ z => z) rfl rfl rfl rfl hdg kk
  · exact g_putFI X hini hw in_X22 tyX22_ok nmX22 (ci := 18) hk rfl 1 rfl (by decide) hlink (fun _ z => z) rfl rfl rfl rfl hdg kk
theorem g_putRu0FO (X : Mc G p s m args meth c "FifthCard$Rule" cc nL) (hini : meth.name = "<init>") (hw : GW G u s H locs) {v : Option Nat} (hk : isRu (kd u a)) (hlink : (Cond.fieldLink "FifthCard$Rule" index "FifthCard$Rule" "name" "Ljava/lang/String;") ∈ lw_all) (hdg : decode cc pc = .ok (.putfield index, 3)) (kk : ∀ (H1 : Heap) (locs1 : List Loc), GW G (sFR u 1700 a v) s H1 locs1 → W p l e R s m args below meth c H1 locs1 cells slots Q (F0 m (pc + 3) ls rest)) : W p l e R s m args below meth c H locs cells slots Q (F0 m pc ls (va_rf v :: .ref a :: rest)) := by
  rcases hk with hk | hk | hk
  · exact g_putFO X hini hw in_X18 tyX18_ok nmX18 (ci := 14) hk rfl 0 rfl (by decide) hlink (fun _ z => z) rfl rfl (by cases v <;> rfl) (by cases v <;> rfl) hdg kk
  · exact g_putFO X hini hw in_X21 tyX21_ok nmX21 (ci := 17) hk rfl 0 rfl (by decide) hlink (fun _ z => z) rfl rfl (by cases v <;> rfl) (by cases v <;> rfl) hdg kk
  · exact g_putFO X hini hw in_X22 tyX22_ok nmX22 (ci := 18) hk rfl 0 rfl (by decide) hlink (fun _ z => z) rfl rfl (by cases v <;> rfl) (by cases v <;> rfl) hdg kk
theorem g_putRu2FO (X : Mc G p s m args meth c "FifthCard$Rule" cc nL) (hini : meth.name = "<init>") (hw : GW G u s H locs) {v : Option Nat} (hk : isRu (kd u a)) (hlink : (Cond.fieldLink "FifthCard$Rule" index "FifthCard$Rule" "rows" "[I") ∈ lw_all) (hdg : decode cc pc = .ok (.putfield index, 3)) (kk : ∀ (H1 : Heap) (locs1 : List Loc), GW G (sFR u 1702 a v) s H1 locs1 → W p l e R s m args below meth c H1 locs1 cells slots Q (F0 m (pc + 3) ls rest)) : W p l e R s m args below meth c H locs cells slots Q (F0 m pc ls (va_rf v :: .ref a :: rest)) := by
  rcases hk with hk | hk | hk
  · exact g_putFO X hini hw in_X18 tyX18_ok nmX18 (ci := 14) hk rfl 2 rfl (by decide) hlink (fun _ z => z) rfl rfl (by cases v <;> rfl) (by cases v <;> rfl) hdg kk
  · exact g_putFO X hini hw in_X21 tyX21_ok nmX21 (ci := 17) hk rfl 2 rfl (by decide) hlink (fun _ z => z) rfl rfl (by cases v <;> rfl) (by cases v <;> rfl) hdg kk
  · exact g_putFO X hini hw in_X22 tyX22_ok nmX22 (ci := 18) hk rfl 2 rfl (by decide) hlink (fun _ z => z) rfl rfl (by cases v <;> rfl) (by cases v <;> rfl) hdg kk
theorem g_putTh0 (X : Mc G p s m args meth c own cc nL) (hw : GW G u s H locs) {v : Option Nat} (hk : isTh (kd u a)) (hlink : (Cond.fieldLink own index "java/lang/Throwable" "cause" "Ljava/lang/Throwable;") ∈ lw_all) (hdg : decode cc pc = .ok (.putfield index, 3)) (kk : ∀ (H1 : Heap) (locs1 : List Loc), GW G (sFR u 300 a v) s H1 locs1 → W p l e R s m args below meth c H1 locs1 cells slots Q (F0 m (pc + 3) ls rest)) : W p l e R s m args below meth c H locs cells slots Q (F0 m pc ls (va_rf v :: .ref a :: rest)) := by
  rcases hk with hk | hk
  · exact g_putO X hw in_X3 tyX3_ok nmX3 (ci := 2) hk rfl 0 rfl (by decide) hlink (fun _ z => z) rfl (by cases v <;> rfl) (by cases v <;> rfl) hdg kk
  · exact g_putO X hw in_J9 tyJ9_ok nmJ9 (ci := 21) hk rfl 0 rfl (by decide) hlink (fun _ z => z) rfl (by cases v <;> rfl) (by cases v <;> rfl) hdg kk
theorem g_putTh1 (X : Mc G p s m args meth c own cc nL) (hw : GW G u s H locs) {v : Option Nat} (hk : isTh (kd u a)) (hlink : (Cond.fieldLink own index "java/lang/Throwable" "stackTrace" "[Ljava/lang/StackTraceElement;") ∈ lw_all) (hdg : decode cc pc = .ok (.putfield index, 3)) (kk : ∀ (H1 : Heap) (locs1 : List Loc), GW G (sFR u 301 a v) s H1 locs1 → W p l e R s m args below meth c H1 locs1 cells slots Q (F0 m (pc + 3) ls rest)) : W p l e R s m args below meth c H locs cells slots Q (F0 m pc ls (va_rf v :: .ref a :: rest)) := by
  rcases hk with hk | hk
  · exact g_putO X hw in_X3 tyX3_ok nmX3 (ci := 2) hk rfl 1 rfl (by decide) hlink (fun _ z => z) rfl (by cases v <;> rfl) (by cases v <;> rfl) hdg kk
  · exact g_putO X hw in_J9 tyJ9_ok nmJ9 (ci := 21) hk rfl 1 rfl (by decide) hlink (fun _ z => z) rfl (by cases v <;> rfl) (by cases v <;> rfl) hdg kk
theorem g_putTh2 (X : Mc G p s m args meth c own cc nL) (hw : GW G u s H locs) {v : Option Nat} (hk : isTh (kd u a)) (hlink : (Cond.fieldLink own index "java/lang/Throwable" "suppressedExceptions" "Ljava/util/List;") ∈ lw_all) (hdg : decode cc pc = .ok (.putfield index, 3)) (kk : ∀ (H1 : Heap) (locs1 : List Loc), GW G (sFR u 302 a v) s H1 locs1 → W p l e R s m args below meth c H1 locs1 cells slots Q (F0 m (pc + 3) ls rest)) : W p l e R s m args below meth c H locs cells slots Q (F0 m pc ls (va_rf v :: .ref a :: rest)) := by
  rcases hk with hk | hk
  · exact g_putO X hw in_X3 tyX3_ok nmX3 (ci := 2) hk rfl 2 rfl (by decide) hlink (fun _ z => z) rfl (by cases v <;> rfl) (by cases v <;> rfl) hdg kk
  · exact g_putO X hw in_J9 tyJ9_ok nmJ9 (ci := 21) hk rfl 2 rfl (by decide) hlink (fun _ z => z) rfl (by cases v <;> rfl) (by cases v <;> rfl) hdg kk
theorem g_putTh3 (X : Mc G p s m args meth c own cc nL) (hw : GW G u s H locs) {v : Option Nat} (hk : isTh (kd u a)) (hlink : (Cond.fieldLink own index "java/lang/Throwable" "detailMessage" "Ljava/lang/String;") ∈ lw_all) (hdg : decode cc pc = .ok (.putfield index, 3)) (kk : ∀ (H1 : Heap) (locs1 : List Loc), GW G (sFR u 303 a v) s H1 locs1 → W p l e R s m args below meth c H1 locs1 cells slots Q (F0 m (pc + 3) ls rest)) : W p l e R s m args below meth c H locs cells slots Q (F0 m pc ls (va_rf v :: .ref a :: rest)) := by
  rcases hk with hk | hk
  · exact g_putO X hw in_X3 tyX3_ok nmX3 (ci := 2) hk rfl 3 rfl (by decide) hlink (fun _ z => z) rfl (by cases v <;> rfl) (by cases v <;> rfl) hdg kk
  · exact g_putO X hw in_J9 tyJ9_ok nmJ9 (ci := 21) hk rfl 3 rfl (by decide) hlink (fun _ z => z) rfl (by cases v <;> rfl) (by cases v <;> rfl) hdg kk
theorem g_aastRu (X : Mc G p s m args meth c own cc nL) (hw : GW G u s H locs) (hk : kd u a = 106) {i : Int32} (hi : vp_in i (ln u a)) (hkb : isRu (kd u b)) (hdg : decode cc pc = .ok (.aastore, 1)) (kk : ∀ (H1 : Heap) (locs1 : List Loc), GW G (sAR u a (va_up (AR u a) i.toNatClampNeg (some b))) s H1 locs1 → W p l e R s m args below meth c H1 locs1 cells slots Q (F0 m (pc + 1) ls rest)) : W p l e R s m args below meth c H locs cells slots Q (F0 m pc ls (.ref b :: .int i :: .ref a :: rest)) := by
  rcases hkb with h | h | h
  · exact g_aast X hw (Or.inl hk) hi (ci := 14) (r := (RX18, TX18, 10)) h rfl (Or.inr ⟨List.mem_of_getElem? (i := 2) rfl, hk⟩) hdg kk
  · exact g_aast X hw (Or.inl hk) hi (ci := 17) (r := (RX21, TX21, 6)) h rfl (Or.inr ⟨List.mem_of_getElem? (i := 3) rfl, hk⟩) hdg kk
  · exact g_aast X hw (Or.inl hk) hi (ci := 18) (r := (RX22, TX22, 4)) h rfl (Or.inr ⟨List.mem_of_getElem? (i := 4) rfl, hk⟩) hdg kk
theorem g_instTab (X : Mc G p s m args meth c own cc nL) (hw : GW G u s H locs) (hk : isRu (kd u a)) (hl : (Cond.classLink own index "FifthCard$Tabled") ∈ lw_all) (hdg : decode cc pc = .ok (.instanceof index, 3)) (kk : W p l e R s m args below meth c H locs cells slots Q (F0 m (pc + 3) ls (.int (jtab (kd u a)) :: rest))) : W p l e R s m args below meth c H locs cells slots Q (F0 m pc ls (.ref a :: rest)) := by
  rcases hk with hk | hk | hk
  · rw [hk] at kk
    exact va_instNo X.1 X.2.1 X.2.2.2.1 (X.2.2.2.2.1 _ hl) (X.2.2.2.2.2.2.1.2.2.2.2.1 ("FifthCard$Spoken", "FifthCard$Tabled") (List.mem_of_getElem? (i := 0) rfl)) (g_recv X hw (ci := 14) (q := (RX18, TX18, 10)) hk rfl) hdg kk
  · rw [hk] at kk
    exact va_instNo X.1 X.2.1 X.2.2.2.1 (X.2.2.2.2.1 _ hl) (X.2.2.2.2.2.2.1.2.2.2.2.1 ("FifthCard$Suited", "FifthCard$Tabled") (List.mem_of_getElem? (i := 1) rfl)) (g_recv X hw (ci := 17) (q := (RX21, TX21, 6)) hk rfl) hdg kk
  · rw [hk] at kk
    exact va_instE X.1 X.2.1 X.2.2.2.1 (X.2.2.2.2.1 _ hl) (g_recv X hw (ci := 18) (q := (RX22, TX22, 4)) hk rfl) hdg kk
theorem g_acmp_ne (hx : p.tables.exec = Jvm.exec) (hb : c.code = cc) {off : Int} {tgt : Nat} (hdg : decode cc pc = .ok (.if_acmp .ne off, 3)) (ht : (pc : Int) + off = (tgt : Int)) (kt : ¬ a = b → W p l e R s m args below meth c H locs cells slots Q (F0 m tgt ls rest)) (kf : a = b → W p l e R s m args below meth c H locs cells slots Q (F0 m (pc + 3) ls rest)) : W p l e R s m args below meth c H locs cells slots Q (F0 m pc ls (.ref b :: .ref a :: rest)) :=
  lv_acmp_ne (rx := some a) (ry := some b) hx hb hdg ht (fun h => kt (fun z => h (by rw [z]))) (fun h => kf (Option.some.inj h))
theorem g_aload_nO (hx : p.tables.exec = Jvm.exec) (hb : c.code = cc) {k : Fin 4} {i : Nat} {o : Option Nat} (hdg : decode cc pc = .ok (.aload_n k, 1)) (hi : (k : Nat) = i) (hl : ls[i]? = some (.val (va_rf o))) (kk : W p l e R s m args below meth c H locs cells slots Q (F0 m (pc + 1) ls (va_rf o :: rest))) : W p l e R s m args below meth c H locs cells slots Q (F0 m pc ls rest) := by
  cases o with
  | none => exact lv_aload_nN hx hb hdg hi hl kk
  | some q => exact lv_aload_n hx hb hdg hi hl kk
theorem g_aloadO (hx : p.tables.exec = Jvm.exec) (hb : c.code = cc) {i : Nat} {o : Option Nat} (hdg : decode cc pc = .ok (.aload i, 2)) (hl : ls[i]? = some (.val (va_rf o))) (kk : W p l e R s m args below meth c H locs cells slots Q (F0 m (pc + 2) ls (va_rf o :: rest))) : W p l e R s m args below meth c H locs cells slots Q (F0 m pc ls rest) := by
  cases o with
  | none => exact lv_aloadN hx hb hdg hl kk
  | some q => exact lv_aload hx hb hdg hl kk
theorem g_popO (hx : p.tables.exec = Jvm.exec) (hb : c.code = cc) {o : Option Nat} (hdg : decode cc pc = .ok (.pop, 1)) (kk : W p l e R s m args below meth c H locs cells slots Q (F0 m (pc + 1) ls rest)) : W p l e R s m args below meth c H locs cells slots Q (F0 m pc ls (va_rf o :: rest)) := by
  cases o with
  | none => exact lv_pop hx hb hdg rfl kk
  | some q => exact lv_pop hx hb hdg rfl kk
theorem g_min (X : Mc G p s m args meth c own cc nL) (hsz : ls.size = nL) (hlink : (Cond.methodLink own index Lib.Math.min.name) ∈ lw_all) (hstat : (Cond.static Lib.Math.min.name) ∈ lw_all) (hini : (Cond.initialized "java/lang/Math") ∈ lw_all) (hcode : (Cond.code Lib.Math.min.name Lib.Math.min.code 2 (some .int)) ∈ lw_all) (hframes : 1 ≤ R.frames) (hlocals : (rest.map fun v => v.category).sum + 13 ≤ R.locals) (hc : cells ≤ R.cells) (hs : slots ≤ R.slots) {x y : Int32} (hdg : decode cc pc = .ok (.invokestatic index, 3)) (kk : W p l e R s m args below meth c H locs cells slots Q (F0 m (pc + 3) ls (.int (jmin x y) :: rest))) : W p l e R s m args below meth c H locs cells slots Q (F0 m pc ls (.int y :: .int x :: rest)) :=
  va_mmin X.1 X.2.1 (X.2.2.1.trans hsz.symm) X.2.2.2.1 (X.2.2.2.2.1 _ hlink) (X.2.2.2.2.1 _ hstat) (X.2.2.2.2.1 _ hini) (X.2.2.2.2.1 _ hcode) hframes hlocals hc hs hdg kk
theorem g_copyi (X : Mc G p s m args meth c own cc nL) (hsz : ls.size = nL) (hw : GW G u s H locs) (hlink : (Cond.methodLink own index arraycopyName) ∈ lw_all) (hnat : (Cond.native arraycopyName) ∈ lw_all) (hstat : (Cond.static arraycopyName) ∈ lw_all) (hini : (Cond.initialized "java/lang/System") ∈ lw_all) (hka : kd u b = 101) (hkb : kd u a = 101) {sp dp n : Int32} (h : ¬ sp < 0 ∧ ¬ dp < 0 ∧ ¬ n < 0 ∧ tn sp + tn n ≤ ln u b ∧ tn dp + tn n ≤ ln u a) (hframes : 1 ≤ R.frames) (hlocals : (rest.map fun v => v.category).sum + (nativeFrameWords "java/lang/System" "arraycopy" 5 + 11) ≤ R.locals) (hdg : decode cc pc = .ok (.invokestatic index, 3)) (kk : ∀ (H1 : Heap) (locs1 : List Loc), GW G (sAI u a (va_cpy (AI u b) (AI u a) (tn sp) (tn dp) (tn n))) s H1 locs1 → W p l e R s m args below meth c H1 locs1 cells slots Q (F0 m (pc + 3) ls rest)) : W p l e R s m args below meth c H locs cells slots Q (F0 m pc ls (.int n :: .int dp :: .ref a :: .int sp :: .ref b :: rest)) := by
  obtain ⟨h1, h2, h3, h4, h5⟩ := h
  obtain ⟨⟨ws, hP, hD, hL⟩, hS⟩ := hw
  rcases hL a (by omega) with ⟨-, k0, h0⟩ | ⟨h9, -⟩
  · rcases hL b (by omega) with ⟨-, kb, hb⟩ | ⟨h9, -⟩
    · rw [cellOf_I hkb (by decide) (by decide) (by decide) (by decide)] at h0
      rw [cellOf_I hka (by decide) (by decide) (by decide) (by decide)] at hb
      exact va_copyi X.1 X.2.1 (X.2.2.1.trans hsz.symm) X.2.2.2.1 (X.2.2.2.2.1 _ hlink) (X.2.2.2.2.1 _ hnat) (X.2.2.2.2.1 _ hstat) (X.2.2.2.2.1 _ hini) X.2.2.2.2.2.2.1.1 hP hD hS kb k0 0 0 hb h0 rfl rfl rfl h1 h2 h3 h4 h5 (fun _ _ => rfl) hframes hlocals hdg (fun H1 locs1 q1 q2 q3 => kk H1 locs1 ⟨⟨_, q1, q2, GL_set hL h0 (hD.one h0) (by omega) (cell_sAI hkb (by decide) (by decide) (by decide) (by decide)) rfl (fun _ => agr_sAI)⟩, q3⟩)
    · omega
  · omega
theorem g_O (X : Mc G p s m args meth c own cc nL) (hw : GW G u s H locs) (hM : Met l y (ws_ y bytes maxL ret) rm (va_Pc (.ref b :: As) (GB G u)) Qc mc ms (GA G)) (n : Nat) (h1 : Cond.methodLink own index x ∈ lw_all) (h2 : Cond.sameMethod x.cls x.cls x.name x.desc ∈ lw_all) (hz : x ∈ declG) (h3 : Cond.selects C x y ∈ lw_all) (h4 : Cond.instanceMethod y ∈ lw_all) (h5 : Cond.initialized y.cls ∈ lw_all) (h6 : Cond.code y bytes maxL ret ∈ lw_all) (hrc : rm.cells = mc) (hrs : rm.slots = ms) (hd : x.cls ≠ "java/lang/invoke/MethodHandle" ∧ x.cls ≠ "java/lang/invoke/VarHandle" ∧ (parseMethodDescriptor x.desc).map (fun d => d.parameters.length) = some n) (hR : rm.frames + 1 ≤ R.frames ∧ 8 + (maxL + 11) + rm.locals ≤ R.locals)
    (hrv : ∃ cell : Cell, H[b]? = some cell ∧ cell.vm.isStatics = false ∧ s.vm.findClass C = some cell.cls) (hn : As.length = n) (hsz : ls.size = nL) (hst : st = As.reverse ++ .ref b :: rest) (hro : (rest.map fun v => v.category).sum ≤ 8) (hdg : decode cc pc = .ok (.invokevirtual index, 3)) (hf : cells + mc ≤ R.cells ∧ slots + ms ≤ R.slots) : va_Run p l e R s m args below meth c H locs cells slots mc ms (F0 m pc ls st) rest (Qc (Value.ref b :: As).toArray) (GA G) := by
  have hws : ∀ w ∈ ([.methodLink own index x, .sameMethod x.cls x.cls x.name x.desc, .selects C x y, .instanceMethod y, .initialized y.cls] : List Cond), w ∈ lw_all := by
    intro w hw
    rcases List.mem_cons.mp hw with rfl | hw
    · exact h1
    rcases List.mem_cons.mp hw with rfl | hw
    · exact h2
    rcases List.mem_cons.mp hw with rfl | hw
    · exact h3
    rcases List.mem_cons.mp hw with rfl | hw
    · exact h4
    rcases List.mem_cons.mp hw with rfl | hw
    · exact h5
    · cases hw
  have hG : GoodIn lw_all (va_wsU own index C x.cls x y (ws_ y bytes maxL ret)) := by
    unfold va_wsU
    exact lw_app hws (lw_meth h6)
  exact va_runU ⟨X.1, X.2.1, X.2.2.1, X.2.2.2.1, X.2.2.2.2.1⟩ hM (va_cwA n X.2.2.2.2.1 hG rfl hrc hrs (X.2.2.2.2.2.2.1.2.2.2.2.2.1.2.2 x hz) hd hR) ⟨GB.blind, hrv, g_pre X hw⟩ rfl hn hsz hst (lv_room hro) hdg hf

theorem g_castB (X : Mc G p s m args meth c own cc nL) (hw : GW G u s H locs) (hk : kd u a = 102) (hlink : (Cond.classLink own index "[B") ∈ lw_all) (hdg : decode cc pc = .ok (.checkcast index, 3)) (kk : W p l e R s m args below meth c H locs cells slots Q (F0 m (pc + 3) ls (.ref a :: rest))) : W p l e R s m args below meth c H locs cells slots Q (F0 m pc ls (.ref a :: rest)) := by
  obtain ⟨ws, k0, hP, hD, hL, h0⟩ := GH.at (u := u) (a := a) (by omega) (by omega) hw.1
  rw [cellOf_I hk (by decide) (by decide) (by decide) (by decide)] at h0
  exact va_castA X.1 X.2.1 X.2.2.2.1 (X.2.2.2.2.1 _ hlink) hP k0 h0 (X.2.2.2.2.2.2.1.1.2 1 _ rfl).2 hdg kk
theorem yxG0 : (⟨"FifthCard$Rule", "lay", "([ILFifthCard$Trick;)I"⟩ : MethodName).cls ≠ "java/lang/invoke/MethodHandle" ∧ (⟨"FifthCard$Rule", "lay", "([ILFifthCard$Trick;)I"⟩ : MethodName).cls ≠ "java/lang/invoke/VarHandle" ∧ (parseMethodDescriptor (⟨"FifthCard$Rule", "lay", "([ILFifthCard$Trick;)I"⟩ : MethodName).desc).map (fun d => d.parameters.length) = some 2 := by decide +kernel
theorem yxG1 : (⟨"FifthCard$Keep", "index", "([ILFifthCard$Trick;)I"⟩ : MethodName).cls ≠ "java/lang/invoke/MethodHandle" ∧ (⟨"FifthCard$Keep", "index", "([ILFifthCard$Trick;)I"⟩ : MethodName).cls ≠ "java/lang/invoke/VarHandle" ∧ (parseMethodDescriptor (⟨"FifthCard$Keep", "index", "([ILFifthCard$Trick;)I"⟩ : MethodName).desc).map (fun d => d.parameters.length) = some 2 := by decide +kernel
theorem yxG2 : (⟨"FifthCard$Tell", "of", "(IIILFifthCard$Trick;)I"⟩ : MethodName).cls ≠ "java/lang/invoke/MethodHandle" ∧ (⟨"FifthCard$Tell", "of", "(IIILFifthCard$Trick;)I"⟩ : MethodName).cls ≠ "java/lang/invoke/VarHandle" ∧ (parseMethodDescriptor (⟨"FifthCard$Tell", "of", "(IIILFifthCard$Trick;)I"⟩ : MethodName).desc).map (fun d => d.parameters.length) = some 4 := by decide +kernel
theorem yxG3 : (⟨"FifthCard$Rule", "words", "()I"⟩ : MethodName).cls ≠ "java/lang/invoke/MethodHandle" ∧ (⟨"FifthCard$Rule", "words", "()I"⟩ : MethodName).cls ≠ "java/lang/invoke/VarHandle" ∧ (parseMethodDescriptor (⟨"FifthCard$Rule", "words", "()I"⟩ : MethodName).desc).map (fun d => d.parameters.length) = some 0 := by decide +kernel
theorem g_getSc (X : Mc G p s m args meth c own cc nL) (hw : GW G u s H locs) (hk : kd u a = 21 ∨ kd u a = 201) (hlink : (Cond.fieldLink own index "java/lang/String" "coder" "B") ∈ lw_all) (hdg : decode cc pc = .ok (.getfield index, 3)) (kk : W p l e R s m args below meth c H locs cells slots Q (F0 m (pc + 3) ls (.int (FI u 2401 a) :: rest))) : W p l e R s m args below meth c H locs cells slots Q (F0 m pc ls (.ref a :: rest)) := by
  rcases hk with hk | hk
  · exact g_getI X hw in_J3 (ci := 20) hk rfl 1 rfl (by decide) hlink (fun _ z => z) hdg kk
  · obtain ⟨⟨ws, hP, hD, hL⟩, hS⟩ := hw
    rcases hL a (by omega) with ⟨h2, -⟩ | ⟨h1, h7, h2, h3, h4, -⟩
    · omega
    · have hk1 : kd (Gf G) a = 201 := by omega
      have hF := (X.2.2.2.2.2.2.1.2.2.2.2.2.2.2.2.2.1 a).1 hk1
      rw [h4] at kk
      exact vk_getf X.1 X.2.1 hF.2.2 hS X.2.2.2.1 (X.2.2.2.2.1 _ hlink) (fun _ z => z) hdg kk
theorem g_getSv (X : Mc G p s m args meth c own cc nL) (hw : GW G u s H locs) (hk : kd u a = 21 ∨ kd u a = 201) (hlink : (Cond.fieldLink own index "java/lang/String" "value" "[B") ∈ lw_all) (hb : FR u 2400 a = some b) (hdg : decode cc pc = .ok (.getfield index, 3)) (kk : W p l e R s m args below meth c H locs cells slots Q (F0 m (pc + 3) ls (.ref b :: rest))) : W p l e R s m args below meth c H locs cells slots Q (F0 m pc ls (.ref a :: rest)) := by
  rcases hk with hk | hk
  · exact g_getR X hw in_J3 (ci := 20) hk rfl 0 rfl (by decide) hlink (fun _ z => z) hb hdg kk
  · obtain ⟨⟨ws, hP, hD, hL⟩, hS⟩ := hw
    rcases hL a (by omega) with ⟨h2, -⟩ | ⟨h1, h7, h2, h3, h4, -⟩
    · omega
    · have hk1 : kd (Gf G) a = 201 := by omega
      have hF := (X.2.2.2.2.2.2.1.2.2.2.2.2.2.2.2.2.1 a).1 hk1
      rw [h3] at hb
      refine vk_getf X.1 X.2.1 hF.2.1 hS X.2.2.2.1 (X.2.2.2.2.1 _ hlink) (fun _ z => z) hdg ?_
      rw [hb]
      exact kk
end GM
