/-! THE START: what is frozen, and what the tables say (own work) -/
theorem z_nl {x y : Cond} {args : Array Value} {s : State} (h : (Cond.and x y).before args s = true) : x.before args s = true := by
  rw [Cond.before_and, Bool.and_eq_true] at h
  exact h.1
theorem z_nr {x y : Cond} {args : Array Value} {s : State} (h : (Cond.and x y).before args s = true) : y.before args s = true := by
  rw [Cond.before_and, Bool.and_eq_true] at h
  exact h.2
theorem z_toI {n m : Nat} (hn : n < 2 ^ 31) (hm : m < 2 ^ 31) (h : Int32.ofNat n = Int32.ofNat m) : n = m := by
  have h1 := congrArg Int32.toInt h
  rw [Int32.toInt_ofNat_of_lt hn, Int32.toInt_ofNat_of_lt hm] at h1
  exact Int.ofNat.inj h1
theorem z_OF {o n d : String} {v w : Value} {a : Nat} {A : Nat → Prop} {U : State} {H : Heap} (h1 : va_OF o n d v a A U H) (h2 : va_OF o n d w a A U H) : v = w := by
  obtain ⟨cf, k, i, f, cell, a1, a2, a3, a4, a5, -⟩ := h1
  obtain ⟨cf', k', i', f', cell', b1, b2, b3, b4, b5, -⟩ := h2
  cases Option.some.inj (a1.symm.trans b1)
  cases Option.some.inj (a3.symm.trans b3)
  exact Option.some.inj (a5.symm.trans b5)
theorem z_Tn {ty : FieldType} {t n m : Nat} {f g : Nat → Value} {A : Nat → Prop} {U : State} {H : Heap} (h1 : va_T ty t n f A U H) (h2 : va_T ty t m g A U H) (hn : n < 2 ^ 31) (hm : m < 2 ^ 31) : n = m ∧ ∀ j, j < n → f j = g j := by
  obtain ⟨c, a1, -, -, -, a5, a6, -⟩ := h1
  obtain ⟨c', b1, -, -, -, b5, b6, -⟩ := h2
  cases Option.some.inj (a1.symm.trans b1)
  have e := z_toI hn hm (a5.symm.trans b5)
  subst e
  exact ⟨rfl, fun j hj => Option.some.inj ((a6 j hj).symm.trans (b6 j hj))⟩
theorem z_Tty {ty ty' : FieldType} {t n m : Nat} {f g : Nat → Value} {A : Nat → Prop} {U : State} {H : Heap} (h1 : va_T ty t n f A U H) (h2 : va_T ty' t m g A U H) : ty = ty' := by
  obtain ⟨c, a1, a2, -⟩ := h1
  obtain ⟨c', b1, b2, -⟩ := h2
  cases Option.some.inj (a1.symm.trans b1)
  obtain ⟨-, k, e1, comp, e2⟩ := a2
  obtain ⟨-, k', e1', comp', e2'⟩ := b2
  cases Option.some.inj (e1.symm.trans e1')
  have e := e2.symm.trans e2'
  cases e
  rfl
theorem z_TO {ty : FieldType} {t n : Nat} {f : Nat → Value} {A : Nat → Prop} {U : State} {H : Heap} {E : String} {args : Array Value} {k : Nat} (h1 : va_T ty t n f A U H) (h2 : va_O E t A U H) (hi : (Cond.instantiable E k).before args U = true) : False := by
  obtain ⟨c, a1, a2, -⟩ := h1
  obtain ⟨c', b1, -, b3, -⟩ := h2
  cases Option.some.inj (a1.symm.trans b1)
  obtain ⟨-, k1, e1, comp, e2⟩ := a2
  obtain ⟨c2, k2, f1, f2, f3, -⟩ := Cond.instantiable_spec hi
  cases Option.some.inj (b3.symm.trans f1)
  cases Option.some.inj (e1.symm.trans f2)
  rw [e2] at f3
  cases f3
def litOK (u : Hp) (a : Nat) (bs : List Int32) : Prop := kd u a = 201 ∧ FI u 2401 a = 0 ∧ ∃ v : Nat, FR u 2400 a = some v ∧ kd u v = 202 ∧ ln u v = bs.length ∧ ∀ j, j < bs.length → AI u v j = bs.getD j 0
/-- one literal, as its words have it -/
def litAt (args : Array Value) (own : String) (k : Nat) (bs : List Int32) (a v : Nat) (A : Nat → Prop) (s : State) : Prop := (Term.string own k).eval args s none [] s = some (.ref a) ∧ va_O "java/lang/String" a A s s.heap ∧ va_OF "java/lang/String" "coder" "B" (.int 0) a A s s.heap ∧ va_OF "java/lang/String" "value" "[B" (.ref v) a A s s.heap ∧ va_T .byte v bs.length (fun j => .int (bs.getD j 0)) A s s.heap
theorem z_lit {args : Array Value} {s : State} {own : String} {k : Nat} (bs : List Int32) {A : Nat → Prop} (hn : bs.length < 2 ^ 31) (ex : (Cond.exactly (.string own k) "java/lang/String").before args s = true) (co : (Cond.eq (.field (.string own k) "java/lang/String" "coder" "B") (.int 0)).before args s = true)
    (ar : (Cond.arrayOf (.field (.string own k) "java/lang/String" "value" "[B") .byte).before args s = true) (le : (Cond.eq (.length (.field (.string own k) "java/lang/String" "value" "[B")) (.int (Int32.ofNat bs.length))).before args s = true)
    (el : ∀ j : Nat, j < bs.length → (Cond.eq (.elem (.field (.string own k) "java/lang/String" "value" "[B") (.int (Int32.ofNat j))) (.int (bs.getD j 0))).before args s = true) (hA : ∀ a : Nat, a < s.heap.size → ¬ A a) : ∃ a v : Nat, litAt args own k bs a v A s := by
  obtain ⟨adK, adV, h1, h2⟩ := vk_Sof (args := args) (s := s) (N := 1) (tm := fun _ => .string own k) (len := [bs.length]) (byt := [bs]) (A := A) (fun i hi => by cases i with | zero => exact hn | succ i => omega) (fun i hi => ex) (fun i hi => co) (fun i hi => ar)
    (fun i hi => by cases i with | zero => exact le | succ i => omega) (fun i hi j hj => by cases i with | zero => exact el j hj | succ i => omega) (fun i j hi hj hne => absurd (by omega) hne) hA
  obtain ⟨g1, g2, g3, g4⟩ := h1.1 0 (by omega)
  exact ⟨adK 0, adV 0, h2 0 (by omega), g1, g2, g3, g4⟩
/-- the frozen picture -/
def z_hp (b L : Nat) (xs : Nat → Int32) (lb : List (List Int32)) (lit val : Nat → Nat) (i1 i2 : Nat → Nat) : Hp :=
  (fun a => if a = b then 203 else if i1 a < lb.length then 201 else if i2 a < lb.length then 202 else 0, fun a => if a = b then L else (lb.getD (i2 a) []).length, fun _ _ => 0, fun n a => if n = 2400 then some (val (i1 a)) else none, fun _ _ => 0, fun a => if a = b then xs else fun j => (lb.getD (i2 a) []).getD j 0, fun _ _ => 0, fun _ _ => none)
theorem z_idx (lit : Nat → Nat) (n : Nat) : ∃ i : Nat → Nat, (∀ j, j < n → i (lit j) < n ∧ lit (i (lit j)) = lit j) ∧ ∀ a, i a < n → lit (i a) = a := by
  have h : ∀ a : Nat, ∃ i : Nat, (∀ j, j < n → lit j = a → i < n ∧ lit i = a) ∧ (i < n → lit i = a) := by
    intro a
    by_cases h : ∃ j, j < n ∧ lit j = a
    · obtain ⟨j, h1, h2⟩ := h
      exact ⟨j, fun _ _ _ => ⟨h1, h2⟩, fun _ => h2⟩
    · exact ⟨n, fun j hj e => absurd ⟨j, hj, e⟩ h, fun z => absurd z (Nat.lt_irrefl _)⟩
  obtain ⟨i, hi⟩ := Classical.axiomOfChoice h
  exact ⟨i, fun j hj => (hi (lit j)).1 j hj rfl, fun a ha => (hi a).2 ha⟩
theorem z_frz {args : Array Value} {s : State} {A : Nat → Prop} {b L : Nat} {xs : Nat → Int32} {lb : List (List Int32)} {own : Nat → String} {ky : Nat → Nat} {lit val : Nat → Nat} {k : Nat}
    (hA : ∀ a : Nat, a < s.heap.size → ¬ A a) (hi : (Cond.instantiable "java/lang/String" k).before args s = true) (hX : va_X b L xs s s.heap) (hL : L < 2 ^ 31) (hlen : ∀ j, j < lb.length → (lb.getD j []).length < 2 ^ 31) (hl : ∀ j, j < lb.length → litAt args (own j) (ky j) (lb.getD j []) (lit j) (val j) A s) :
    ∃ f : Hp, (∀ a : Nat, (kd f a = 201 → va_O "java/lang/String" a A s s.heap ∧ va_OF "java/lang/String" "value" "[B" (va_rf (FR f 2400 a)) a A s s.heap ∧ va_OF "java/lang/String" "coder" "B" (.int (FI f 2401 a)) a A s s.heap) ∧
      (kd f a = 202 → va_T .byte a (ln f a) (fun j => .int (AI f a j)) A s s.heap) ∧ (kd f a = 203 → va_T .int a (ln f a) (fun j => .int (AI f a j)) A s s.heap)) ∧
      kd f b = 203 ∧ ln f b = L ∧ (∀ j, AI f b j = xs j) ∧ (∀ a, kd f a = 0 ∨ 200 < kd f a ∧ a < s.heap.size) ∧ ∀ j, j < lb.length → litOK f (lit j) (lb.getD j []) := by
  obtain ⟨scr, x1, x2, x3, x4, x5⟩ := hX
  have hb : b < s.heap.size := (Array.getElem?_eq_some_iff.mp x1).1
  have hTb : va_T .int b L (fun j => .int (xs j)) A s s.heap := ⟨scr, x1, x2, x3, by omega, by rw [x4]; rfl, x5, hA b hb⟩
  obtain ⟨i1, p1, p2⟩ := z_idx lit lb.length
  obtain ⟨i2, q1, q2⟩ := z_idx val lb.length
  have ne1 : ∀ j, j < lb.length → lit j ≠ b := fun j hj e => z_TO hTb (e ▸ (hl j hj).2.1) hi
  have ne2 : ∀ j, j < lb.length → val j ≠ b := fun j hj e => by
    have := z_Tty hTb (e ▸ (hl j hj).2.2.2.2)
    cases this
  have ne3 : ∀ i j, i < lb.length → j < lb.length → lit i ≠ val j := fun i j hi' hj e => z_TO (hl j hj).2.2.2.2 (e ▸ (hl i hi').2.1) hi
  have nv : ∀ a, i2 a < lb.length → a ≠ b := fun a ha e => ne2 _ ha ((q2 a ha).trans e)
  refine ⟨z_hp b L xs lb lit val i1 i2, fun a => ⟨fun h => ?_, fun h => ?_, fun h => ?_⟩, if_pos rfl, if_pos rfl, fun j => congrFun (if_pos rfl) j, fun a => ?_, fun j hj => ?_⟩
  · change (if a = b then 203 else if i1 a < lb.length then 201 else if i2 a < lb.length then 202 else 0) = 201 at h
    have h1 : i1 a < lb.length := by
      split at h
      · omega
      · split at h
        · assumption
        · split at h <;> omega
    have e := p2 a h1
    obtain ⟨-, g1, g2, g3, -⟩ := hl (i1 a) h1
    rw [e] at g1 g2 g3
    exact ⟨g1, g3, g2⟩
  · change (if a = b then 203 else if i1 a < lb.length then 201 else if i2 a < lb.length then 202 else 0) = 202 at h
    have h1 : i2 a < lb.length := by
      split at h
      · omega
      · split at h
        · omega
        · split at h
          · assumption
          · omega
    have e := q2 a h1
    obtain ⟨-, -, -, -, g4⟩ := hl (i2 a) h1
    rw [e] at g4
    have e1 : ln (z_hp b L xs lb lit val i1 i2) a = (lb.getD (i2 a) []).length := if_neg (nv a h1)
    have e2 : AI (z_hp b L xs lb lit val i1 i2) a = fun j => (lb.getD (i2 a) []).getD j 0 := if_neg (nv a h1)
    rw [e1, e2]
    exact g4
  · change (if a = b then 203 else if i1 a < lb.length then 201 else if i2 a < lb.length then 202 else 0) = 203 at h
    have h1 : a = b := by
      split at h
      · assumption
      · split at h
        · omega
        · split at h <;> omega
    subst h1
    have e1 : ln (z_hp a L xs lb lit val i1 i2) a = L := if_pos rfl
    have e2 : AI (z_hp a L xs lb lit val i1 i2) a = xs := if_pos rfl
    rw [e1, e2]
    exact hTb
  · change (if a = b then 203 else if i1 a < lb.length then 201 else if i2 a < lb.length then 202 else 0) = 0 ∨ 200 < (if a = b then 203 else if i1 a < lb.length then 201 else if i2 a < lb.length then 202 else 0) ∧ a < s.heap.size
    split
    · next e => exact Or.inr ⟨by omega, e ▸ hb⟩
    · split
      · next e =>
        obtain ⟨cell, g1, -⟩ := (hl _ e).2.1
        rw [p2 a e] at g1
        exact Or.inr ⟨by omega, (Array.getElem?_eq_some_iff.mp g1).1⟩
      · split
        · next e =>
          obtain ⟨cell, g1, -⟩ := (hl _ e).2.2.2.2
          rw [q2 a e] at g1
          exact Or.inr ⟨by omega, (Array.getElem?_eq_some_iff.mp g1).1⟩
        · exact Or.inl rfl
  · obtain ⟨z1, z2⟩ := p1 j hj
    have hv : val (i1 (lit j)) = val j := by
      have h1 := (hl _ z1).2.2.2.1
      rw [z2] at h1
      have h2 := z_OF h1 (hl j hj).2.2.2.1
      exact Value.ref.inj h2
    obtain ⟨y1, y2⟩ := q1 j hj
    have hT := (hl _ y1).2.2.2.2
    rw [y2] at hT
    obtain ⟨t1, t2⟩ := z_Tn hT (hl j hj).2.2.2.2 (hlen _ y1) (hlen j hj)
    refine ⟨?_, rfl, val j, ?_, ?_, ?_, ?_⟩
    · show (if lit j = b then 203 else if i1 (lit j) < lb.length then 201 else _) = 201
      rw [if_neg (ne1 j hj), if_pos z1]
    · show (if 2400 = 2400 then some (val (i1 (lit j))) else none) = some (val j)
      rw [if_pos rfl, hv]
    · show (if val j = b then 203 else if i1 (val j) < lb.length then 201 else if i2 (val j) < lb.length then 202 else 0) = 202
      rw [if_neg (ne2 j hj), if_neg (fun e => ne3 _ j e hj (p2 _ e)), if_pos y1]
    · show (if val j = b then L else (lb.getD (i2 (val j)) []).length) = _
      rw [if_neg (ne2 j hj)]
      exact t1
    · intro i hi'
      have e2 : AI (z_hp b L xs lb lit val i1 i2) (val j) = fun m => (lb.getD (i2 (val j)) []).getD m 0 := if_neg (ne2 j hj)
      rw [e2]
      exact Value.int.inj (t2 i (by rw [t1]; exact hi'))
