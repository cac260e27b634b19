/-! FROM THE LAW'S ENTRY TO THE PURE GOAL (own work) -/
/-- what the start's picture is: the script and the literals, all frozen; nothing else -/
def startOK (L0 : Nat → Nat) (u : Hp) (b L : Nat) (xs : Nat → Int32) : Prop := L ≤ 384 ∧ kd u b = 203 ∧ ln u b = L ∧ (∀ j, AI u b j = xs j) ∧ (∀ a, kd u a = 0 ∨ 200 < kd u a) ∧ ∀ j, j < litB.length → litOK u (L0 j) (litB.getD j [])
/-- the one thing that is owed in plain Lean -/
def pureGoal : Prop := ∀ (L0 : Nat → Nat) (u : Hp) (b L : Nat) (xs : Nat → Int32), startOK L0 u b L xs → bL_law_0 (fun r _ => r = 1) L0 b u 1200128 5501098
theorem z_fe {s t : State} {o : Outcome} {L : List Loc} {k n : Nat} (h : FrameEnd s o t L k n) (hL : ∀ q ∈ L, s.heap.size ≤ q.base) : FrameEnd s o t [] k n := by
  obtain ⟨h1, h2, e1, e2, e3, e4, e5, e6⟩ := h
  refine ⟨h1, h2, e1, e2, e3, e4, e5, fun a c hc => ?_⟩
  obtain ⟨c', f1, f2, f3, f4⟩ := e6 a c hc
  refine ⟨c', f1, f2, f3, fun i _ => f4 i fun hm => ?_⟩
  have h7 := hL _ hm
  have h8 := (Array.getElem?_eq_some_iff.mp hc).1
  exact absurd h8 (Nat.not_lt.mpr h7)
theorem z_entry {p : Program} {l : Launch} {e : Env} {s : State} {m : MethodId} {below : List Frame} {meth : Method} {c : Code} (hnt : l.stackTraces = false) {b L : Nat} {xs : Nat → Int32} (hL : L ≤ 384) (goal : pureGoal)
    (hx : p.tables.exec = Jvm.exec) (hb : c.code = code) (hr : meth.sig.returnType = some .boolean) (hml : c.maxLocals = 7) (hown : s.vm.findClass RX0 = some m.cls) (hts : ∀ w ∈ lw_tbl, w.before #[Value.ref b] s = true) (hX : va_X b L xs s s.heap) (hlk : meth.locks = false) (hn : narrow_1.before #[Value.ref b] s = true) :
    W p l e (rmL_law 1200128 5501098) s m #[Value.ref b] below meth c s.heap [] 0 0 (fun t => ∃ o, t.status = .running ∧ Ended t below o ∧ o = .returned (some (.int 1)) ∧ FrameEnd s o t [] 1200128 5501098) (entryFrame m #[Value.ref b] 7) := by
  obtain ⟨G, g0, gK, g1, g2, g3, g4, g5⟩ := z_start hts hn hX hL
  have X : Mc G p s m #[Value.ref b] meth c RX0 code 7 := ⟨hx, hb, hml, hown, fun w h => hts w (lw_all_tbl h), hlk, gK, Nat.le_of_eq g0⟩
  have hw : GW G (Gf G) s s.heap [] := by
    refine ⟨⟨[], fun k q h => by cases h, ⟨fun i j p q h => by cases h, fun k q h => by cases h⟩, fun a ha => ?_⟩, va_S.rf⟩
    rcases g4 a with h | ⟨h, h2⟩
    · exact absurd h ha
    · exact Or.inr ⟨h, fun z => absurd h2 (Nat.not_lt.mpr (g0 ▸ z)), rfl, fun _ => rfl, fun _ => rfl, rfl, rfl⟩
  have h : bL_law_0 (fun r _ => r = 1) (Glit G) b (Gf G) 1200128 5501098 := goal _ _ _ L xs ⟨hL, g1, g2, g3, fun a => (g4 a).imp id (·.1), g5⟩
  have hl := lv_entry ([.ref b]) (n := 7) (Nat.le_of_ble_eq_true rfl)
  rw [lg_entry_eq]
  generalize (lg_sl ([.ref b]) ++ List.replicate (7 - (lg_sl ([.ref b])).length) Slot.unset).toArray = ls at hl ⊢
  have hl : lv_has ls 7 [(0, .ref b)] := hl
  have key := wL_law_0 (MC := 1200128) (MS := 5501098) X hr hnt (Nat.le_of_eq (Nat.zero_add _)) (Nat.le_of_eq (Nat.zero_add _)) h hw hl
  intro T hT XX
  obtain ⟨t, a1, o, q1, q2, ⟨⟨r, u, e1, e2, -⟩, -⟩, L9, q4, q5⟩ := key T hT XX
  subst e2
  exact ⟨t, a1, o, q1, q2, e1, z_fe q4 fun q hq => by have := q5 q hq; unfold GA at this; rw [g0] at this; exact this⟩
