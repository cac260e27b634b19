/-! THE ROW 'throw new NoSuchElementException()' (printed by tools/mkthrow.py) -/
set_option maxRecDepth 100000
theorem g_fc {P : Cond → Prop} {w : Cond} {B L : List Cond} (e : L = w :: B) (h : P w) (t : ∀ w ∈ B, P w) : ∀ w' ∈ L, P w' := fun w' h' => by
  rw [e] at h'
  exact (List.mem_cons.mp h').elim (fun z => by rw [z]; exact h) (t w')
theorem g_fn {P : Cond → Prop} : ∀ w ∈ ([] : List Cond), P w := fun _ h => nomatch h
abbrev nseN : List String := ["java/lang/RuntimeException", "java/lang/Exception"]
abbrev nseL : List Cond := Bundle.ownAtoms0 "FifthCard" 354 "java/util/NoSuchElementException" nseN
theorem g_nse {s : State} {args : Array Value} (hts : ∀ w ∈ lw_all, w.before args s = true) (hd : ∀ x ∈ declG, va_Nw (.declares x) s) (hc : ∀ q ∈ castY, va_Nw (.castable q.1 q.2) s) : ∀ w ∈ nseL, vx_no w = false ∨ w.before args s = true :=
  g_fc rfl (.inr (hts _ q124)) <| g_fc rfl (.inr (hts _ q192)) <| g_fc rfl (.inr (hts _ q201)) <| g_fc rfl (.inr (hts _ q204)) <| g_fc rfl (.inr (hts _ q207)) <| g_fc rfl (.inr (hts _ q209)) <| g_fc rfl (.inr (hts _ q193)) <| g_fc rfl (.inr (hts _ q194)) <| g_fc rfl (.inr (hts _ q162)) <| g_fc rfl (.inr (hts _ q163)) <| g_fc rfl (.inr (hts _ q195)) <| g_fc rfl (.inr (hts _ q200)) <| g_fc rfl (.inr (hts _ q205)) <| g_fc rfl (.inr (hts _ q228)) <| g_fc rfl (.inr (hts _ q182)) <| g_fc rfl (.inr (hts _ q229)) <| g_fc rfl (.inr (hts _ q184)) <| g_fc rfl (.inr (hts _ q230)) <| g_fc rfl (.inr (hts _ q186)) <| g_fc rfl (.inr (hts _ q196)) <| g_fc rfl (.inl rfl) <| g_fc rfl (.inr (hts _ q198)) <| g_fc rfl (.inl rfl) <| g_fc rfl (.inr (hts _ q188)) <| g_fc rfl (.inr (hts _ q1433)) <| g_fc rfl (.inr (hts _ q1434)) <| g_fc rfl (.inr (hts _ q1435)) <| g_fc rfl (.inr (hts _ q1436)) <| g_fc rfl (.inr (va_Nw.use rfl (hd _ (List.mem_of_getElem? (i := 4) rfl)))) <| g_fc rfl (.inr (hts _ q1436)) <| g_fc rfl (.inr (hts _ q1437)) <| g_fc rfl (.inr (hts _ q1438)) <| g_fc rfl (.inr (hts _ q1439)) <| g_fc rfl (.inr (va_Nw.use rfl (hd _ (List.mem_of_getElem? (i := 5) rfl)))) <| g_fc rfl (.inr (hts _ q1439)) <| g_fc rfl (.inr (hts _ q1440)) <| g_fc rfl (.inr (hts _ q1441)) <| g_fc rfl (.inr (hts _ q193)) <| g_fc rfl (.inr (va_Nw.use rfl (hd _ (List.mem_of_getElem? (i := 6) rfl)))) <| g_fc rfl (.inr (hts _ q1432)) <| g_fc rfl (.inr (hts _ q1424)) <| g_fc rfl (.inr (va_Nw.use rfl (hc _ (List.mem_of_getElem? (i := 1) rfl)))) <| g_fc rfl (.inr (hts _ q1426)) <| g_fc rfl (.inr (hts _ q203)) <| g_fc rfl (.inr (hts _ q1427)) <| g_fc rfl (.inr (hts _ q1428)) <| g_fc rfl (.inr (hts _ q1429)) <| g_fc rfl (.inr (hts _ q1430)) <| g_fc rfl (.inl rfl) <| g_fc rfl (.inl rfl) <| g_fc rfl (.inr (hts _ q226)) <| g_fc rfl (.inr (hts _ q190)) <| g_fc rfl (.inr (hts _ q1431)) <| g_fn
theorem g_nseG : ∀ w ∈ nseL, vx_no w = false ∨ vx_ot w = true :=
  g_fc rfl (.inr rfl) <| g_fc rfl (.inr rfl) <| g_fc rfl (.inr rfl) <| g_fc rfl (.inr rfl) <| g_fc rfl (.inr rfl) <| g_fc rfl (.inr rfl) <| g_fc rfl (.inr rfl) <| g_fc rfl (.inr rfl) <| g_fc rfl (.inr rfl) <| g_fc rfl (.inr rfl) <| g_fc rfl (.inr rfl) <| g_fc rfl (.inr rfl) <| g_fc rfl (.inr rfl) <| g_fc rfl (.inr rfl) <| g_fc rfl (.inr rfl) <| g_fc rfl (.inr rfl) <| g_fc rfl (.inr rfl) <| g_fc rfl (.inr rfl) <| g_fc rfl (.inr rfl) <| g_fc rfl (.inr rfl) <| g_fc rfl (.inl rfl) <| g_fc rfl (.inr rfl) <| g_fc rfl (.inl rfl) <| g_fc rfl (.inr rfl) <| g_fc rfl (.inr rfl) <| g_fc rfl (.inr rfl) <| g_fc rfl (.inr rfl) <| g_fc rfl (.inr rfl) <| g_fc rfl (.inr rfl) <| g_fc rfl (.inr rfl) <| g_fc rfl (.inr rfl) <| g_fc rfl (.inr rfl) <| g_fc rfl (.inr rfl) <| g_fc rfl (.inr rfl) <| g_fc rfl (.inr rfl) <| g_fc rfl (.inr rfl) <| g_fc rfl (.inr rfl) <| g_fc rfl (.inr rfl) <| g_fc rfl (.inr rfl) <| g_fc rfl (.inr rfl) <| g_fc rfl (.inr rfl) <| g_fc rfl (.inr rfl) <| g_fc rfl (.inr rfl) <| g_fc rfl (.inr rfl) <| g_fc rfl (.inr rfl) <| g_fc rfl (.inr rfl) <| g_fc rfl (.inr rfl) <| g_fc rfl (.inr rfl) <| g_fc rfl (.inl rfl) <| g_fc rfl (.inl rfl) <| g_fc rfl (.inr rfl) <| g_fc rfl (.inr rfl) <| g_fc rfl (.inr rfl) <| g_fn
section GTHROW
variable {p : Program} {l : Launch} {e : Env} {R : Room} {s : State} {m : MethodId} {args : Array Value} {below : List Frame} {meth : Method} {c : Code} {H : Heap} {locs : List Loc} {cells slots : Nat}
variable {cc : ByteArray} {pc nL MC MS : Nat} {ls : Array Slot} {rest : List Value} {G : GT} {u : Hp} {Qc : Array Value → State → Outcome → State → Prop} {E : Nat → Hp → Prop}
theorem g_thr0 (X : Mc G p s m args meth c RX1 cc nL) (ht : ∀ x ∈ c.exceptionTable.toList, False) (hl : l.stackTraces = false) (hw : GW G u s H locs) (h : ∀ q, E q u) (hsz : ls.size = nL)
    (d0 : decode cc pc = .ok (.new 352, 3)) (d3 : decode cc (pc + 3) = .ok (.dup, 1)) (d4 : decode cc (pc + 4) = .ok (.invokespecial 354, 3)) (d7 : decode cc (pc + 7) = .ok (.athrow, 1))
    (hRf : 6 ≤ R.frames) (hRl : (rest.map fun v => v.category).sum + 81 ≤ R.locals) (hRc : cells + 1 ≤ R.cells) (hRs : slots + 6 ≤ R.slots) (hm : cells + 1 ≤ MC) (hs : slots + 6 ≤ MS) :
    W p l e R s m args below meth c H locs cells slots (vx_MQ below Qc (XE G "java/util/NoSuchElementException" E) args s MC MS (GA G)) (F0 m pc ls rest) := by
  obtain ⟨hx, hb, hml, hown, hts, hlk, hK, hsize⟩ := id X
  have zq : ∀ (j : Nat) (q : String × String × String), statR[j]? = some q → va_Zq q.1 q.2.1 q.2.2 (GA G) s s.heap := fun j q hq => by
    have h9 := hK.2.2.2.2.2.2.2.2.1 j q hq
    cases hr : Gst G j with
    | none => rw [hr] at h9; exact Or.inl h9
    | some t => rw [hr] at h9; exact Or.inr ⟨t, h9⟩
  have hZ := hK.2.2.2.2.2.2.2.2.2.2
  refine vx_throw0 (A := GA G) (names := nseN) (own := RX1) hx hb hl hown (by decide +kernel) (by decide +kernel) (hts _ q1423) (hts _ q155)
    (fun w hw9 => ?_) (fun w hw9 => ?_) ⟨zq 0 _ rfl, hZ.1⟩ ⟨zq 1 _ rfl, hZ.2⟩ hw.2 (hsz.trans hml.symm) d0 d3 d4 d7 (fun x hx => absurd hx (fun z => ht x z)) (by show 2 + 3 < R.frames; omega) (by show _ + (13 * (2 + 1) + 42) ≤ R.locals; omega) hRc hRs hlk ?_ hw.2.2.2 hm hs
  · obtain ⟨h1, h2⟩ := List.mem_filter.mp hw9
    exact (g_nse hts hK.2.2.2.2.2.1.2.2 hK.2.2.2.1 w h1).elim (fun z => by rw [z] at h2; cases h2) id
  · rcases List.mem_cons.mp hw9 with rfl | hw9
    · rfl
    · rcases List.mem_cons.mp hw9 with rfl | hw9
      · rfl
      · obtain ⟨h1, h2⟩ := List.mem_filter.mp hw9
        exact (g_nseG w h1).elim (fun z => by rw [z] at h2; cases h2) id
  · intro t hA hsz9 hq
    have hF : va_F (GA G) s t := ⟨Nat.le_trans hw.2.1 hsz9, fun q h1 h2 => by rw [hq q (Nat.lt_of_lt_of_le h1 hw.2.1)]; exact hw.2.2.1 q h1 h2⟩
    obtain ⟨ws, hP, hD, hL⟩ := hw.1
    refine ⟨u, h _, ⟨rfl, ws, hP.kept (fun k q hk => ?_), hD, hL⟩, hF⟩
    exact hq q.1 (hP k q hk).lt
end GTHROW
