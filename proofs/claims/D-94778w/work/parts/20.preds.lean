/-! printed by tools/genparts.py: the predicates (p.., b..): what a method needs and answers -/
set_option maxRecDepth 100000
/-! J0_init -/
def pJ0_init (u : Hp) (a0 : Nat) (K : Hp → Prop) : Prop :=
  (isTh (kd u a0)) ∧ ∀ o_2 : Option Nat, ∀ o_3 : Option Nat, False
/-! J0_init_2 -/
def pJ0_init_2 (u : Hp) (a0 : Nat) (o1 : Option Nat) (o2 : Option Nat) (x3 : Int32) (x4 : Int32) (K : Hp → Prop) : Prop :=
  (isTh (kd u a0)) ∧ ∀ o_2 : Option Nat, ∀ o_3 : Option Nat, ((x4 = 0 → ∀ u_4 : Hp, u_4 = (sFR (sFR (sFR u 300 a0 (some a0)) 301 a0 o_2) 302 a0 o_3) → ((x3 = 0 → ∀ u_7 : Hp, u_7 = (sFR (sFR (sFR u_4 301 a0 none) 303 a0 o1) 300 a0 o2) → K (sFR u_7 302 a0 none)) ∧ (¬ x3 = 0 → K (sFR (sFR (sFR u_4 301 a0 none) 303 a0 o1) 300 a0 o2)))) ∧ (¬ x4 = 0 → False))
/-! J1_init -/
def pJ1_init (u : Hp) (a0 : Nat) (o1 : Option Nat) (o2 : Option Nat) (x3 : Int32) (x4 : Int32) (K : Hp → Prop) : Prop :=
  pJ0_init_2 u a0 o1 o2 x3 x4 (fun (u_1 : Hp) => K u_1)
/-! J1_init_2 -/
def pJ1_init_2 (u : Hp) (a0 : Nat) (K : Hp → Prop) : Prop :=
  pJ0_init u a0 (fun (u_1 : Hp) => K u_1)
/-! J2_init -/
def pJ2_init (u : Hp) (a0 : Nat) (o1 : Option Nat) (o2 : Option Nat) (x3 : Int32) (x4 : Int32) (K : Hp → Prop) : Prop :=
  pJ1_init u a0 o1 o2 x3 x4 (fun (u_1 : Hp) => K u_1)
/-! J2_init_2 -/
def pJ2_init_2 (u : Hp) (a0 : Nat) (K : Hp → Prop) : Prop :=
  pJ1_init_2 u a0 (fun (u_1 : Hp) => K u_1)
/-! J3_isLatin1 -/
def pJ3_isLatin1 (u : Hp) (a0 : Nat) (K : Int32 → Prop) : Prop :=
  (kd u a0 = 21 ∨ kd u a0 = 201) ∧ ((FI u 2401 a0 = 0 → K 1) ∧ (¬ FI u 2401 a0 = 0 → K 0))
/-! J4_checkIndex -/
def pJ4_checkIndex (x0 : Int32) (x1 : Int32) (o2 : Option Nat) (K : Int32 → Prop) : Prop :=
  ((x0 < 0 → False) ∧ (¬ x0 < 0 → ((x0 < x1 → K x0) ∧ (¬ x0 < x1 → False))))
/-! J3_checkIndex -/
def pJ3_checkIndex (x0 : Int32) (x1 : Int32) (K : Prop) : Prop :=
  ∀ o_1 : Option Nat, pJ4_checkIndex x0 x1 o_1 (fun (r_2 : Int32) => K)
/-! J6_charAt -/
def pJ6_charAt (u : Hp) (a0 : Nat) (x1 : Int32) (K : Int32 → Prop) : Prop :=
  (kd u a0 = 102 ∨ kd u a0 = 202) ∧ pJ3_checkIndex x1 (nI (ln u a0)) (vp_in x1 (ln u a0) ∧ narrow .char (.int ((((AI u a0 (tn x1)) &&& 255).toUInt32 % 65536).toInt32)) = .int ((((AI u a0 (tn x1)) &&& 255).toUInt32 % 65536).toInt32) ∧ K ((((AI u a0 (tn x1)) &&& 255).toUInt32 % 65536).toInt32))
/-! J3_charAt -/
def pJ3_charAt (u : Hp) (a0 : Nat) (x1 : Int32) (K : Int32 → Prop) : Prop :=
  (kd u a0 = 21 ∨ kd u a0 = 201) ∧ pJ3_isLatin1 u a0 (fun (r_2 : Int32) => ((r_2 = 0 → ∃ b_3 : Nat, FR u 2400 a0 = some b_3 ∧ False) ∧ (¬ r_2 = 0 → ∃ b_5 : Nat, FR u 2400 a0 = some b_5 ∧ pJ6_charAt u b_5 x1 (fun (r_7 : Int32) => narrow .char (.int r_7) = .int r_7 ∧ K r_7))))
/-! J4_checkFromIndexSize -/
def pJ4_checkFromIndexSize (x0 : Int32) (x1 : Int32) (x2 : Int32) (o3 : Option Nat) (K : Int32 → Prop) : Prop :=
  (((x2 ||| x0) ||| x1 < 0 → False) ∧ (¬ (x2 ||| x0) ||| x1 < 0 → ((x1 ≤ (x2 - x0) → K x0) ∧ (¬ x1 ≤ (x2 - x0) → False))))
/-! J3_checkBoundsOffCount -/
def pJ3_checkBoundsOffCount (x0 : Int32) (x1 : Int32) (x2 : Int32) (K : Int32 → Prop) : Prop :=
  ∀ o_1 : Option Nat, pJ4_checkFromIndexSize x0 x1 x2 o_1 (fun (r_2 : Int32) => K r_2)
/-! J3_coder -/
def pJ3_coder (u : Hp) (a0 : Nat) (K : Int32 → Prop) : Prop :=
  (kd u a0 = 21 ∨ kd u a0 = 201) ∧ narrow .byte (.int (FI u 2401 a0)) = .int (FI u 2401 a0) ∧ K (FI u 2401 a0)
/-! J6_equals -/
def bJ6_equals_9 (K : Int32 → Prop) (a0 : Nat) (a1 : Nat) (u : Hp) (J9 : Int32 → Prop) (x2 : Int32) : Prop :=
  (kd u a0 = 102 ∨ kd u a0 = 202) ∧ ((nI (ln u a0) ≤ x2 → K 1) ∧ (¬ nI (ln u a0) ≤ x2 → vp_in x2 (ln u a0) ∧ (kd u a1 = 102 ∨ kd u a1 = 202) ∧ vp_in x2 (ln u a1) ∧ ((AI u a0 (tn x2) = (AI u a1 (tn x2)) → J9 (x2 + 1)) ∧ (¬ AI u a0 (tn x2) = (AI u a1 (tn x2)) → K 0))))
def pJ6_equals (u : Hp) (a0 : Nat) (a1 : Nat) (K : Int32 → Prop) : Prop :=
  (kd u a0 = 102 ∨ kd u a0 = 202) ∧ (kd u a1 = 102 ∨ kd u a1 = 202) ∧ ((nI (ln u a0) = (nI (ln u a1)) → jl1 (bJ6_equals_9 K a0 a1 u) 0) ∧ (¬ nI (ln u a0) = (nI (ln u a1)) → K 0))
/-! J3_equals -/
def bJ3_equals_36 (K : Int32 → Prop) (u : Hp) (a0 : Nat) (a2 : Nat) : Prop :=
  (kd u a0 = 21 ∨ kd u a0 = 201) ∧ ∃ b_2 : Nat, FR u 2400 a0 = some b_2 ∧ (kd u a2 = 21 ∨ kd u a2 = 201) ∧ ∃ b_5 : Nat, FR u 2400 a2 = some b_5 ∧ pJ6_equals u b_2 b_5 (fun (r_7 : Int32) => ((r_7 = 0 → K 0) ∧ (¬ r_7 = 0 → K 1)))
def pJ3_equals (u : Hp) (a0 : Nat) (a1 : Nat) (K : Int32 → Prop) : Prop :=
  ((a0 = a1 → K 1) ∧ (¬ a0 = a1 → (kd u a1 = 21 ∨ kd u a1 = 201) ∧ (kd u a0 = 21 ∨ kd u a0 = 201) ∧ ((FI u 2401 a0 = (FI u 2401 a1) → bJ3_equals_36 K u a0 a1) ∧ (¬ FI u 2401 a0 = (FI u 2401 a1) → K 0))))
/-! J7_signedHashCode -/
def bJ7_signedHashCode_8 (K : Int32 → Prop) (a1 : Nat) (x4 : Int32) (u : Hp) (J8 : Int32 → Int32 → Prop) (x0 : Int32) (x5 : Int32) : Prop :=
  ((x4 ≤ x5 → K x0) ∧ (¬ x4 ≤ x5 → (kd u a1 = 102 ∨ kd u a1 = 202) ∧ vp_in x5 (ln u a1) ∧ ∀ x0_2 : Int32, x0_2 = (31 * x0) + ((AI u a1 (tn x5)) &&& 255) → J8 x0_2 (x5 + 1)))
def pJ7_signedHashCode (u : Hp) (x0 : Int32) (a1 : Nat) (x2 : Int32) (x3 : Int32) (K : Int32 → Prop) : Prop :=
  jl2 (bJ7_signedHashCode_8 K a1 (x2 + x3) u) x0 x2
/-! J7_hashCode -/
def bJ7_hashCode_8 (K : Int32 → Prop) (a1 : Nat) (x4 : Int32) (u : Hp) (J8 : Int32 → Int32 → Prop) (x0 : Int32) (x5 : Int32) : Prop :=
  ((x4 ≤ x5 → K x0) ∧ (¬ x4 ≤ x5 → (kd u a1 = 103) ∧ vp_in x5 (ln u a1) ∧ J8 ((31 * x0) + (AI u a1 (tn x5))) (x5 + 1)))
def pJ7_hashCode (u : Hp) (x0 : Int32) (a1 : Nat) (x2 : Int32) (x3 : Int32) (K : Int32 → Prop) : Prop :=
  jl2 (bJ7_hashCode_8 K a1 (x2 + x3) u) x0 x2
/-! J7_hashCode_2 -/
def bJ7_hashCode_2_8 (K : Int32 → Prop) (a1 : Nat) (x4 : Int32) (u : Hp) (J8 : Int32 → Int32 → Prop) (x0 : Int32) (x5 : Int32) : Prop :=
  ((x4 ≤ x5 → K x0) ∧ (¬ x4 ≤ x5 → (kd u a1 = 102 ∨ kd u a1 = 202) ∧ vp_in x5 (ln u a1) ∧ J8 ((31 * x0) + (AI u a1 (tn x5))) (x5 + 1)))
def pJ7_hashCode_2 (u : Hp) (x0 : Int32) (a1 : Nat) (x2 : Int32) (x3 : Int32) (K : Int32 → Prop) : Prop :=
  jl2 (bJ7_hashCode_2_8 K a1 (x2 + x3) u) x0 x2
/-! J7_hashCode_3 -/
def pJ7_hashCode_3 (u : Hp) (x0 : Int32) (a1 : Nat) (x2 : Int32) (x3 : Int32) (K : Int32 → Prop) : Prop :=
  ((x2 + x3 ≤ x2 → K x0) ∧ (¬ x2 + x3 ≤ x2 → False))
/-! J7_hashCode_4 -/
def bJ7_hashCode_4_8 (K : Int32 → Prop) (a1 : Nat) (x4 : Int32) (u : Hp) (J8 : Int32 → Int32 → Prop) (x0 : Int32) (x5 : Int32) : Prop :=
  ((x4 ≤ x5 → K x0) ∧ (¬ x4 ≤ x5 → (kd u a1 = 101) ∧ vp_in x5 (ln u a1) ∧ J8 ((31 * x0) + (AI u a1 (tn x5))) (x5 + 1)))
def pJ7_hashCode_4 (u : Hp) (x0 : Int32) (a1 : Nat) (x2 : Int32) (x3 : Int32) (K : Int32 → Prop) : Prop :=
  jl2 (bJ7_hashCode_4_8 K a1 (x2 + x3) u) x0 x2
/-! J7_vectorizedHashCode -/
def pJ7_vectorizedHashCode (u : Hp) (a0 : Nat) (x1 : Int32) (x2 : Int32) (x3 : Int32) (x4 : Int32) (K : Int32 → Prop) : Prop :=
  ((x4 = 4 → (kd u a0 = 102) ∧ pJ7_signedHashCode u x3 a0 x1 x2 (fun (r_2 : Int32) => K r_2)) ∧ (x4 = 5 → False) ∧ (x4 = 6 → False) ∧ (x4 = 7 → False) ∧ (x4 = 8 → False) ∧ (x4 = 9 → False) ∧ (x4 = 10 → False) ∧ (¬ x4 = 4 ∧ ¬ x4 = 5 ∧ ¬ x4 = 6 ∧ ¬ x4 = 7 ∧ ¬ x4 = 8 ∧ ¬ x4 = 9 ∧ ¬ x4 = 10 → False))
/-! J6_hashCode -/
def pJ6_hashCode (u : Hp) (a0 : Nat) (K : Int32 → Prop) : Prop :=
  (kd u a0 = 102 ∨ kd u a0 = 202) ∧ ((nI (ln u a0) = 0 → K 0) ∧ (nI (ln u a0) = 1 → vp_in 0 (ln u a0) ∧ K ((AI u a0 (tn 0)) &&& 255)) ∧ (¬ nI (ln u a0) = 0 ∧ ¬ nI (ln u a0) = 1 → pJ7_vectorizedHashCode u a0 0 (nI (ln u a0)) 0 4 (fun (r_4 : Int32) => K r_4)))
/-! J3_hashCode -/
def pJ3_hashCode (u : Hp) (a0 : Nat) (K : Int32 → Hp → Prop) : Prop :=
  (kd u a0 = 21) ∧ ((FI u 2402 a0 = 0 → ((FI u 2403 a0 = 0 → (kd u a0 = 21 ∨ kd u a0 = 201) ∧ pJ3_isLatin1 u a0 (fun (r_3 : Int32) => ((r_3 = 0 → ∃ b_4 : Nat, FR u 2400 a0 = some b_4 ∧ False) ∧ (¬ r_3 = 0 → ∃ b_6 : Nat, FR u 2400 a0 = some b_6 ∧ pJ6_hashCode u b_6 (fun (r_8 : Int32) => ((r_8 = 0 → K r_8 (sFI u 2403 a0 1)) ∧ (¬ r_8 = 0 → K r_8 (sFI u 2402 a0 r_8)))))))) ∧ (¬ FI u 2403 a0 = 0 → K (FI u 2402 a0) u))) ∧ (¬ FI u 2402 a0 = 0 → K (FI u 2402 a0) u))
/-! J3_rangeCheck -/
def pJ3_rangeCheck (u : Hp) (a0 : Nat) (x1 : Int32) (x2 : Int32) (K : Option Nat → Prop) : Prop :=
  (kd u a0 = 103) ∧ pJ3_checkBoundsOffCount x1 x2 (nI (ln u a0)) (fun (r_2 : Int32) => K none)
/-! J5_compress_2 -/
def bJ5_compress_2_3 (K : Int32 → Hp → Prop) (a0 : Nat) (a2 : Nat) (x4 : Int32) (J3 : Int32 → Int32 → Int32 → Hp → Prop) (x1 : Int32) (x3 : Int32) (x5 : Int32) (u : Hp) : Prop :=
  ((x4 ≤ x5 → K x4 u) ∧ (¬ x4 ≤ x5 → (kd u a0 = 103) ∧ vp_in x1 (ln u a0) ∧ ((AI u a0 (tn x1) ≤ 255 → (kd u a2 = 102) ∧ vp_in x3 (ln u a2) ∧ J3 (x1 + 1) (x3 + 1) (x5 + 1) (sAI u a2 (upd (AI u a2) (tn x3) (vp_nar .byte ((AI u a0 (tn x1)).toInt8.toInt32))))) ∧ (¬ AI u a0 (tn x1) ≤ 255 → K x5 u))))
def pJ5_compress_2 (u : Hp) (a0 : Nat) (x1 : Int32) (a2 : Nat) (x3 : Int32) (x4 : Int32) (K : Int32 → Hp → Prop) : Prop :=
  jl4 (bJ5_compress_2_3 K a0 a2 x4) x1 x3 0 u
/-! J5_compress -/
def pJ5_compress (u : Hp) (a0 : Nat) (x1 : Int32) (x2 : Int32) (mc ms : Nat) (K : Option Nat → Hp → Prop) : Prop :=
  (¬ x2 < 0 ∧ (tn x2) * 8 ≤ 536870912) ∧ 1 ≤ mc ∧ (tn x2) ≤ ms ∧ ∀ q_1 : Nat, kd u q_1 = 0 → pJ5_compress_2 (mkC u q_1 102 (tn x2)) a0 x1 q_1 0 x2 (fun (r_7 : Int32) (u_8 : Hp) => ((r_7 = x2 → K (some q_1) u_8) ∧ (¬ r_7 = x2 → False)))
/-! J5_coderFromArrayLen -/
def pJ5_coderFromArrayLen (u : Hp) (a0 : Nat) (x1 : Int32) (K : Int32 → Prop) : Prop :=
  (kd u a0 = 102 ∨ kd u a0 = 202) ∧ narrow .byte (.int ((jushr (x1 - (nI (ln u a0))) 31).toInt8.toInt32)) = .int ((jushr (x1 - (nI (ln u a0))) 31).toInt8.toInt32) ∧ K ((jushr (x1 - (nI (ln u a0))) 31).toInt8.toInt32)
/-! J3_init_2 -/
def pJ3_init_2 (L : Nat → Nat) (u : Hp) (a0 : Nat) (a1 : Nat) (x2 : Int32) (x3 : Int32) (o4 : Option Nat) (mc ms : Nat) (K : Hp → Prop) : Prop :=
  ((x3 = 0 → (kd u (L 52) = 21 ∨ kd u (L 52) = 201) ∧ ∃ b_14 : Nat, FR u 2400 (L 52) = some b_14 ∧ (kd u a0 = 21) ∧ okf .byte (FI u 2401 (L 52)) ∧ K (sFI (sFR u 2400 a0 (some b_14)) 2401 a0 (FI u 2401 (L 52)))) ∧ (¬ x3 = 0 → ∃ q_1 q_2 : Nat, q_1 ≤ mc ∧ q_2 ≤ ms ∧ pJ5_compress u a1 x2 x3 q_1 q_2 (fun (o_5 : Option Nat) (u_6 : Hp) => ∃ b_7 : Nat, o_5 = some b_7 ∧ pJ5_coderFromArrayLen u_6 b_7 x3 (fun (r_9 : Int32) => (kd u_6 a0 = 21) ∧ okf .byte r_9 ∧ K (sFR (sFI u_6 2401 a0 r_9) 2400 a0 (some b_7))))))
/-! J3_init -/
def pJ3_init (L : Nat → Nat) (u : Hp) (a0 : Nat) (a1 : Nat) (x2 : Int32) (x3 : Int32) (mc ms : Nat) (K : Hp → Prop) : Prop :=
  pJ3_rangeCheck u a1 x2 x3 (fun (o_1 : Option Nat) => ∃ q_4 q_5 : Nat, q_4 ≤ mc ∧ q_5 ≤ ms ∧ pJ3_init_2 L u a0 a1 x2 x3 o_1 q_4 q_5 (fun (u_8 : Hp) => K u_8))
/-! J3_length -/
def pJ3_length (u : Hp) (a0 : Nat) (K : Int32 → Prop) : Prop :=
  (kd u a0 = 21 ∨ kd u a0 = 201) ∧ ∃ b_2 : Nat, FR u 2400 a0 = some b_2 ∧ (kd u b_2 = 102 ∨ kd u b_2 = 202) ∧ pJ3_coder u a0 (fun (r_5 : Int32) => K (jshr (nI (ln u b_2)) r_5))
/-! J9_init -/
def pJ9_init (u : Hp) (a0 : Nat) (K : Hp → Prop) : Prop :=
  pJ2_init_2 u a0 (fun (u_1 : Hp) => K u_1)
/-! X3_init -/
def pX3_init (u : Hp) (a0 : Nat) (K : Hp → Prop) : Prop :=
  pJ2_init u a0 none none 0 0 (fun (u_1 : Hp) => (kd u_1 a0 = 3) ∧ K (sFI u_1 307 a0 (-1)))
/-! X2_init -/
def pX2_init (u : Hp) (a0 : Nat) (a1 : Nat) (mc ms : Nat) (K : Hp → Prop) : Prop :=
  1 ≤ mc ∧ 8 ≤ ms ∧ ∀ q_1 : Nat, kd u q_1 = 0 → pX3_init (mkC u q_1 3 0) q_1 (fun (u_6 : Hp) => (kd u_6 a0 = 2) ∧ 1 ≤ (mc - 1) ∧ 8 ≤ (ms - 8) ∧ ∀ q_8 : Nat, kd u_6 q_8 = 0 → ∀ u_14 : Hp, u_14 = (sFR (mkC (sFR u_6 200 a0 (some q_1)) q_8 103 8) 202 a0 (some q_8)) → 1 ≤ ((mc - 1) - 1) ∧ 5 ≤ ((ms - 8) - 8) ∧ ∀ q_18 : Nat, kd u_14 q_18 = 0 → K (sFR (sFR (mkC u_14 q_18 101 5) 203 a0 (some q_18)) 201 a0 (some a1)))
/-! X4_init -/
def pX4_init (u : Hp) (a0 : Nat) (mc ms : Nat) (K : Hp → Prop) : Prop :=
  1 ≤ mc ∧ 95040 ≤ ms ∧ ∀ q_1 : Nat, kd u q_1 = 0 → (kd (mkC u q_1 101 95040) a0 = 4) ∧ 1 ≤ (mc - 1) ∧ 190080 ≤ (ms - 95040) ∧ ∀ q_7 : Nat, kd (mkC u q_1 101 95040) q_7 = 0 → ∀ u_14 : Hp, u_14 = (mkC (sFR (mkC u q_1 101 95040) 400 a0 (some q_1)) q_7 101 190080) → 1 ≤ ((mc - 1) - 1) ∧ 2000 ≤ ((ms - 95040) - 190080) ∧ ∀ q_19 : Nat, kd u_14 q_19 = 0 → ∀ u_27 : Hp, u_27 = (sFR (mkC (sFR u_14 401 a0 (some q_7)) q_19 101 2000) 402 a0 (some q_19)) → 1 ≤ (((mc - 1) - 1) - 1) ∧ 190080 ≤ (((ms - 95040) - 190080) - 2000) ∧ ∀ q_33 : Nat, kd u_27 q_33 = 0 → 1 ≤ ((((mc - 1) - 1) - 1) - 1) ∧ 190080 ≤ ((((ms - 95040) - 190080) - 2000) - 190080) ∧ ∀ q_42 : Nat, kd (mkC u_27 q_33 101 190080) q_42 = 0 → ∀ u_52 : Hp, u_52 = (mkC (sFR (mkC u_27 q_33 101 190080) 403 a0 (some q_33)) q_42 101 190080) → 1 ≤ (((((mc - 1) - 1) - 1) - 1) - 1) ∧ 2000 ≤ (((((ms - 95040) - 190080) - 2000) - 190080) - 190080) ∧ ∀ q_60 : Nat, kd u_52 q_60 = 0 → ∀ u_71 : Hp, u_71 = (sFR (mkC (sFR u_52 404 a0 (some q_42)) q_60 101 2000) 405 a0 (some q_60)) → 1 ≤ ((((((mc - 1) - 1) - 1) - 1) - 1) - 1) ∧ 5 ≤ ((((((ms - 95040) - 190080) - 2000) - 190080) - 190080) - 2000) ∧ ∀ q_80 : Nat, kd u_71 q_80 = 0 → 1 ≤ (((((((mc - 1) - 1) - 1) - 1) - 1) - 1) - 1) ∧ 5 ≤ (((((((ms - 95040) - 190080) - 2000) - 190080) - 190080) - 2000) - 5) ∧ ∀ q_92 : Nat, kd (mkC u_71 q_80 101 5) q_92 = 0 → ∀ u_105 : Hp, u_105 = (mkC (sFR (mkC u_71 q_80 101 5) 406 a0 (some q_80)) q_92 101 5) → K (sFR u_105 407 a0 (some q_92))
/-! X5_init -/
def pX5_init (u : Hp) (a0 : Nat) (mc ms : Nat) (K : Hp → Prop) : Prop :=
  1 ≤ mc ∧ 20 ≤ ms ∧ ∀ q_1 : Nat, kd u q_1 = 0 → (kd (mkC u q_1 101 20) a0 = 5) ∧ 1 ≤ (mc - 1) ∧ 20 ≤ (ms - 20) ∧ ∀ q_7 : Nat, kd (mkC u q_1 101 20) q_7 = 0 → ∀ u_14 : Hp, u_14 = (mkC (sFR (mkC u q_1 101 20) 500 a0 (some q_1)) q_7 101 20) → K (sFR u_14 501 a0 (some q_7))
/-! X6_init -/
def pX6_init (a0 : Nat) (K : Prop) : Prop :=
  K
/-! X7_init -/
def pX7_init (a0 : Nat) (K : Prop) : Prop :=
  pX6_init a0 (K)
/-! X8_init -/
def pX8_init (a0 : Nat) (K : Prop) : Prop :=
  pX6_init a0 (K)
/-! X9_init -/
def pX9_init (a0 : Nat) (K : Prop) : Prop :=
  pX6_init a0 (K)
/-! X10_init -/
def pX10_init (a0 : Nat) (K : Prop) : Prop :=
  pX6_init a0 (K)
/-! X11_init -/
def pX11_init (a0 : Nat) (K : Prop) : Prop :=
  K
/-! X12_init -/
def pX12_init (a0 : Nat) (K : Prop) : Prop :=
  pX11_init a0 (K)
/-! X13_init -/
def pX13_init (a0 : Nat) (K : Prop) : Prop :=
  pX11_init a0 (K)
/-! X14_init -/
def pX14_init (a0 : Nat) (K : Prop) : Prop :=
  pX11_init a0 (K)
/-! X15_init -/
def pX15_init (a0 : Nat) (K : Prop) : Prop :=
  pX11_init a0 (K)
/-! X16_init -/
def pX16_init (a0 : Nat) (K : Prop) : Prop :=
  pX11_init a0 (K)
/-! X17_init -/
def pX17_init (u : Hp) (a0 : Nat) (a1 : Nat) (x2 : Int32) (mc ms : Nat) (K : Hp → Prop) : Prop :=
  1 ≤ mc ∧ 2000 ≤ ms ∧ ∀ q_1 : Nat, kd u q_1 = 0 → (isRu (kd (mkC u q_1 101 2000) a0)) ∧ ∀ u_7 : Hp, u_7 = (sFR (sFR (mkC u q_1 101 2000) 1702 a0 (some q_1)) 1700 a0 (some a1)) → K (sFI u_7 1701 a0 x2)
/-! X18_init -/
def pX18_init (u : Hp) (a0 : Nat) (a1 : Nat) (x2 : Int32) (a3 : Nat) (a4 : Nat) (x5 : Int32) (mc ms : Nat) (K : Hp → Prop) : Prop :=
  ∃ q_1 q_2 : Nat, q_1 ≤ mc ∧ q_2 ≤ ms ∧ pX17_init u a0 a1 x2 q_1 q_2 (fun (u_5 : Hp) => 1 ≤ (mc - q_1) ∧ 5 ≤ (ms - q_2) ∧ ∀ q_6 : Nat, kd u_5 q_6 = 0 → (kd (mkC u_5 q_6 101 5) a0 = 15) ∧ 1 ≤ ((mc - q_1) - 1) ∧ 5 ≤ ((ms - q_2) - 5) ∧ ∀ q_12 : Nat, kd (mkC u_5 q_6 101 5) q_12 = 0 → ∀ u_19 : Hp, u_19 = (mkC (sFR (mkC u_5 q_6 101 5) 1807 a0 (some q_6)) q_12 101 5) → 1 ≤ (((mc - q_1) - 1) - 1) ∧ 5 ≤ (((ms - q_2) - 5) - 5) ∧ ∀ q_24 : Nat, kd u_19 q_24 = 0 → ∀ u_32 : Hp, u_32 = (sFR (mkC (sFR u_19 1808 a0 (some q_12)) q_24 101 5) 1809 a0 (some q_24)) → K (sFI (sFR (sFR u_32 1804 a0 (some a3)) 1805 a0 (some a4)) 1806 a0 x5))
/-! X1_spoken -/
def bX1_spoken_132 (K : Option Nat → Hp → Prop) (a0 : Nat) (x1 : Int32) (x2 : Int32) (a3 : Nat) (z0 : Nat) (u : Hp) (mc : Nat) (ms : Nat) : Prop :=
  1 ≤ mc ∧ 10 ≤ ms ∧ ∀ q_1 : Nat, kd u q_1 = 0 → ∃ q_6 q_7 : Nat, q_6 ≤ (mc - 1) ∧ q_7 ≤ (ms - 10) ∧ pX18_init (mkC u q_1 15 0) q_1 a0 x1 a3 z0 x2 q_6 q_7 (fun (u_10 : Hp) => K (some q_1) u_10)
def bX1_spoken_57 (K : Option Nat → Hp → Prop) (a0 : Nat) (x1 : Int32) (x2 : Int32) (z0 : Nat) (u : Hp) (mc : Nat) (ms : Nat) : Prop :=
  ((jrem x2 5 = 0 → 1 ≤ mc ∧ 0 ≤ ms ∧ ∀ q_34 : Nat, kd u q_34 = 0 → pX12_init q_34 (bX1_spoken_132 K a0 x1 x2 z0 q_34 (mkC u q_34 10 0) (mc - 1) (ms - 0))) ∧ (¬ jrem x2 5 = 0 → ((jrem x2 5 = 1 → 1 ≤ mc ∧ 0 ≤ ms ∧ ∀ q_28 : Nat, kd u q_28 = 0 → pX13_init q_28 (bX1_spoken_132 K a0 x1 x2 z0 q_28 (mkC u q_28 11 0) (mc - 1) (ms - 0))) ∧ (¬ jrem x2 5 = 1 → ((jrem x2 5 = 2 → 1 ≤ mc ∧ 0 ≤ ms ∧ ∀ q_22 : Nat, kd u q_22 = 0 → pX14_init q_22 (bX1_spoken_132 K a0 x1 x2 z0 q_22 (mkC u q_22 12 0) (mc - 1) (ms - 0))) ∧ (¬ jrem x2 5 = 2 → ((jrem x2 5 = 3 → 1 ≤ mc ∧ 0 ≤ ms ∧ ∀ q_16 : Nat, kd u q_16 = 0 → pX15_init q_16 (bX1_spoken_132 K a0 x1 x2 z0 q_16 (mkC u q_16 13 0) (mc - 1) (ms - 0))) ∧ (¬ jrem x2 5 = 3 → 1 ≤ mc ∧ 0 ≤ ms ∧ ∀ q_11 : Nat, kd u q_11 = 0 → pX16_init q_11 (bX1_spoken_132 K a0 x1 x2 z0 q_11 (mkC u q_11 14 0) (mc - 1) (ms - 0))))))))))
def pX1_spoken (u : Hp) (a0 : Nat) (x1 : Int32) (x2 : Int32) (mc ms : Nat) (K : Option Nat → Hp → Prop) : Prop :=
  ((x2 / 5 = 0 → 1 ≤ mc ∧ 0 ≤ ms ∧ ∀ q_57 : Nat, kd u q_57 = 0 → pX7_init q_57 (bX1_spoken_57 K a0 x1 x2 q_57 (mkC u q_57 6 0) (mc - 1) (ms - 0))) ∧ (¬ x2 / 5 = 0 → ((x2 / 5 = 1 → 1 ≤ mc ∧ 0 ≤ ms ∧ ∀ q_51 : Nat, kd u q_51 = 0 → pX8_init q_51 (bX1_spoken_57 K a0 x1 x2 q_51 (mkC u q_51 7 0) (mc - 1) (ms - 0))) ∧ (¬ x2 / 5 = 1 → ((x2 / 5 = 2 → 1 ≤ mc ∧ 0 ≤ ms ∧ ∀ q_45 : Nat, kd u q_45 = 0 → pX9_init q_45 (bX1_spoken_57 K a0 x1 x2 q_45 (mkC u q_45 8 0) (mc - 1) (ms - 0))) ∧ (¬ x2 / 5 = 2 → 1 ≤ mc ∧ 0 ≤ ms ∧ ∀ q_40 : Nat, kd u q_40 = 0 → pX10_init q_40 (bX1_spoken_57 K a0 x1 x2 q_40 (mkC u q_40 9 0) (mc - 1) (ms - 0))))))))
/-! X1_init -/
def bX1_init_121 (K : Hp → Prop) (L : Nat → Nat) (a0 : Nat) (J121 : Int32 → Hp → Nat → Nat → Prop) (x1 : Int32) (u : Hp) (mc : Nat) (ms : Nat) : Prop :=
  ((20 ≤ x1 → K u) ∧ (¬ 20 ≤ x1 → (kd u a0 = 1) ∧ ∃ b_2 : Nat, FR u 110 a0 = some b_2 ∧ ∃ q_4 q_5 : Nat, q_4 ≤ mc ∧ q_5 ≤ ms ∧ pX1_spoken u (L 0) x1 x1 q_4 q_5 (fun (o_8 : Option Nat) (u_9 : Hp) => ∃ b_10 : Nat, o_8 = some b_10 ∧ (kd u_9 b_2 = 106) ∧ (isRu (kd u_9 b_10)) ∧ vp_in x1 (ln u_9 b_2) ∧ J121 (x1 + 1) (sAR u_9 b_2 (va_up (AR u_9 b_2) (tn x1) (some b_10))) (mc - q_4) (ms - q_5))))
def bX1_init_95 (K : Hp → Prop) (L : Nat → Nat) (a0 : Nat) (J95 : Int32 → Hp → Nat → Nat → Prop) (x1 : Int32) (u : Hp) (mc : Nat) (ms : Nat) : Prop :=
  ((3 ≤ x1 → jl4 (bX1_init_121 K L a0) 0 u mc ms) ∧ (¬ 3 ≤ x1 → (kd u a0 = 1) ∧ ∃ b_17 : Nat, FR u 112 a0 = some b_17 ∧ 1 ≤ mc ∧ 4 ≤ ms ∧ ∀ q_19 : Nat, kd u q_19 = 0 → ∃ q_25 q_26 : Nat, q_25 ≤ (mc - 1) ∧ q_26 ≤ (ms - 4) ∧ pX5_init (mkC u q_19 5 0) q_19 q_25 q_26 (fun (u_29 : Hp) => (kd u_29 b_17 = 107) ∧ (kd u_29 q_19 = 5) ∧ vp_in x1 (ln u_29 b_17) ∧ J95 (x1 + 1) (sAR u_29 b_17 (va_up (AR u_29 b_17) (tn x1) (some q_19))) ((mc - 1) - q_25) ((ms - 4) - q_26))))
def pX1_init (L : Nat → Nat) (u : Hp) (a0 : Nat) (mc ms : Nat) (K : Hp → Prop) : Prop :=
  1 ≤ mc ∧ 900 ≤ ms ∧ ∀ q_34 : Nat, kd u q_34 = 0 → (kd (mkC u q_34 102 900) a0 = 1) ∧ 1 ≤ (mc - 1) ∧ 11 ≤ (ms - 900) ∧ ∀ q_40 : Nat, kd (mkC u q_34 102 900) q_40 = 0 → ∃ b_47 : Nat, FR (mkC (sFR (mkC u q_34 102 900) 100 a0 (some q_34)) q_40 2 0) 100 a0 = some b_47 ∧ ∃ q_49 q_50 : Nat, q_49 ≤ ((mc - 1) - 1) ∧ q_50 ≤ ((ms - 900) - 11) ∧ pX2_init (mkC (sFR (mkC u q_34 102 900) 100 a0 (some q_34)) q_40 2 0) q_40 b_47 q_49 q_50 (fun (u_53 : Hp) => (kd u_53 a0 = 1) ∧ 1 ≤ (((mc - 1) - 1) - q_49) ∧ 14 ≤ (((ms - 900) - 11) - q_50) ∧ ∀ q_55 : Nat, kd u_53 q_55 = 0 → ∃ q_61 q_62 : Nat, q_61 ≤ ((((mc - 1) - 1) - q_49) - 1) ∧ q_62 ≤ ((((ms - 900) - 11) - q_50) - 14) ∧ pX4_init (mkC (sFI (sFR u_53 102 a0 (some q_40)) 106 a0 (-1)) q_55 4 0) q_55 q_61 q_62 (fun (u_65 : Hp) => (kd u_65 a0 = 1) ∧ 1 ≤ (((((mc - 1) - 1) - q_49) - 1) - q_61) ∧ 20 ≤ (((((ms - 900) - 11) - q_50) - 14) - q_62) ∧ ∀ q_67 : Nat, kd u_65 q_67 = 0 → ∀ u_73 : Hp, u_73 = (sFR (mkC (sFR u_65 109 a0 (some q_55)) q_67 106 20) 110 a0 (some q_67)) → 1 ≤ ((((((mc - 1) - 1) - q_49) - 1) - q_61) - 1) ∧ 4 ≤ ((((((ms - 900) - 11) - q_50) - 14) - q_62) - 20) ∧ ∀ q_77 : Nat, kd u_73 q_77 = 0 → ∃ q_84 q_85 : Nat, q_84 ≤ (((((((mc - 1) - 1) - q_49) - 1) - q_61) - 1) - 1) ∧ q_85 ≤ (((((((ms - 900) - 11) - q_50) - 14) - q_62) - 20) - 4) ∧ pX5_init (mkC u_73 q_77 5 0) q_77 q_84 q_85 (fun (u_88 : Hp) => (kd u_88 a0 = 1) ∧ 1 ≤ ((((((((mc - 1) - 1) - q_49) - 1) - q_61) - 1) - 1) - q_84) ∧ 3 ≤ ((((((((ms - 900) - 11) - q_50) - 14) - q_62) - 20) - 4) - q_85) ∧ ∀ q_90 : Nat, kd u_88 q_90 = 0 → ∀ u_96 : Hp, u_96 = (sFR (mkC (sFR u_88 111 a0 (some q_77)) q_90 107 3) 112 a0 (some q_90)) → 1 ≤ (((((((((mc - 1) - 1) - q_49) - 1) - q_61) - 1) - 1) - q_84) - 1) ∧ 5 ≤ (((((((((ms - 900) - 11) - q_50) - 14) - q_62) - 20) - 4) - q_85) - 3) ∧ ∀ q_100 : Nat, kd u_96 q_100 = 0 → 1 ≤ ((((((((((mc - 1) - 1) - q_49) - 1) - q_61) - 1) - 1) - q_84) - 1) - 1) ∧ 5 ≤ ((((((((((ms - 900) - 11) - q_50) - 14) - q_62) - 20) - 4) - q_85) - 3) - 5) ∧ ∀ q_107 : Nat, kd (mkC u_96 q_100 101 5) q_107 = 0 → ∀ u_115 : Hp, u_115 = (mkC (sFR (mkC u_96 q_100 101 5) 113 a0 (some q_100)) q_107 101 5) → 1 ≤ (((((((((((mc - 1) - 1) - q_49) - 1) - q_61) - 1) - 1) - q_84) - 1) - 1) - 1) ∧ 5 ≤ (((((((((((ms - 900) - 11) - q_50) - 14) - q_62) - 20) - 4) - q_85) - 3) - 5) - 5) ∧ ∀ q_121 : Nat, kd u_115 q_121 = 0 → jl4 (bX1_init_95 K L a0) 0 (sFR (mkC (sFR u_115 114 a0 (some q_107)) q_121 101 5) 115 a0 (some q_121)) ((((((((((((mc - 1) - 1) - q_49) - 1) - q_61) - 1) - 1) - q_84) - 1) - 1) - 1) - 1) ((((((((((((ms - 900) - 11) - q_50) - 14) - q_62) - 20) - 4) - q_85) - 3) - 5) - 5) - 5))))
/-! X19_init -/
def pX19_init (u : Hp) (a0 : Nat) (mc ms : Nat) (K : Hp → Prop) : Prop :=
  (kd u a0 = 16) ∧ 1 ≤ mc ∧ 900 ≤ ms ∧ ∀ q_2 : Nat, kd u q_2 = 0 → ∀ u_8 : Hp, u_8 = (sFR (mkC (sFI u 1902 a0 (-1)) q_2 102 900) 1905 a0 (some q_2)) → 1 ≤ (mc - 1) ∧ 10000 ≤ (ms - 900) ∧ ∀ q_12 : Nat, kd u_8 q_12 = 0 → 1 ≤ ((mc - 1) - 1) ∧ 5 ≤ ((ms - 900) - 10000) ∧ ∀ q_19 : Nat, kd (mkC u_8 q_12 102 10000) q_19 = 0 → ∀ u_27 : Hp, u_27 = (mkC (sFR (mkC u_8 q_12 102 10000) 1916 a0 (some q_12)) q_19 101 5) → 1 ≤ (((mc - 1) - 1) - 1) ∧ 5 ≤ (((ms - 900) - 10000) - 5) ∧ ∀ q_33 : Nat, kd u_27 q_33 = 0 → ∀ u_42 : Hp, u_42 = (sFR (mkC (sFR u_27 1918 a0 (some q_19)) q_33 101 5) 1919 a0 (some q_33)) → 1 ≤ ((((mc - 1) - 1) - 1) - 1) ∧ 5 ≤ ((((ms - 900) - 10000) - 5) - 5) ∧ ∀ q_49 : Nat, kd u_42 q_49 = 0 → 1 ≤ (((((mc - 1) - 1) - 1) - 1) - 1) ∧ 1920 ≤ (((((ms - 900) - 10000) - 5) - 5) - 5) ∧ ∀ q_59 : Nat, kd (mkC u_42 q_49 101 5) q_59 = 0 → ∀ u_70 : Hp, u_70 = (mkC (sFR (mkC u_42 q_49 101 5) 1920 a0 (some q_49)) q_59 101 1920) → 1 ≤ ((((((mc - 1) - 1) - 1) - 1) - 1) - 1) ∧ 120 ≤ ((((((ms - 900) - 10000) - 5) - 5) - 5) - 1920) ∧ ∀ q_79 : Nat, kd u_70 q_79 = 0 → ∀ u_91 : Hp, u_91 = (sFR (mkC (sFR u_70 1921 a0 (some q_59)) q_79 101 120) 1923 a0 (some q_79)) → 1 ≤ (((((((mc - 1) - 1) - 1) - 1) - 1) - 1) - 1) ∧ 2000 ≤ (((((((ms - 900) - 10000) - 5) - 5) - 5) - 1920) - 120) ∧ ∀ q_101 : Nat, kd u_91 q_101 = 0 → 1 ≤ ((((((((mc - 1) - 1) - 1) - 1) - 1) - 1) - 1) - 1) ∧ 5 ≤ ((((((((ms - 900) - 10000) - 5) - 5) - 5) - 1920) - 120) - 2000) ∧ ∀ q_114 : Nat, kd (mkC u_91 q_101 101 2000) q_114 = 0 → ∀ u_128 : Hp, u_128 = (mkC (sFR (mkC u_91 q_101 101 2000) 1925 a0 (some q_101)) q_114 101 5) → 1 ≤ (((((((((mc - 1) - 1) - 1) - 1) - 1) - 1) - 1) - 1) - 1) ∧ 32768 ≤ (((((((((ms - 900) - 10000) - 5) - 5) - 5) - 1920) - 120) - 2000) - 5) ∧ ∀ q_140 : Nat, kd u_128 q_140 = 0 → ∀ u_155 : Hp, u_155 = (sFR (mkC (sFR u_128 1926 a0 (some q_114)) q_140 101 32768) 1927 a0 (some q_140)) → 1 ≤ ((((((((((mc - 1) - 1) - 1) - 1) - 1) - 1) - 1) - 1) - 1) - 1) ∧ 32768 ≤ ((((((((((ms - 900) - 10000) - 5) - 5) - 5) - 1920) - 120) - 2000) - 5) - 32768) ∧ ∀ q_168 : Nat, kd u_155 q_168 = 0 → 1 ≤ (((((((((((mc - 1) - 1) - 1) - 1) - 1) - 1) - 1) - 1) - 1) - 1) - 1) ∧ 2000 ≤ (((((((((((ms - 900) - 10000) - 5) - 5) - 5) - 1920) - 120) - 2000) - 5) - 32768) - 32768) ∧ ∀ q_184 : Nat, kd (mkC u_155 q_168 101 32768) q_184 = 0 → ∀ u_201 : Hp, u_201 = (mkC (sFR (mkC u_155 q_168 101 32768) 1928 a0 (some q_168)) q_184 101 2000) → 1 ≤ ((((((((((((mc - 1) - 1) - 1) - 1) - 1) - 1) - 1) - 1) - 1) - 1) - 1) - 1) ∧ 2000 ≤ ((((((((((((ms - 900) - 10000) - 5) - 5) - 5) - 1920) - 120) - 2000) - 5) - 32768) - 32768) - 2000) ∧ ∀ q_216 : Nat, kd u_201 q_216 = 0 → ∀ u_234 : Hp, u_234 = (sFR (mkC (sFR u_201 1929 a0 (some q_184)) q_216 101 2000) 1930 a0 (some q_216)) → 1 ≤ (((((((((((((mc - 1) - 1) - 1) - 1) - 1) - 1) - 1) - 1) - 1) - 1) - 1) - 1) - 1) ∧ 2000 ≤ (((((((((((((ms - 900) - 10000) - 5) - 5) - 5) - 1920) - 120) - 2000) - 5) - 32768) - 32768) - 2000) - 2000) ∧ ∀ q_250 : Nat, kd u_234 q_250 = 0 → 1 ≤ ((((((((((((((mc - 1) - 1) - 1) - 1) - 1) - 1) - 1) - 1) - 1) - 1) - 1) - 1) - 1) - 1) ∧ 2000 ≤ ((((((((((((((ms - 900) - 10000) - 5) - 5) - 5) - 1920) - 120) - 2000) - 5) - 32768) - 32768) - 2000) - 2000) - 2000) ∧ ∀ q_269 : Nat, kd (mkC u_234 q_250 101 2000) q_269 = 0 → ∀ u_289 : Hp, u_289 = (mkC (sFR (mkC u_234 q_250 101 2000) 1931 a0 (some q_250)) q_269 104 2000) → 1 ≤ (((((((((((((((mc - 1) - 1) - 1) - 1) - 1) - 1) - 1) - 1) - 1) - 1) - 1) - 1) - 1) - 1) - 1) ∧ 300 ≤ (((((((((((((((ms - 900) - 10000) - 5) - 5) - 5) - 1920) - 120) - 2000) - 5) - 32768) - 32768) - 2000) - 2000) - 2000) - 2000) ∧ ∀ q_307 : Nat, kd u_289 q_307 = 0 → ∀ u_328 : Hp, u_328 = (sFR (mkC (sFR u_289 1932 a0 (some q_269)) q_307 101 300) 1933 a0 (some q_307)) → 1 ≤ ((((((((((((((((mc - 1) - 1) - 1) - 1) - 1) - 1) - 1) - 1) - 1) - 1) - 1) - 1) - 1) - 1) - 1) - 1) ∧ 1920 ≤ ((((((((((((((((ms - 900) - 10000) - 5) - 5) - 5) - 1920) - 120) - 2000) - 5) - 32768) - 32768) - 2000) - 2000) - 2000) - 2000) - 300) ∧ ∀ q_347 : Nat, kd u_328 q_347 = 0 → 1 ≤ (((((((((((((((((mc - 1) - 1) - 1) - 1) - 1) - 1) - 1) - 1) - 1) - 1) - 1) - 1) - 1) - 1) - 1) - 1) - 1) ∧ 20 ≤ (((((((((((((((((ms - 900) - 10000) - 5) - 5) - 5) - 1920) - 120) - 2000) - 5) - 32768) - 32768) - 2000) - 2000) - 2000) - 2000) - 300) - 1920) ∧ ∀ q_369 : Nat, kd (mkC u_328 q_347 101 1920) q_369 = 0 → ∀ u_392 : Hp, u_392 = (mkC (sFR (mkC u_328 q_347 101 1920) 1934 a0 (some q_347)) q_369 101 20) → 1 ≤ ((((((((((((((((((mc - 1) - 1) - 1) - 1) - 1) - 1) - 1) - 1) - 1) - 1) - 1) - 1) - 1) - 1) - 1) - 1) - 1) - 1) ∧ 20 ≤ ((((((((((((((((((ms - 900) - 10000) - 5) - 5) - 5) - 1920) - 120) - 2000) - 5) - 32768) - 32768) - 2000) - 2000) - 2000) - 2000) - 300) - 1920) - 20) ∧ ∀ q_413 : Nat, kd u_392 q_413 = 0 → ∀ u_437 : Hp, u_437 = (sFR (mkC (sFR u_392 1937 a0 (some q_369)) q_413 101 20) 1938 a0 (some q_413)) → 1 ≤ (((((((((((((((((((mc - 1) - 1) - 1) - 1) - 1) - 1) - 1) - 1) - 1) - 1) - 1) - 1) - 1) - 1) - 1) - 1) - 1) - 1) - 1) ∧ 60 ≤ (((((((((((((((((((ms - 900) - 10000) - 5) - 5) - 5) - 1920) - 120) - 2000) - 5) - 32768) - 32768) - 2000) - 2000) - 2000) - 2000) - 300) - 1920) - 20) - 20) ∧ ∀ q_459 : Nat, kd u_437 q_459 = 0 → 1 ≤ ((((((((((((((((((((mc - 1) - 1) - 1) - 1) - 1) - 1) - 1) - 1) - 1) - 1) - 1) - 1) - 1) - 1) - 1) - 1) - 1) - 1) - 1) - 1) ∧ 60 ≤ ((((((((((((((((((((ms - 900) - 10000) - 5) - 5) - 5) - 1920) - 120) - 2000) - 5) - 32768) - 32768) - 2000) - 2000) - 2000) - 2000) - 300) - 1920) - 20) - 20) - 60) ∧ ∀ q_484 : Nat, kd (mkC u_437 q_459 101 60) q_484 = 0 → ∀ u_510 : Hp, u_510 = (mkC (sFR (mkC u_437 q_459 101 60) 1939 a0 (some q_459)) q_484 101 60) → 1 ≤ (((((((((((((((((((((mc - 1) - 1) - 1) - 1) - 1) - 1) - 1) - 1) - 1) - 1) - 1) - 1) - 1) - 1) - 1) - 1) - 1) - 1) - 1) - 1) - 1) ∧ 3 ≤ (((((((((((((((((((((ms - 900) - 10000) - 5) - 5) - 5) - 1920) - 120) - 2000) - 5) - 32768) - 32768) - 2000) - 2000) - 2000) - 2000) - 300) - 1920) - 20) - 20) - 60) - 60) ∧ ∀ q_534 : Nat, kd u_510 q_534 = 0 → ∀ u_561 : Hp, u_561 = (sFR (mkC (sFR u_510 1940 a0 (some q_484)) q_534 101 3) 1941 a0 (some q_534)) → 1 ≤ ((((((((((((((((((((((mc - 1) - 1) - 1) - 1) - 1) - 1) - 1) - 1) - 1) - 1) - 1) - 1) - 1) - 1) - 1) - 1) - 1) - 1) - 1) - 1) - 1) - 1) ∧ 3 ≤ ((((((((((((((((((((((ms - 900) - 10000) - 5) - 5) - 5) - 1920) - 120) - 2000) - 5) - 32768) - 32768) - 2000) - 2000) - 2000) - 2000) - 300) - 1920) - 20) - 20) - 60) - 60) - 3) ∧ ∀ q_586 : Nat, kd u_561 q_586 = 0 → K (sFR (mkC u_561 q_586 101 3) 1942 a0 (some q_586))
/-! X1_bytes -/
def bX1_bytes_3 (K : Hp → Prop) (a0 : Nat) (x1 : Int32) (J3 : Int32 → Hp → Prop) (x2 : Int32) (u : Hp) : Prop :=
  ((x2 < 0 → K u) ∧ (¬ x2 < 0 → (kd u a0 = 1) ∧ ∃ b_2 : Nat, FR u 100 a0 = some b_2 ∧ (kd u b_2 = 102) ∧ vp_in (FI u 101 a0) (ln u b_2) ∧ J3 (x2 + (-8)) (sFI (sAI u b_2 (upd (AI u b_2) (tn (FI u 101 a0)) (vp_nar .byte ((jshr x1 x2).toInt8.toInt32)))) 101 a0 ((FI u 101 a0) + 1))))
def pX1_bytes (u : Hp) (a0 : Nat) (x1 : Int32) (K : Hp → Prop) : Prop :=
  jl2 (bX1_bytes_3 K a0 x1) 24 u
/-! X1_feed -/
def pX1_feed (u : Hp) (a0 : Nat) (x1 : Int32) (x2 : Int32) (x3 : Int32) (x4 : Int32) (x5 : Int32) (K : Int32 → Hp → Prop) : Prop :=
  (kd u a0 = 1) ∧ (((FI u 101 a0) + 20 ≤ 900 → pX1_bytes u a0 x1 (fun (u_2 : Hp) => (kd u_2 a0 = 1) ∧ pX1_bytes u_2 a0 x2 (fun (u_4 : Hp) => (kd u_4 a0 = 1) ∧ pX1_bytes u_4 a0 x3 (fun (u_6 : Hp) => (kd u_6 a0 = 1) ∧ pX1_bytes u_6 a0 x4 (fun (u_8 : Hp) => (kd u_8 a0 = 1) ∧ pX1_bytes u_8 a0 x5 (fun (u_10 : Hp) => (kd u_10 a0 = 1) ∧ K (FI u_10 101 a0) u_10)))))) ∧ (¬ (FI u 101 a0) + 20 ≤ 900 → K (-1) u))
/-! X19_feed -/
def bX19_feed_76 (K : Int32 → Hp → Prop) (J23 : Int32 → Hp → Prop) (a0 : Nat) (x1 : Int32) (x2 : Int32) (x3 : Int32) (x4 : Int32) (x5 : Int32) (x6 : Int32) (z0 : Int32) (u : Hp) : Prop :=
  (kd u a0 = 16) ∧ ∃ b_2 : Nat, FR u 1905 a0 = some b_2 ∧ (kd u b_2 = 102) ∧ vp_in (FI u 1906 a0) (ln u b_2) ∧ J23 (x6 + 1) (sFI (sAI u b_2 (upd (AI u b_2) (tn (FI u 1906 a0)) (vp_nar .byte ((jshr z0 (24 - (8 * (jrem x6 4)))).toInt8.toInt32)))) 1906 a0 ((FI u 1906 a0) + 1))
def bX19_feed_23 (K : Int32 → Hp → Prop) (a0 : Nat) (x1 : Int32) (x2 : Int32) (x3 : Int32) (x4 : Int32) (x5 : Int32) (J23 : Int32 → Hp → Prop) (x6 : Int32) (u : Hp) : Prop :=
  ((20 ≤ x6 → (kd u a0 = 16) ∧ K (FI u 1906 a0) u) ∧ (¬ 20 ≤ x6 → ((4 ≤ x6 → ((8 ≤ x6 → ((12 ≤ x6 → ((16 ≤ x6 → bX19_feed_76 K J23 a0 x1 x2 x3 x4 x5 x6 x5 u) ∧ (¬ 16 ≤ x6 → bX19_feed_76 K J23 a0 x1 x2 x3 x4 x5 x6 x4 u))) ∧ (¬ 12 ≤ x6 → bX19_feed_76 K J23 a0 x1 x2 x3 x4 x5 x6 x3 u))) ∧ (¬ 8 ≤ x6 → bX19_feed_76 K J23 a0 x1 x2 x3 x4 x5 x6 x2 u))) ∧ (¬ 4 ≤ x6 → bX19_feed_76 K J23 a0 x1 x2 x3 x4 x5 x6 x1 u))))
def pX19_feed (u : Hp) (a0 : Nat) (x1 : Int32) (x2 : Int32) (x3 : Int32) (x4 : Int32) (x5 : Int32) (K : Int32 → Hp → Prop) : Prop :=
  (kd u a0 = 16) ∧ (((FI (sFI u 1900 a0 0) 1906 a0) + 20 ≤ 900 → jl2 (bX19_feed_23 K a0 x1 x2 x3 x4 x5) 0 (sFI u 1900 a0 0)) ∧ (¬ (FI (sFI u 1900 a0 0) 1906 a0) + 20 ≤ 900 → K (-1) (sFI u 1900 a0 0)))
/-! X1_anew -/
def pX1_anew (u : Hp) (a0 : Nat) (K : Hp → Prop) : Prop :=
  (kd u a0 = 1) ∧ K (sFI (sFI u 104 a0 0) 106 a0 (-1))
/-! X1_in -/
def pX1_in (x0 : Int32) (x1 : Int32) (x2 : Int32) (K : Int32 → Prop) : Prop :=
  ((x0 < x1 → K 0) ∧ (¬ x0 < x1 → ((x2 < x0 → K 0) ∧ (¬ x2 < x0 → K 1))))
/-! X1_no -/
def pX1_no (u : Hp) (a0 : Nat) (x1 : Int32) (K : Int32 → Hp → Prop) : Prop :=
  (kd u a0 = 1) ∧ K (-1) (sFI u 104 a0 x1)
/-! X20_init -/
def pX20_init (u : Hp) (a0 : Nat) (mc ms : Nat) (K : Hp → Prop) : Prop :=
  1 ≤ mc ∧ 4 ≤ ms ∧ ∀ q_1 : Nat, kd u q_1 = 0 → (kd (mkC u q_1 106 4) a0 = 17) ∧ 1 ≤ (mc - 1) ∧ 9 ≤ (ms - 4) ∧ ∀ q_7 : Nat, kd (mkC u q_1 106 4) q_7 = 0 → ∀ u_14 : Hp, u_14 = (mkC (sFR (mkC u q_1 106 4) 2000 a0 (some q_1)) q_7 101 9) → 1 ≤ ((mc - 1) - 1) ∧ 9 ≤ ((ms - 4) - 9) ∧ ∀ q_19 : Nat, kd u_14 q_19 = 0 → ∀ u_27 : Hp, u_27 = (sFR (mkC (sFR u_14 2001 a0 (some q_7)) q_19 101 9) 2002 a0 (some q_19)) → 1 ≤ (((mc - 1) - 1) - 1) ∧ 5 ≤ (((ms - 4) - 9) - 9) ∧ ∀ q_33 : Nat, kd u_27 q_33 = 0 → K (sFR (mkC u_27 q_33 101 5) 2012 a0 (some q_33))
/-! X2_see -/
def pX2_see (u : Hp) (a0 : Nat) (x1 : Int32) (K : Int32 → Prop) : Prop :=
  (kd u a0 = 2) ∧ ((FI u 204 a0 ≤ x1 → K (-1)) ∧ (¬ FI u 204 a0 ≤ x1 → ∃ b_2 : Nat, FR u 201 a0 = some b_2 ∧ (kd u b_2 = 102 ∨ kd u b_2 = 202) ∧ vp_in x1 (ln u b_2) ∧ K ((AI u b_2 (tn x1)) &&& 255)))
/-! X2_isSmall -/
def pX2_isSmall (x0 : Int32) (K : Int32 → Prop) : Prop :=
  pX1_in x0 97 122 (fun (r_1 : Int32) => narrow .boolean (.int r_1) = .int r_1 ∧ K r_1)
/-! X2_isDigit -/
def pX2_isDigit (x0 : Int32) (K : Int32 → Prop) : Prop :=
  pX1_in x0 48 57 (fun (r_1 : Int32) => narrow .boolean (.int r_1) = .int r_1 ∧ K r_1)
/-! X2_next -/
def bX2_next_202 (K : Hp → Prop) (L : Nat → Nat) (a0 : Nat) (x1 : Int32) (mc : Nat) (ms : Nat) (J202 : Hp → Prop) (u : Hp) : Prop :=
  (kd u a0 = 2) ∧ pX2_see u a0 (FI u 205 a0) (fun (r_2 : Int32) => pX2_isDigit r_2 (fun (r_3 : Int32) => ((r_3 = 0 → (((FI u 205 a0) - x1 ≤ 3 → K (sFI u 206 a0 3)) ∧ (¬ (FI u 205 a0) - x1 ≤ 3 → K (sFI u 206 a0 1)))) ∧ (¬ r_3 = 0 → ((3 ≤ ((FI u 205 a0) - x1) → J202 (sFI u 205 a0 ((FI u 205 a0) + 1))) ∧ (¬ 3 ≤ ((FI u 205 a0) - x1) → pX2_see u a0 (FI u 205 a0) (fun (r_5 : Int32) => J202 (sFI (sFI u 208 a0 (((10 * (FI u 208 a0)) + r_5) - 48)) 205 a0 ((FI (sFI u 208 a0 (((10 * (FI u 208 a0)) + r_5) - 48)) 205 a0) + 1)))))))))
def bX2_next_144 (K : Hp → Prop) (L : Nat → Nat) (a0 : Nat) (x1 : Int32) (z0 : Int32) (z1 : Nat) (u : Hp) (mc : Nat) (ms : Nat) : Prop :=
  (kd u z1 = 2) ∧ (kd u a0 = 2) ∧ ((FI (sFI u 206 z1 z0) 206 a0 = 2 → 1 ≤ mc ∧ 4 ≤ ms ∧ ∀ q_10 : Nat, kd u q_10 = 0 → ∃ b_17 : Nat, FR (mkC (sFI u 206 z1 z0) q_10 21 0) 202 a0 = some b_17 ∧ ∃ q_19 q_20 : Nat, q_19 ≤ (mc - 1) ∧ q_20 ≤ (ms - 4) ∧ pJ3_init L (mkC (sFI u 206 z1 z0) q_10 21 0) q_10 b_17 0 ((FI (mkC (sFI u 206 z1 z0) q_10 21 0) 205 a0) - x1) q_19 q_20 (fun (u_23 : Hp) => (kd u_23 a0 = 2) ∧ K (sFR u_23 209 a0 (some q_10)))) ∧ (¬ FI (sFI u 206 z1 z0) 206 a0 = 2 → K (sFR (sFI u 206 z1 z0) 209 a0 (some (L 1)))))
def bX2_next_69 (K : Hp → Prop) (L : Nat → Nat) (a0 : Nat) (x1 : Int32) (mc : Nat) (ms : Nat) (J69 : Hp → Prop) (u : Hp) : Prop :=
  (kd u a0 = 2) ∧ pX2_see u a0 (FI u 205 a0) (fun (r_27 : Int32) => pX2_isSmall r_27 (fun (r_28 : Int32) => ((r_28 = 0 → (((FI u 205 a0) - x1 ≤ 8 → bX2_next_144 K L a0 x1 2 a0 u mc ms) ∧ (¬ (FI u 205 a0) - x1 ≤ 8 → bX2_next_144 K L a0 x1 1 a0 u mc ms))) ∧ (¬ r_28 = 0 → ((8 ≤ ((FI u 205 a0) - x1) → J69 (sFI u 205 a0 ((FI u 205 a0) + 1))) ∧ (¬ 8 ≤ ((FI u 205 a0) - x1) → ∃ b_30 : Nat, FR u 202 a0 = some b_30 ∧ pX2_see u a0 (FI u 205 a0) (fun (r_32 : Int32) => (kd u b_30 = 103) ∧ vp_in ((FI u 205 a0) - x1) (ln u b_30) ∧ J69 (sFI (sAI u b_30 (upd (AI u b_30) (tn ((FI u 205 a0) - x1)) (vp_nar .char ((r_32.toUInt32 % 65536).toInt32)))) 205 a0 ((FI u 205 a0) + 1)))))))))
def bX2_next_5 (K : Hp → Prop) (L : Nat → Nat) (a0 : Nat) (u : Hp) (mc : Nat) (ms : Nat) (J5 : Int32 → Prop) (x1 : Int32) : Prop :=
  (kd u a0 = 2) ∧ pX2_see u a0 x1 (fun (r_37 : Int32) => ((r_37 = 32 → J5 (x1 + 1)) ∧ (¬ r_37 = 32 → pX2_see (sFI (sFI u 207 a0 x1) 205 a0 (x1 + 1)) a0 x1 (fun (r_38 : Int32) => ((r_38 = (-1) → ∀ u_48 : Hp, u_48 = (sFI (sFI (sFI u 207 a0 x1) 205 a0 (x1 + 1)) 206 a0 0) → K (sFI u_48 205 a0 x1)) ∧ (¬ r_38 = (-1) → pX2_isSmall r_38 (fun (r_39 : Int32) => ((r_39 = 0 → pX2_isDigit r_38 (fun (r_40 : Int32) => ((r_40 = 0 → ((r_38 = 59 → K (sFI (sFI (sFI u 207 a0 x1) 205 a0 (x1 + 1)) 206 a0 r_38)) ∧ (¬ r_38 = 59 → ((r_38 = 44 → K (sFI (sFI (sFI u 207 a0 x1) 205 a0 (x1 + 1)) 206 a0 r_38)) ∧ (¬ r_38 = 44 → K (sFI (sFI (sFI u 207 a0 x1) 205 a0 (x1 + 1)) 206 a0 1)))))) ∧ (¬ r_40 = 0 → ∀ u_43 : Hp, u_43 = (sFI (sFI (sFI u 207 a0 x1) 205 a0 (x1 + 1)) 208 a0 0) → jl1 (bX2_next_202 K L a0 x1 mc ms) (sFI u_43 205 a0 x1))))) ∧ (¬ r_39 = 0 → jl1 (bX2_next_69 K L a0 x1 mc ms) (sFI (sFI (sFI u 207 a0 x1) 205 a0 (x1 + 1)) 205 a0 x1))))))))))
def pX2_next (L : Nat → Nat) (u : Hp) (a0 : Nat) (mc ms : Nat) (K : Hp → Prop) : Prop :=
  (kd u a0 = 2) ∧ jl1 (bX2_next_5 K L a0 u mc ms) (FI u 205 a0)
/-! X3_at -/
def pX3_at (u : Hp) (a0 : Nat) (x1 : Int32) (x2 : Int32) (K : Option Nat → Hp → Prop) : Prop :=
  (kd u a0 = 3) ∧ K (some a0) (sFI (sFI u 306 a0 x1) 307 a0 x2)
/-! X2_fail -/
def pX2_fail (u : Hp) (a0 : Nat) (x1 : Int32) (K : Option Nat → Hp → Prop) : Prop :=
  (kd u a0 = 2) ∧ ∃ b_2 : Nat, FR u 200 a0 = some b_2 ∧ (kd u b_2 = 3) ∧ pX3_at u b_2 x1 (FI u 207 a0) (fun (o_5 : Option Nat) (u_6 : Hp) => K o_5 u_6)
/-! X2_isWord -/
def pX2_isWord (u : Hp) (a0 : Nat) (a1 : Nat) (K : Int32 → Prop) : Prop :=
  (kd u a0 = 2) ∧ ((FI u 206 a0 = 2 → ∃ b_2 : Nat, FR u 209 a0 = some b_2 ∧ (kd u b_2 = 21 ∨ kd u b_2 = 201) ∧ pJ3_equals u b_2 a1 (fun (r_5 : Int32) => ((r_5 = 0 → K 0) ∧ (¬ r_5 = 0 → K 1)))) ∧ (¬ FI u 206 a0 = 2 → K 0))
/-! X2_takes -/
def pX2_takes (L : Nat → Nat) (u : Hp) (a0 : Nat) (a1 : Nat) (mc ms : Nat) (K : Int32 → Hp → Prop) : Prop :=
  (kd u a0 = 2) ∧ pX2_isWord u a0 a1 (fun (r_2 : Int32) => ((r_2 = 0 → K 0 u) ∧ (¬ r_2 = 0 → ∃ q_3 q_4 : Nat, q_3 ≤ mc ∧ q_4 ≤ ms ∧ pX2_next L u a0 q_3 q_4 (fun (u_7 : Hp) => K 1 u_7))))
/-! X1_falling -/
def bX1_falling_5 (K : Int64 → Prop) (x0 : Int32) (x1 : Int32) (J5 : Int64 → Int32 → Prop) (y2 : Int64) (x4 : Int32) : Prop :=
  ((x1 ≤ x4 → K y2) ∧ (¬ x1 ≤ x4 → J5 (y2 * ((x0 - x4).toInt64)) (x4 + 1)))
def pX1_falling (x0 : Int32) (x1 : Int32) (K : Int64 → Prop) : Prop :=
  jl2 (bX1_falling_5 K x0 x1) 1 0
/-! X1_factorial -/
def pX1_factorial (x0 : Int32) (K : Int32 → Prop) : Prop :=
  pX1_falling x0 x0 (fun (r_1 : Int64) => K (r_1.toInt32))
/-! X20_hands -/
def pX20_hands (u : Hp) (a0 : Nat) (x1 : Int32) (K : Int64 → Prop) : Prop :=
  (kd u a0 = 17) ∧ ((FI u 2009 a0 = 0 → pX1_falling x1 (FI u 2005 a0) (fun (r_2 : Int64) => pX1_factorial (FI u 2005 a0) (fun (r_3 : Int32) => (¬ r_3.toInt64 = 0) ∧ K (r_2 / (r_3.toInt64))))) ∧ (¬ FI u 2009 a0 = 0 → pX1_falling x1 (FI u 2005 a0) (fun (r_4 : Int64) => K r_4)))
/-! X20_isTold -/
def bX20_isTold_4 (K : Int32 → Prop) (a0 : Nat) (a1 : Nat) (u : Hp) (J4 : Int32 → Int32 → Prop) (x2 : Int32) (x3 : Int32) : Prop :=
  (kd u a0 = 17) ∧ ((FI u 2007 a0 ≤ x3 → narrow .boolean (.int x2) = .int x2 ∧ K x2) ∧ (¬ FI u 2007 a0 ≤ x3 → ((x2 = 0 → ∃ b_2 : Nat, FR u 2000 a0 = some b_2 ∧ (kd u b_2 = 106 ∨ kd u b_2 = 107) ∧ vp_in x3 (ln u b_2) ∧ ∃ b_5 : Nat, AR u b_2 (tn x3) = some b_5 ∧ (isRu (kd u b_5)) ∧ ∃ b_9 : Nat, FR u 1700 b_5 = some b_9 ∧ (kd u b_9 = 21 ∨ kd u b_9 = 201) ∧ pJ3_equals u b_9 a1 (fun (r_12 : Int32) => ((r_12 = 0 → J4 0 (x3 + 1)) ∧ (¬ r_12 = 0 → J4 1 (x3 + 1))))) ∧ (¬ x2 = 0 → J4 1 (x3 + 1)))))
def pX20_isTold (u : Hp) (a0 : Nat) (a1 : Nat) (K : Int32 → Prop) : Prop :=
  jl2 (bX20_isTold_4 K a0 a1 u) 0 0
/-! X21_init -/
def pX21_init (u : Hp) (a0 : Nat) (a1 : Nat) (x2 : Int32) (mc ms : Nat) (K : Hp → Prop) : Prop :=
  ∃ q_1 q_2 : Nat, q_1 ≤ mc ∧ q_2 ≤ ms ∧ pX17_init u a0 a1 x2 q_1 q_2 (fun (u_5 : Hp) => 1 ≤ (mc - q_1) ∧ 5 ≤ (ms - q_2) ∧ ∀ q_6 : Nat, kd u_5 q_6 = 0 → (kd (mkC u_5 q_6 101 5) a0 = 18) ∧ 1 ≤ ((mc - q_1) - 1) ∧ 5 ≤ ((ms - q_2) - 5) ∧ ∀ q_12 : Nat, kd (mkC u_5 q_6 101 5) q_12 = 0 → ∀ u_19 : Hp, u_19 = (mkC (sFR (mkC u_5 q_6 101 5) 2104 a0 (some q_6)) q_12 101 5) → K (sFR u_19 2105 a0 (some q_12)))
/-! X22_init -/
def pX22_init (u : Hp) (a0 : Nat) (a1 : Nat) (x2 : Int32) (mc ms : Nat) (K : Hp → Prop) : Prop :=
  ∃ q_1 q_2 : Nat, q_1 ≤ mc ∧ q_2 ≤ ms ∧ pX17_init u a0 a1 x2 q_1 q_2 (fun (u_5 : Hp) => K u_5)
/-! X2_keepHere -/
def pX2_keepHere (L : Nat → Nat) (u : Hp) (a0 : Nat) (K : Int32 → Prop) : Prop :=
  (kd u a0 = 2) ∧ pX2_isWord u a0 (L 15) (fun (r_2 : Int32) => ((r_2 = 0 → pX2_isWord u a0 (L 16) (fun (r_3 : Int32) => ((r_3 = 0 → pX2_isWord u a0 (L 17) (fun (r_4 : Int32) => ((r_4 = 0 → pX2_isWord u a0 (L 18) (fun (r_5 : Int32) => ((r_5 = 0 → K (-1)) ∧ (¬ r_5 = 0 → K 3)))) ∧ (¬ r_4 = 0 → K 2)))) ∧ (¬ r_3 = 0 → K 1)))) ∧ (¬ r_2 = 0 → K 0)))
/-! X2_tellHere -/
def pX2_tellHere (L : Nat → Nat) (u : Hp) (a0 : Nat) (K : Int32 → Prop) : Prop :=
  (kd u a0 = 2) ∧ pX2_isWord u a0 (L 19) (fun (r_2 : Int32) => ((r_2 = 0 → pX2_isWord u a0 (L 20) (fun (r_3 : Int32) => ((r_3 = 0 → pX2_isWord u a0 (L 21) (fun (r_4 : Int32) => ((r_4 = 0 → pX2_isWord u a0 (L 22) (fun (r_5 : Int32) => ((r_5 = 0 → pX2_isWord u a0 (L 18) (fun (r_6 : Int32) => ((r_6 = 0 → K (-1)) ∧ (¬ r_6 = 0 → K 4)))) ∧ (¬ r_5 = 0 → K 3)))) ∧ (¬ r_4 = 0 → K 2)))) ∧ (¬ r_3 = 0 → K 1)))) ∧ (¬ r_2 = 0 → K 0)))
/-! X1_has -/
def pX1_has (x0 : Int32) (x1 : Int32) (K : Int32 → Prop) : Prop :=
  (((jshr x0 x1) &&& 1 = 1 → K 1) ∧ (¬ (jshr x0 x1) &&& 1 = 1 → K 0))
/-! X20_rank -/
def bX20_rank_20 (K : Int32 → Prop) (J8 : Int32 → Int32 → Int32 → Prop) (a0 : Nat) (a1 : Nat) (x2 : Int32) (x3 : Int32) (x4 : Int32) (x5 : Int32) (u : Hp) (J20 : Int32 → Int32 → Prop) (x6 : Int32) (x7 : Int32) : Prop :=
  (kd u a1 = 101) ∧ vp_in x5 (ln u a1) ∧ ((AI u a1 (tn x5) ≤ x7 → (kd u a0 = 17) ∧ ∀ x3_3 : Int32, x3_3 = (x3 * ((FI u 2003 a0) - x5)) + x6 → vp_in x5 (ln u a1) ∧ ∀ x4_5 : Int32, x4_5 = x4 ||| (jshl 1 (AI u a1 (tn x5))) → J8 x3_3 x4_5 (x5 + 1)) ∧ (¬ AI u a1 (tn x5) ≤ x7 → pX1_has x4 x7 (fun (r_7 : Int32) => ((r_7 = 0 → J20 (x6 + 1) (x7 + 1)) ∧ (¬ r_7 = 0 → J20 (x6 + 0) (x7 + 1))))))
def bX20_rank_8 (K : Int32 → Prop) (a0 : Nat) (a1 : Nat) (x2 : Int32) (u : Hp) (J8 : Int32 → Int32 → Int32 → Prop) (x3 : Int32) (x4 : Int32) (x5 : Int32) : Prop :=
  ((x2 ≤ x5 → K x3) ∧ (¬ x2 ≤ x5 → jl2 (bX20_rank_20 K J8 a0 a1 x2 x3 x4 x5 u) 0 0))
def pX20_rank (u : Hp) (a0 : Nat) (a1 : Nat) (x2 : Int32) (K : Int32 → Prop) : Prop :=
  jl3 (bX20_rank_8 K a0 a1 x2 u) 0 0 0
/-! X20_rankSet -/
def bX20_rankSet_10 (K : Int32 → Prop) (a0 : Nat) (x1 : Int32) (u : Hp) (J10 : Int32 → Int32 → Int32 → Prop) (x2 : Int32) (x3 : Int32) (x4 : Int32) : Prop :=
  (kd u a0 = 17) ∧ ((FI u 2003 a0 ≤ x4 → K x2) ∧ (¬ FI u 2003 a0 ≤ x4 → ((x3 ≤ 0 → K x2) ∧ (¬ x3 ≤ 0 → pX1_has x1 x4 (fun (r_2 : Int32) => ((r_2 = 0 → pX1_falling (((FI u 2003 a0) - 1) - x4) (x3 - 1) (fun (r_3 : Int64) => pX1_factorial (x3 - 1) (fun (r_4 : Int32) => (¬ r_4.toInt64 = 0) ∧ ∀ x2_5 : Int32, x2_5 = x2 + ((r_3 / (r_4.toInt64)).toInt32) → J10 x2_5 x3 (x4 + 1)))) ∧ (¬ r_2 = 0 → J10 x2 (x3 + (-1)) (x4 + 1))))))))
def pX20_rankSet (u : Hp) (a0 : Nat) (x1 : Int32) (K : Int32 → Prop) : Prop :=
  (kd u a0 = 17) ∧ jl3 (bX20_rankSet_10 K a0 x1 u) 0 (FI u 2005 a0) 0
/-! X20_rows -/
def pX20_rows (u : Hp) (a0 : Nat) (K : Int32 → Prop) : Prop :=
  (kd u a0 = 17) ∧ K ((FI u 2005 a0) - (FI u 2006 a0))
/-! X20_tiltings -/
def pX20_tiltings (u : Hp) (a0 : Nat) (K : Int32 → Prop) : Prop :=
  (kd u a0 = 17) ∧ ((FI u 2011 a0 = 0 → K 1) ∧ (¬ FI u 2011 a0 = 0 → pX20_rows u a0 (fun (r_2 : Int32) => K (jshl 1 r_2))))
/-! X20_unrank -/
def bX20_unrank_89 (K : Hp → Prop) (J58 : Int32 → Int32 → Hp → Prop) (J74 : Int32 → Int32 → Prop) (x2 : Int32) (a3 : Nat) (a5 : Nat) (x6 : Int32) (x7 : Int32) (x8 : Int32) (x9 : Int32) (u : Hp) : Prop :=
  pX1_has x6 x8 (fun (r_1 : Int32) => ((r_1 = 0 → J74 (x8 + 1) (x9 - 1)) ∧ (¬ r_1 = 0 → J74 (x8 + 1) (x9 - 0))))
def bX20_unrank_74 (K : Hp → Prop) (J58 : Int32 → Int32 → Hp → Prop) (x2 : Int32) (a3 : Nat) (a5 : Nat) (x6 : Int32) (x7 : Int32) (u : Hp) (J74 : Int32 → Int32 → Prop) (x8 : Int32) (x9 : Int32) : Prop :=
  pX1_has x6 x8 (fun (r_3 : Int32) => ((r_3 = 0 → ((x9 ≤ 0 → (kd u a3 = 101) ∧ vp_in x7 (ln u a3) ∧ J58 (x6 ||| (jshl 1 x8)) (x7 + 1) (sAI u a3 (upd (AI u a3) (tn x7) x8))) ∧ (¬ x9 ≤ 0 → bX20_unrank_89 K J58 J74 x2 a3 a5 x6 x7 x8 x9 u))) ∧ (¬ r_3 = 0 → bX20_unrank_89 K J58 J74 x2 a3 a5 x6 x7 x8 x9 u)))
def bX20_unrank_58 (K : Hp → Prop) (x2 : Int32) (a3 : Nat) (a5 : Nat) (J58 : Int32 → Int32 → Hp → Prop) (x6 : Int32) (x7 : Int32) (u : Hp) : Prop :=
  ((x2 ≤ x7 → K u) ∧ (¬ x2 ≤ x7 → (kd u a5 = 101) ∧ vp_in x7 (ln u a5) ∧ jl2 (bX20_unrank_74 K J58 x2 a3 a5 x6 x7 u) 0 (AI u a5 (tn x7))))
def bX20_unrank_14 (K : Hp → Prop) (a0 : Nat) (x2 : Int32) (a3 : Nat) (a5 : Nat) (J14 : Int32 → Int32 → Hp → Prop) (x4 : Int32) (x6 : Int32) (u : Hp) : Prop :=
  ((x6 < 0 → jl3 (bX20_unrank_58 K x2 a3 a5) 0 0 u) ∧ (¬ x6 < 0 → (kd u a0 = 17) ∧ (¬ (FI u 2003 a0) - x6 = 0) ∧ (kd u a5 = 101) ∧ vp_in x6 (ln u a5) ∧ (¬ (FI u 2003 a0) - x6 = 0) ∧ J14 (x4 / ((FI u 2003 a0) - x6)) (x6 + (-1)) (sAI u a5 (upd (AI u a5) (tn x6) (jrem x4 ((FI u 2003 a0) - x6))))))
def pX20_unrank (u : Hp) (a0 : Nat) (x1 : Int32) (x2 : Int32) (a3 : Nat) (K : Hp → Prop) : Prop :=
  (kd u a0 = 17) ∧ ∃ b_13 : Nat, FR u 2012 a0 = some b_13 ∧ jl3 (bX20_unrank_14 K a0 x2 a3 b_13) x1 (x2 - 1) u
/-! X20_layHand -/
def bX20_layHand_26 (K : Hp → Prop) (a0 : Nat) (a2 : Nat) (J26 : Int32 → Int32 → Int32 → Hp → Prop) (x3 : Int32) (x4 : Int32) (x5 : Int32) (u : Hp) : Prop :=
  (kd u a0 = 17) ∧ ((FI u 2005 a0 ≤ x4 → K u) ∧ (¬ FI u 2005 a0 ≤ x4 → pX1_falling (((FI u 2003 a0) - 1) - x5) (((FI u 2005 a0) - x4) - 1) (fun (r_2 : Int64) => pX1_factorial (((FI u 2005 a0) - x4) - 1) (fun (r_3 : Int32) => (¬ r_3.toInt64 = 0) ∧ (((r_2 / (r_3.toInt64)).toInt32 ≤ x3 → ∀ x3_4 : Int32, x3_4 = x3 - ((r_2 / (r_3.toInt64)).toInt32) → J26 x3_4 x4 (x5 + 1) u) ∧ (¬ (r_2 / (r_3.toInt64)).toInt32 ≤ x3 → (kd u a2 = 101) ∧ vp_in x4 (ln u a2) ∧ J26 x3 (x4 + 1) (x5 + 1) (sAI u a2 (upd (AI u a2) (tn x4) x5))))))))
def pX20_layHand (u : Hp) (a0 : Nat) (x1 : Int32) (a2 : Nat) (K : Hp → Prop) : Prop :=
  (kd u a0 = 17) ∧ ((FI u 2009 a0 = 0 → jl4 (bX20_layHand_26 K a0 a2) x1 0 0 u) ∧ (¬ FI u 2009 a0 = 0 → pX20_unrank u a0 x1 (FI u 2005 a0) a2 (fun (u_10 : Hp) => K u_10)))
/-! X1_ones -/
def bX1_ones_4 (K : Int32 → Prop) (J4 : Int32 → Int32 → Prop) (x1 : Int32) (x2 : Int32) : Prop :=
  ((x2 = 0 → K x1) ∧ (¬ x2 = 0 → J4 (x1 + 1) (x2 &&& (x2 - 1))))
def pX1_ones (x0 : Int32) (K : Int32 → Prop) : Prop :=
  jl2 (bX1_ones_4 K) 0 x0
/-! X4_someLeftOut -/
def bX4_someLeftOut_104 (K : Hp → Prop) (J5 : Int32 → Int32 → Hp → Prop) (a0 : Nat) (a1 : Nat) (x2 : Int32) (x3 : Int32) (x4 : Int32) (x6 : Int32) (J104 : Int32 → Hp → Prop) (x7 : Int32) (u : Hp) : Prop :=
  (kd u a0 = 4) ∧ ((x7 ≤ ((FI u 408 a0) * x2) → ∃ b_2 : Nat, FR u 400 a0 = some b_2 ∧ (kd u b_2 = 101) ∧ vp_in x7 (ln u b_2) ∧ J5 (x3 + 1) (x4 + 1) (sAI u b_2 (upd (AI u b_2) (tn x7) x6))) ∧ (¬ x7 ≤ ((FI u 408 a0) * x2) → ∃ b_5 : Nat, FR u 400 a0 = some b_5 ∧ (kd u b_5 = 101) ∧ vp_in (x7 - 1) (ln u b_5) ∧ ((AI u b_5 (tn (x7 - 1)) ≤ x6 → vp_in x7 (ln u b_5) ∧ J5 (x3 + 1) (x4 + 1) (sAI u b_5 (upd (AI u b_5) (tn x7) x6))) ∧ (¬ AI u b_5 (tn (x7 - 1)) ≤ x6 → vp_in (x7 - 1) (ln u b_5) ∧ vp_in x7 (ln u b_5) ∧ J104 (x7 + (-1)) (sAI u b_5 (upd (AI u b_5) (tn x7) (AI u b_5 (tn (x7 - 1)))))))))
def bX4_someLeftOut_37 (K : Hp → Prop) (J5 : Int32 → Int32 → Hp → Prop) (a0 : Nat) (a1 : Nat) (x2 : Int32) (x3 : Int32) (x4 : Int32) (J37 : Int32 → Int32 → Hp → Prop) (x5 : Int32) (x6 : Int32) (u : Hp) : Prop :=
  (kd u a1 = 17) ∧ ((FI u 2005 a1 ≤ x6 → (kd u a0 = 4) ∧ ∃ b_12 : Nat, FR u 407 a0 = some b_12 ∧ pX20_rank u a1 b_12 x5 (fun (r_14 : Int32) => jl2 (bX4_someLeftOut_104 K J5 a0 a1 x2 x3 x4 r_14) (((FI u 408 a0) * x2) + x3) u)) ∧ (¬ FI u 2005 a1 ≤ x6 → pX1_has x4 x6 (fun (r_15 : Int32) => ((r_15 = 0 → J37 x5 (x6 + 1) u) ∧ (¬ r_15 = 0 → (kd u a0 = 4) ∧ ∃ b_17 : Nat, FR u 407 a0 = some b_17 ∧ ∃ b_19 : Nat, FR u 406 a0 = some b_19 ∧ (kd u b_19 = 101) ∧ vp_in x6 (ln u b_19) ∧ (kd u b_17 = 101) ∧ vp_in x5 (ln u b_17) ∧ J37 (x5 + 1) (x6 + 1) (sAI u b_17 (upd (AI u b_17) (tn x5) (AI u b_19 (tn x6)))))))))
def bX4_someLeftOut_5 (K : Hp → Prop) (a0 : Nat) (a1 : Nat) (x2 : Int32) (J5 : Int32 → Int32 → Hp → Prop) (x3 : Int32) (x4 : Int32) (u : Hp) : Prop :=
  (kd u a1 = 17) ∧ ((jshl 1 (FI u 2005 a1) ≤ x4 → K u) ∧ (¬ jshl 1 (FI u 2005 a1) ≤ x4 → pX1_ones x4 (fun (r_26 : Int32) => pX20_rows u a1 (fun (r_27 : Int32) => ((r_26 = r_27 → jl3 (bX4_someLeftOut_37 K J5 a0 a1 x2 x3 x4) 0 0 u) ∧ (¬ r_26 = r_27 → J5 x3 (x4 + 1) u))))))
def pX4_someLeftOut (u : Hp) (a0 : Nat) (a1 : Nat) (x2 : Int32) (K : Hp → Prop) : Prop :=
  jl3 (bX4_someLeftOut_5 K a0 a1 x2) 0 0 u
/-! X4_allOrders -/
def bX4_allOrders_86 (K : Hp → Prop) (J8 : Int32 → Hp → Prop) (J27 : Int32 → Int32 → Int32 → Hp → Prop) (J71 : Int32 → Int32 → Prop) (a0 : Nat) (a1 : Nat) (x2 : Int32) (x3 : Int32) (x4 : Int32) (x5 : Int32) (x6 : Int32) (x7 : Int32) (x9 : Int32) (x10 : Int32) (u : Hp) : Prop :=
  pX1_has x6 x10 (fun (r_1 : Int32) => ((r_1 = 0 → J71 (x9 - 1) (x10 + 1)) ∧ (¬ r_1 = 0 → J71 (x9 - 0) (x10 + 1))))
def bX4_allOrders_71 (K : Hp → Prop) (J8 : Int32 → Hp → Prop) (J27 : Int32 → Int32 → Int32 → Hp → Prop) (a0 : Nat) (a1 : Nat) (x2 : Int32) (x3 : Int32) (x4 : Int32) (x5 : Int32) (x6 : Int32) (x7 : Int32) (u : Hp) (J71 : Int32 → Int32 → Prop) (x9 : Int32) (x10 : Int32) : Prop :=
  pX1_has x6 x10 (fun (r_3 : Int32) => ((r_3 = 0 → ((x9 ≤ 0 → (kd u a0 = 4) ∧ ∃ b_5 : Nat, FR u 407 a0 = some b_5 ∧ ∃ b_7 : Nat, FR u 406 a0 = some b_7 ∧ (kd u b_7 = 101) ∧ vp_in x10 (ln u b_7) ∧ (kd u b_5 = 101) ∧ vp_in x7 (ln u b_5) ∧ J27 x5 (x6 ||| (jshl 1 x10)) (x7 + 1) (sAI u b_5 (upd (AI u b_5) (tn x7) (AI u b_7 (tn x10))))) ∧ (¬ x9 ≤ 0 → bX4_allOrders_86 K J8 J27 J71 a0 a1 x2 x3 x4 x5 x6 x7 x9 x10 u))) ∧ (¬ r_3 = 0 → bX4_allOrders_86 K J8 J27 J71 a0 a1 x2 x3 x4 x5 x6 x7 x9 x10 u)))
def bX4_allOrders_27 (K : Hp → Prop) (J8 : Int32 → Hp → Prop) (a0 : Nat) (a1 : Nat) (x2 : Int32) (x3 : Int32) (x4 : Int32) (J27 : Int32 → Int32 → Int32 → Hp → Prop) (x5 : Int32) (x6 : Int32) (x7 : Int32) (u : Hp) : Prop :=
  ((x3 ≤ x7 → (kd u a0 = 4) ∧ ∃ b_14 : Nat, FR u 400 a0 = some b_14 ∧ ∃ b_16 : Nat, FR u 407 a0 = some b_16 ∧ (kd u a1 = 17) ∧ pX20_rank u a1 b_16 x3 (fun (r_19 : Int32) => (kd u b_14 = 101) ∧ vp_in (((FI u 408 a0) * x2) + x4) (ln u b_14) ∧ J8 (x4 + 1) (sAI u b_14 (upd (AI u b_14) (tn (((FI u 408 a0) * x2) + x4)) r_19)))) ∧ (¬ x3 ≤ x7 → (kd u a1 = 17) ∧ pX1_falling (((FI u 2005 a1) - x7) - 1) ((x3 - x7) - 1) (fun (r_22 : Int64) => (¬ r_22.toInt32 = 0) ∧ (¬ r_22.toInt32 = 0) ∧ jl2 (bX4_allOrders_71 K J8 J27 a0 a1 x2 x3 x4 (jrem x5 (r_22.toInt32)) x6 x7 u) (x5 / (r_22.toInt32)) 0)))
def bX4_allOrders_8 (K : Hp → Prop) (a0 : Nat) (a1 : Nat) (x2 : Int32) (x3 : Int32) (J8 : Int32 → Hp → Prop) (x4 : Int32) (u : Hp) : Prop :=
  (kd u a0 = 4) ∧ ((FI u 408 a0 ≤ x4 → K u) ∧ (¬ FI u 408 a0 ≤ x4 → jl4 (bX4_allOrders_27 K J8 a0 a1 x2 x3 x4) x4 0 0 u))
def pX4_allOrders (u : Hp) (a0 : Nat) (a1 : Nat) (x2 : Int32) (K : Hp → Prop) : Prop :=
  (kd u a1 = 17) ∧ pX20_rows u a1 (fun (r_27 : Int32) => jl2 (bX4_allOrders_8 K a0 a1 x2 r_27) 0 u)
/-! X4_lay -/
def bX4_lay_76 (K : Hp → Prop) (a0 : Nat) (a1 : Nat) (J76 : Int32 → Hp → Prop) (x2 : Int32) (u : Hp) : Prop :=
  (kd u a0 = 4) ∧ ((FI u 409 a0 ≤ x2 → K (sFI (sFI u 412 a0 (-1)) 413 a0 0)) ∧ (¬ FI u 409 a0 ≤ x2 → ∃ b_2 : Nat, FR u 406 a0 = some b_2 ∧ (kd u a1 = 17) ∧ pX20_layHand u a1 x2 b_2 (fun (u_5 : Hp) => (kd u_5 a1 = 17) ∧ ((FI u_5 2009 a1 = 0 → ((FI u_5 2010 a1 = 0 → (kd u_5 a0 = 4) ∧ pX4_allOrders u_5 a0 a1 x2 (fun (u_10 : Hp) => J76 (x2 + 1) u_10)) ∧ (¬ FI u_5 2010 a1 = 0 → (kd u_5 a0 = 4) ∧ pX4_someLeftOut u_5 a0 a1 x2 (fun (u_12 : Hp) => J76 (x2 + 1) u_12)))) ∧ (¬ FI u_5 2009 a1 = 0 → (kd u_5 a0 = 4) ∧ pX4_someLeftOut u_5 a0 a1 x2 (fun (u_8 : Hp) => J76 (x2 + 1) u_8))))))
def bX4_lay_36 (K : Hp → Prop) (a0 : Nat) (a1 : Nat) (z0 : Nat) (u : Hp) : Prop :=
  (kd u a1 = 17) ∧ pX20_rows u a1 (fun (r_17 : Int32) => pX1_falling (FI u 2005 a1) r_17 (fun (r_18 : Int64) => pX20_rows u a1 (fun (r_19 : Int32) => pX1_factorial r_19 (fun (r_20 : Int32) => (¬ r_20.toInt64 = 0) ∧ (kd u z0 = 4) ∧ jl2 (bX4_lay_76 K a0 a1) 0 (sFI u 408 z0 ((r_18 / (r_20.toInt64)).toInt32))))))
def pX4_lay (u : Hp) (a0 : Nat) (a1 : Nat) (K : Hp → Prop) : Prop :=
  (kd u a1 = 17) ∧ pX20_hands u a1 (FI u 2003 a1) (fun (r_23 : Int64) => (kd u a0 = 4) ∧ pX20_tiltings (sFI u 409 a0 (r_23.toInt32)) a1 (fun (r_25 : Int32) => ((FI (sFI (sFI u 409 a0 (r_23.toInt32)) 410 a0 r_25) 2009 a1 = 0 → ((FI (sFI (sFI u 409 a0 (r_23.toInt32)) 410 a0 r_25) 2010 a1 = 0 → pX20_rows (sFI (sFI u 409 a0 (r_23.toInt32)) 410 a0 r_25) a1 (fun (r_26 : Int32) => pX1_falling (FI (sFI (sFI u 409 a0 (r_23.toInt32)) 410 a0 r_25) 2005 a1) r_26 (fun (r_27 : Int64) => jl2 (bX4_lay_76 K a0 a1) 0 (sFI (sFI (sFI u 409 a0 (r_23.toInt32)) 410 a0 r_25) 408 a0 (r_27.toInt32))))) ∧ (¬ FI (sFI (sFI u 409 a0 (r_23.toInt32)) 410 a0 r_25) 2010 a1 = 0 → bX4_lay_36 K a0 a1 a0 (sFI (sFI u 409 a0 (r_23.toInt32)) 410 a0 r_25)))) ∧ (¬ FI (sFI (sFI u 409 a0 (r_23.toInt32)) 410 a0 r_25) 2009 a1 = 0 → bX4_lay_36 K a0 a1 a0 (sFI (sFI u 409 a0 (r_23.toInt32)) 410 a0 r_25)))))
/-! X5_add -/
def pX5_add (u : Hp) (a0 : Nat) (x1 : Int32) (x2 : Int32) (K : Hp → Prop) : Prop :=
  (kd u a0 = 5) ∧ ∃ b_2 : Nat, FR u 500 a0 = some b_2 ∧ (kd u b_2 = 101) ∧ vp_in (FI u 502 a0) (ln u b_2) ∧ ∃ b_5 : Nat, FR u 501 a0 = some b_5 ∧ (kd u b_5 = 101) ∧ vp_in (FI u 502 a0) (ln u b_5) ∧ K (sFI (sAI (sAI u b_2 (upd (AI u b_2) (tn (FI u 502 a0)) x1)) b_5 (upd (AI (sAI u b_2 (upd (AI u b_2) (tn (FI u 502 a0)) x1)) b_5) (tn (FI u 502 a0)) x2)) 502 a0 ((FI u 502 a0) + 1))
/-! X19_refused -/
def pX19_refused (u : Hp) (a0 : Nat) (x1 : Int32) (K : Int32 → Hp → Prop) : Prop :=
  (kd u a0 = 16) ∧ K (-1) (sFI (sFI u 1901 a0 x1) 1902 a0 (-1))
/-! X23_init -/
def pX23_init (u : Hp) (a0 : Nat) (mc ms : Nat) (K : Hp → Prop) : Prop :=
  1 ≤ mc ∧ 4 ≤ ms ∧ ∀ q_1 : Nat, kd u q_1 = 0 → (kd (mkC u q_1 101 4) a0 = 20) ∧ 1 ≤ (mc - 1) ∧ 45 ≤ (ms - 4) ∧ ∀ q_7 : Nat, kd (mkC u q_1 101 4) q_7 = 0 → ∀ u_14 : Hp, u_14 = (mkC (sFR (mkC u q_1 101 4) 2310 a0 (some q_1)) q_7 101 45) → 1 ≤ ((mc - 1) - 1) ∧ 45 ≤ ((ms - 4) - 45) ∧ ∀ q_19 : Nat, kd u_14 q_19 = 0 → ∀ u_27 : Hp, u_27 = (sFR (mkC (sFR u_14 2311 a0 (some q_7)) q_19 101 45) 2312 a0 (some q_19)) → 1 ≤ (((mc - 1) - 1) - 1) ∧ 9 ≤ (((ms - 4) - 45) - 45) ∧ ∀ q_33 : Nat, kd u_27 q_33 = 0 → 1 ≤ ((((mc - 1) - 1) - 1) - 1) ∧ 4 ≤ ((((ms - 4) - 45) - 45) - 9) ∧ ∀ q_42 : Nat, kd (mkC u_27 q_33 101 9) q_42 = 0 → ∀ u_52 : Hp, u_52 = (mkC (sFR (mkC u_27 q_33 101 9) 2313 a0 (some q_33)) q_42 105 4) → K (sFR u_52 2314 a0 (some q_42))
/-! X19_byteAt -/
def pX19_byteAt (u : Hp) (a0 : Nat) (x1 : Int32) (K : Int32 → Prop) : Prop :=
  (kd u a0 = 16) ∧ ((FI u 1907 a0 ≤ x1 → K (-1)) ∧ (¬ FI u 1907 a0 ≤ x1 → ∃ b_2 : Nat, FR u 1905 a0 = some b_2 ∧ (kd u b_2 = 102 ∨ kd u b_2 = 202) ∧ vp_in x1 (ln u b_2) ∧ K ((AI u b_2 (tn x1)) &&& 255)))
/-! X19_isLetter -/
def pX19_isLetter (x0 : Int32) (K : Int32 → Prop) : Prop :=
  ((x0 < 97 → K 0) ∧ (¬ x0 < 97 → ((122 < x0 → K 0) ∧ (¬ 122 < x0 → K 1))))
/-! X19_isDigit -/
def pX19_isDigit (x0 : Int32) (K : Int32 → Prop) : Prop :=
  ((x0 < 48 → K 0) ∧ (¬ x0 < 48 → ((57 < x0 → K 0) ∧ (¬ 57 < x0 → K 1))))
/-! X19_goesOn -/
def bX19_goesOn_178 (K : Hp → Prop) (a0 : Nat) (J178 : Int32 → Hp → Prop) (x2 : Int32) (u : Hp) : Prop :=
  (kd u a0 = 16) ∧ pX19_byteAt u a0 (FI u 1908 a0) (fun (r_2 : Int32) => pX19_isDigit r_2 (fun (r_3 : Int32) => ((r_3 = 0 → ((3 < x2 → K u) ∧ (¬ 3 < x2 → K (sFI u 1909 a0 3)))) ∧ (¬ r_3 = 0 → ((3 ≤ x2 → J178 (x2 + 1) (sFI u 1908 a0 ((FI u 1908 a0) + 1))) ∧ (¬ 3 ≤ x2 → pX19_byteAt u a0 (FI u 1908 a0) (fun (r_5 : Int32) => J178 (x2 + 1) (sFI (sFI u 1912 a0 (((10 * (FI u 1912 a0)) + r_5) - 48)) 1908 a0 ((FI (sFI u 1912 a0 (((10 * (FI u 1912 a0)) + r_5) - 48)) 1908 a0) + 1)))))))))
def bX19_goesOn_89 (K : Hp → Prop) (a0 : Nat) (J89 : Int32 → Hp → Prop) (x2 : Int32) (u : Hp) : Prop :=
  (kd u a0 = 16) ∧ pX19_byteAt u a0 (FI u 1908 a0) (fun (r_9 : Int32) => pX19_isLetter r_9 (fun (r_10 : Int32) => ((r_10 = 0 → ((8 < x2 → K u) ∧ (¬ 8 < x2 → K (sFI u 1909 a0 2)))) ∧ (¬ r_10 = 0 → ((8 ≤ x2 → J89 (x2 + 1) (sFI u 1908 a0 ((FI u 1908 a0) + 1))) ∧ (¬ 8 ≤ x2 → pX19_byteAt u a0 (FI u 1908 a0) (fun (r_12 : Int32) => J89 (x2 + 1) (sFI (sFJ u 1915 a0 ((32 * (FJ u 1915 a0)) + (((r_12 - 97) + 1).toInt64))) 1908 a0 ((FI u 1908 a0) + 1)))))))))
def bX19_goesOn_9 (K : Hp → Prop) (a0 : Nat) (J9 : Hp → Prop) (u : Hp) : Prop :=
  (kd u a0 = 16) ∧ pX19_byteAt u a0 (FI u 1908 a0) (fun (r_16 : Int32) => ((r_16 = 32 → J9 (sFI u 1908 a0 ((FI u 1908 a0) + 1))) ∧ (¬ r_16 = 32 → pX19_byteAt (sFI (sFI (sFI u 1910 a0 (FI u 1908 a0)) 1909 a0 0) 1911 a0 0) a0 (FI (sFI (sFI (sFI u 1910 a0 (FI u 1908 a0)) 1909 a0 0) 1911 a0 0) 1908 a0) (fun (r_17 : Int32) => ((r_17 = (-1) → ∀ u_27 : Hp, u_27 = (sFI (sFI (sFI u 1910 a0 (FI u 1908 a0)) 1909 a0 0) 1911 a0 0) → K (sFI u_27 1909 a0 1)) ∧ (¬ r_17 = (-1) → ∀ u_18 : Hp, u_18 = (sFI (sFI (sFI u 1910 a0 (FI u 1908 a0)) 1909 a0 0) 1911 a0 0) → pX19_isLetter r_17 (fun (r_21 : Int32) => ((r_21 = 0 → pX19_isDigit r_17 (fun (r_22 : Int32) => ((r_22 = 0 → ((r_17 = 59 → K (sFI (sFI (sFI u_18 1909 a0 4) 1911 a0 r_17) 1908 a0 ((FI (sFI (sFI u_18 1909 a0 4) 1911 a0 r_17) 1908 a0) + 1))) ∧ (¬ r_17 = 59 → ((r_17 = 44 → K (sFI (sFI (sFI u_18 1909 a0 4) 1911 a0 r_17) 1908 a0 ((FI (sFI (sFI u_18 1909 a0 4) 1911 a0 r_17) 1908 a0) + 1))) ∧ (¬ r_17 = 44 → K u_18))))) ∧ (¬ r_22 = 0 → jl2 (bX19_goesOn_178 K a0) 0 (sFI u_18 1912 a0 0))))) ∧ (¬ r_21 = 0 → jl2 (bX19_goesOn_89 K a0) 0 (sFJ u_18 1915 a0 0))))))))))
def pX19_goesOn (u : Hp) (a0 : Nat) (K : Hp → Prop) : Prop :=
  (kd u a0 = 16) ∧ ((FI u 1909 a0 = 5 → K u) ∧ (¬ FI u 1909 a0 = 5 → jl1 (bX19_goesOn_9 K a0) u))
/-! X19_wordOf -/
def bX19_wordOf_4 (K : Int64 → Prop) (a0 : Nat) (u : Hp) (J4 : Int64 → Int32 → Prop) (y1 : Int64) (x3 : Int32) : Prop :=
  (kd u a0 = 21 ∨ kd u a0 = 201) ∧ pJ3_length u a0 (fun (r_2 : Int32) => ((r_2 ≤ x3 → K y1) ∧ (¬ r_2 ≤ x3 → pJ3_charAt u a0 x3 (fun (r_3 : Int32) => ∀ x1_4 : Int64, x1_4 = (32 * y1) + (((r_3 - 97) + 1).toInt64) → J4 x1_4 (x3 + 1)))))
def pX19_wordOf (u : Hp) (a0 : Nat) (K : Int64 → Prop) : Prop :=
  jl2 (bX19_wordOf_4 K a0 u) 0 0
/-! X19_isWord -/
def pX19_isWord (u : Hp) (a0 : Nat) (a1 : Nat) (K : Int32 → Prop) : Prop :=
  (kd u a0 = 16) ∧ ((FI u 1909 a0 = 2 → pX19_wordOf u a1 (fun (r_2 : Int64) => ((lg_cmp (FJ u 1915 a0) r_2 = 0 → K 1) ∧ (¬ lg_cmp (FJ u 1915 a0) r_2 = 0 → K 0)))) ∧ (¬ FI u 1909 a0 = 2 → K 0))
/-! X19_flaw -/
def pX19_flaw (u : Hp) (a0 : Nat) (x1 : Int32) (K : Hp → Prop) : Prop :=
  (kd u a0 = 16) ∧ ((FI u 1909 a0 = 5 → K u) ∧ (¬ FI u 1909 a0 = 5 → K (sFI (sFI (sFI u 1913 a0 x1) 1914 a0 (FI (sFI u 1913 a0 x1) 1910 a0)) 1909 a0 5)))
/-! X19_needs -/
def pX19_needs (u : Hp) (a0 : Nat) (a1 : Nat) (K : Hp → Prop) : Prop :=
  (kd u a0 = 16) ∧ pX19_isWord u a0 a1 (fun (r_2 : Int32) => ((r_2 = 0 → pX19_flaw u a0 1 (fun (u_4 : Hp) => (kd u_4 a0 = 16) ∧ pX19_goesOn u_4 a0 (fun (u_6 : Hp) => K u_6))) ∧ (¬ r_2 = 0 → pX19_goesOn u a0 (fun (u_3 : Hp) => K u_3))))
/-! X19_in -/
def pX19_in (x0 : Int32) (x1 : Int32) (x2 : Int32) (K : Int32 → Prop) : Prop :=
  ((x0 < x1 → K 0) ∧ (¬ x0 < x1 → ((x2 < x0 → K 0) ∧ (¬ x2 < x0 → K 1))))
/-! X19_bounded -/
def pX19_bounded (u : Hp) (a0 : Nat) (x1 : Int32) (x2 : Int32) (K : Int32 → Hp → Prop) : Prop :=
  (kd u a0 = 16) ∧ ((FI u 1909 a0 = 3 → pX19_in (FI u 1912 a0) x1 x2 (fun (r_2 : Int32) => ((r_2 = 0 → pX19_flaw u a0 4 (fun (u_4 : Hp) => (kd u_4 a0 = 16) ∧ ((FI u_4 1909 a0 = 5 → K x1 u_4) ∧ (¬ FI u_4 1909 a0 = 5 → K (FI u_4 1912 a0) u_4)))) ∧ (¬ r_2 = 0 → ((FI u 1909 a0 = 5 → K x1 u) ∧ (¬ FI u 1909 a0 = 5 → K (FI u 1912 a0) u)))))) ∧ (¬ FI u 1909 a0 = 3 → pX19_flaw u a0 1 (fun (u_8 : Hp) => (kd u_8 a0 = 16) ∧ ((FI u_8 1909 a0 = 5 → K x1 u_8) ∧ (¬ FI u_8 1909 a0 = 5 → K (FI u_8 1912 a0) u_8)))))
/-! X19_readPart -/
def pX19_readPart (u : Hp) (a0 : Nat) (a1 : Nat) (x2 : Int32) (x3 : Int32) (K : Int32 → Hp → Prop) : Prop :=
  (kd u a0 = 16) ∧ pX19_needs u a0 a1 (fun (u_2 : Hp) => (kd u_2 a0 = 16) ∧ pX19_bounded u_2 a0 x2 x3 (fun (r_4 : Int32) (u_5 : Hp) => (kd u_5 a0 = 16) ∧ pX19_goesOn u_5 a0 (fun (u_7 : Hp) => K r_4 u_7)))
/-! X19_rowsOf -/
def bX19_rowsOf_5 (K : Int64 → Prop) (x0 : Int32) (x1 : Int32) (J5 : Int64 → Int32 → Prop) (y2 : Int64) (x4 : Int32) : Prop :=
  ((x1 ≤ x4 → K y2) ∧ (¬ x1 ≤ x4 → J5 (y2 * ((x0 - x4).toInt64)) (x4 + 1)))
def pX19_rowsOf (x0 : Int32) (x1 : Int32) (K : Int64 → Prop) : Prop :=
  jl2 (bX19_rowsOf_5 K x0 x1) 1 0
/-! X19_setsOf -/
def pX19_setsOf (x0 : Int32) (x1 : Int32) (K : Int64 → Prop) : Prop :=
  pX19_rowsOf x0 x1 (fun (r_1 : Int64) => pX19_rowsOf x1 x1 (fun (r_2 : Int64) => (¬ r_2 = 0) ∧ K (r_1 / r_2)))
/-! X23_handsOf -/
def pX23_handsOf (u : Hp) (a0 : Nat) (x1 : Int32) (K : Int64 → Prop) : Prop :=
  (kd u a0 = 20) ∧ ((FI u 2307 a0 = 0 → pX19_setsOf x1 (FI u 2302 a0) (fun (r_2 : Int64) => K r_2)) ∧ (¬ FI u 2307 a0 = 0 → pX19_rowsOf x1 (FI u 2302 a0) (fun (r_3 : Int64) => K r_3)))
/-! X19_eatsWord -/
def pX19_eatsWord (u : Hp) (a0 : Nat) (a1 : Nat) (K : Int32 → Hp → Prop) : Prop :=
  (kd u a0 = 16) ∧ pX19_isWord u a0 a1 (fun (r_2 : Int32) => ((r_2 = 0 → narrow .boolean (.int r_2) = .int r_2 ∧ K r_2 u) ∧ (¬ r_2 = 0 → pX19_goesOn u a0 (fun (u_3 : Hp) => narrow .boolean (.int r_2) = .int r_2 ∧ K r_2 u_3))))
/-! X19_readTrick -/
def bX19_readTrick_199 (K : Hp → Prop) (L : Nat → Nat) (a0 : Nat) (x1 : Int32) (x2 : Int32) (x3 : Int32) (x4 : Int32) (z0 : Int32) (z1 : Nat) (u : Hp) : Prop :=
  (kd u z1 = 20) ∧ okf .boolean z0 ∧ (kd u a0 = 16) ∧ ∃ b_4 : Nat, FR u 1904 a0 = some b_4 ∧ pX19_eatsWord (sFI u 2308 z1 z0) a0 (L 39) (fun (r_6 : Int32) (u_7 : Hp) => (kd u_7 b_4 = 20) ∧ okf .boolean r_6 ∧ (kd u_7 a0 = 16) ∧ ((FI (sFI u_7 2309 b_4 r_6) 1909 a0 = 5 → K (sFI u_7 2309 b_4 r_6)) ∧ (¬ FI (sFI u_7 2309 b_4 r_6) 1909 a0 = 5 → ∃ b_11 : Nat, FR u_7 1904 a0 = some b_11 ∧ (kd u_7 b_11 = 20) ∧ ∀ u_14 : Hp, u_14 = (sFI (sFI (sFI u_7 2309 b_4 r_6) 2300 b_11 x1) 2301 b_11 x2) → ∃ b_19 : Nat, FR u_14 1904 a0 = some b_19 ∧ (kd u_14 b_19 = 20) ∧ K (sFI (sFI u_14 2303 b_11 x4) 2304 b_19 (x3 - x4)))))
def bX19_readTrick_167 (K : Hp → Prop) (L : Nat → Nat) (a0 : Nat) (x1 : Int32) (x2 : Int32) (x3 : Int32) (x4 : Int32) (u : Hp) : Prop :=
  (kd u a0 = 16) ∧ pX19_goesOn u a0 (fun (u_24 : Hp) => (kd u_24 a0 = 16) ∧ ∃ b_26 : Nat, FR u_24 1904 a0 = some b_26 ∧ (kd u_24 b_26 = 20) ∧ ((FI u_24 2307 b_26 = 0 → pX19_eatsWord u_24 a0 (L 38) (fun (r_29 : Int32) (u_30 : Hp) => ((r_29 = 0 → bX19_readTrick_199 K L a0 x1 x2 x3 x4 0 b_26 u_30) ∧ (¬ r_29 = 0 → bX19_readTrick_199 K L a0 x1 x2 x3 x4 1 b_26 u_30)))) ∧ (¬ FI u_24 2307 b_26 = 0 → bX19_readTrick_199 K L a0 x1 x2 x3 x4 0 b_26 u_24)))
def bX19_readTrick_117 (K : Hp → Prop) (L : Nat → Nat) (a0 : Nat) (x1 : Int32) (x2 : Int32) (x3 : Int32) (x4 : Int32) (u : Hp) : Prop :=
  (kd u a0 = 16) ∧ ∃ b_34 : Nat, FR u 1904 a0 = some b_34 ∧ pX19_isWord u a0 (L 37) (fun (r_36 : Int32) => (kd u b_34 = 20) ∧ okf .boolean r_36 ∧ ((FI (sFI (sFI u 2307 b_34 r_36) 2302 b_34 x3) 1909 a0 = 5 → bX19_readTrick_167 K L a0 x1 x2 x3 x4 (sFI (sFI u 2307 b_34 r_36) 2302 b_34 x3)) ∧ (¬ FI (sFI (sFI u 2307 b_34 r_36) 2302 b_34 x3) 1909 a0 = 5 → pX23_handsOf (sFI (sFI u 2307 b_34 r_36) 2302 b_34 x3) b_34 x1 (fun (r_39 : Int64) => ((lg_cmp r_39 2000 ≤ 0 → bX19_readTrick_167 K L a0 x1 x2 x3 x4 (sFI (sFI u 2307 b_34 r_36) 2302 b_34 x3)) ∧ (¬ lg_cmp r_39 2000 ≤ 0 → pX19_flaw (sFI (sFI u 2307 b_34 r_36) 2302 b_34 x3) a0 7 (fun (u_40 : Hp) => bX19_readTrick_167 K L a0 x1 x2 x3 x4 u_40)))))))
def bX19_readTrick_89 (K : Hp → Prop) (L : Nat → Nat) (a0 : Nat) (x1 : Int32) (x2 : Int32) (x3 : Int32) (z0 : Int32) (z1 : Int32) (z2 : Nat) (z3 : Nat) (u : Hp) : Prop :=
  (kd u z3 = 16) ∧ pX19_readPart u z3 z2 z1 z0 (fun (r_44 : Int32) (u_45 : Hp) => (kd u_45 a0 = 16) ∧ pX19_isWord u_45 a0 (L 36) (fun (r_47 : Int32) => ((r_47 = 0 → pX19_isWord u_45 a0 (L 37) (fun (r_48 : Int32) => ((r_48 = 0 → pX19_flaw u_45 a0 1 (fun (u_49 : Hp) => bX19_readTrick_117 K L a0 x1 x2 x3 r_44 u_49)) ∧ (¬ r_48 = 0 → bX19_readTrick_117 K L a0 x1 x2 x3 r_44 u_45)))) ∧ (¬ r_47 = 0 → bX19_readTrick_117 K L a0 x1 x2 x3 r_44 u_45))))
def bX19_readTrick_71 (K : Hp → Prop) (L : Nat → Nat) (a0 : Nat) (x1 : Int32) (x2 : Int32) (z0 : Int32) (z1 : Int32) (z2 : Nat) (z3 : Nat) (u : Hp) : Prop :=
  (kd u z3 = 16) ∧ pX19_readPart u z3 z2 z1 z0 (fun (r_53 : Int32) (u_54 : Hp) => ((r_53 ≤ 2 → bX19_readTrick_89 K L a0 x1 x2 r_53 1 1 (L 35) a0 u_54) ∧ (¬ r_53 ≤ 2 → bX19_readTrick_89 K L a0 x1 x2 r_53 2 1 (L 35) a0 u_54)))
def bX19_readTrick_53 (K : Hp → Prop) (L : Nat → Nat) (a0 : Nat) (x1 : Int32) (x2 : Int32) (u : Hp) : Prop :=
  (kd u a0 = 16) ∧ pX19_goesOn u a0 (fun (u_57 : Hp) => ((5 ≤ x1 → bX19_readTrick_71 K L a0 x1 x2 5 2 (L 34) a0 u_57) ∧ (¬ 5 ≤ x1 → bX19_readTrick_71 K L a0 x1 x2 x1 2 (L 34) a0 u_57)))
def bX19_readTrick_15 (K : Hp → Prop) (L : Nat → Nat) (a0 : Nat) (u : Hp) : Prop :=
  (kd u a0 = 16) ∧ pX19_goesOn u a0 (fun (u_60 : Hp) => (kd u_60 a0 = 16) ∧ pX19_readPart u_60 a0 (L 32) 4 12 (fun (r_62 : Int32) (u_63 : Hp) => (kd u_63 a0 = 16) ∧ pX19_needs u_63 a0 (L 33) (fun (u_65 : Hp) => (kd u_65 a0 = 16) ∧ pX19_bounded u_65 a0 1 4 (fun (r_67 : Int32) (u_68 : Hp) => (¬ r_67 = 0) ∧ ((jrem r_62 r_67 = 0 → bX19_readTrick_53 K L a0 r_62 r_67 u_68) ∧ (¬ jrem r_62 r_67 = 0 → (kd u_68 a0 = 16) ∧ pX19_flaw u_68 a0 4 (fun (u_70 : Hp) => bX19_readTrick_53 K L a0 r_62 r_67 u_70)))))))
def pX19_readTrick (L : Nat → Nat) (u : Hp) (a0 : Nat) (K : Hp → Prop) : Prop :=
  (kd u a0 = 16) ∧ ∃ b_73 : Nat, FR u 1904 a0 = some b_73 ∧ (kd u b_73 = 20) ∧ ((FI u 2300 b_73 ≤ 0 → bX19_readTrick_15 K L a0 u) ∧ (¬ FI u 2300 b_73 ≤ 0 → pX19_flaw u a0 3 (fun (u_76 : Hp) => bX19_readTrick_15 K L a0 u_76)))
/-! X19_begins -/
def bX19_begins_10 (K : Hp → Prop) (a0 : Nat) (u : Hp) : Prop :=
  (kd u a0 = 16) ∧ ∃ b_2 : Nat, FR u 1904 a0 = some b_2 ∧ (kd u b_2 = 20) ∧ ((FI u 2300 b_2 = 0 → pX19_flaw u a0 6 (fun (u_6 : Hp) => (kd u_6 a0 = 16) ∧ pX19_goesOn u_6 a0 (fun (u_8 : Hp) => K u_8))) ∧ (¬ FI u 2300 b_2 = 0 → pX19_goesOn u a0 (fun (u_5 : Hp) => K u_5)))
def pX19_begins (u : Hp) (a0 : Nat) (x1 : Int32) (x2 : Int32) (K : Hp → Prop) : Prop :=
  ((x1 = x2 → (kd u a0 = 16) ∧ pX19_flaw u a0 5 (fun (u_11 : Hp) => bX19_begins_10 K a0 u_11)) ∧ (¬ x1 = x2 → bX19_begins_10 K a0 u))
/-! X19_isName -/
def pX19_isName (L : Nat → Nat) (u : Hp) (a0 : Nat) (K : Int32 → Prop) : Prop :=
  (kd u a0 = 16) ∧ ((FI u 1909 a0 = 2 → pX19_isWord u a0 (L 27) (fun (r_2 : Int32) => ((r_2 = 0 → pX19_isWord u a0 (L 28) (fun (r_3 : Int32) => ((r_3 = 0 → pX19_isWord u a0 (L 29) (fun (r_4 : Int32) => ((r_4 = 0 → pX19_isWord u a0 (L 30) (fun (r_5 : Int32) => ((r_5 = 0 → pX19_isWord u a0 (L 31) (fun (r_6 : Int32) => ((r_6 = 0 → K 1) ∧ (¬ r_6 = 0 → K 0)))) ∧ (¬ r_5 = 0 → K 0)))) ∧ (¬ r_4 = 0 → K 0)))) ∧ (¬ r_3 = 0 → K 0)))) ∧ (¬ r_2 = 0 → K 0)))) ∧ (¬ FI u 1909 a0 = 2 → K 0))
/-! X19_readWords -/
def bX19_readWords_146 (K : Int32 → Hp → Prop) (L : Nat → Nat) (a0 : Nat) (x1 : Int32) (z0 : Int32) (u : Hp) : Prop :=
  ((z0 = (-1) → (kd u a0 = 16) ∧ pX19_flaw u a0 1 (fun (u_2 : Hp) => K ((5 * x1) + z0) u_2)) ∧ (¬ z0 = (-1) → K ((5 * x1) + z0) u))
def bX19_readWords_68 (K : Int32 → Hp → Prop) (L : Nat → Nat) (a0 : Nat) (x1 : Int32) (u : Hp) : Prop :=
  (kd u a0 = 16) ∧ pX19_needs u a0 (L 47) (fun (u_5 : Hp) => (kd u_5 a0 = 16) ∧ pX19_eatsWord u_5 a0 (L 48) (fun (r_7 : Int32) (u_8 : Hp) => ((r_7 = 0 → (kd u_8 a0 = 16) ∧ pX19_eatsWord u_8 a0 (L 49) (fun (r_10 : Int32) (u_11 : Hp) => ((r_10 = 0 → (kd u_11 a0 = 16) ∧ pX19_eatsWord u_11 a0 (L 50) (fun (r_13 : Int32) (u_14 : Hp) => ((r_13 = 0 → (kd u_14 a0 = 16) ∧ pX19_eatsWord u_14 a0 (L 51) (fun (r_16 : Int32) (u_17 : Hp) => ((r_16 = 0 → (kd u_17 a0 = 16) ∧ pX19_eatsWord u_17 a0 (L 46) (fun (r_19 : Int32) (u_20 : Hp) => ((r_19 = 0 → bX19_readWords_146 K L a0 x1 (-1) u_20) ∧ (¬ r_19 = 0 → bX19_readWords_146 K L a0 x1 4 u_20)))) ∧ (¬ r_16 = 0 → bX19_readWords_146 K L a0 x1 3 u_17)))) ∧ (¬ r_13 = 0 → bX19_readWords_146 K L a0 x1 2 u_14)))) ∧ (¬ r_10 = 0 → bX19_readWords_146 K L a0 x1 1 u_11)))) ∧ (¬ r_7 = 0 → bX19_readWords_146 K L a0 x1 0 u_8))))
def pX19_readWords (L : Nat → Nat) (u : Hp) (a0 : Nat) (K : Int32 → Hp → Prop) : Prop :=
  (kd u a0 = 16) ∧ pX19_eatsWord u a0 (L 43) (fun (r_27 : Int32) (u_28 : Hp) => ((r_27 = 0 → (kd u_28 a0 = 16) ∧ pX19_eatsWord u_28 a0 (L 44) (fun (r_30 : Int32) (u_31 : Hp) => ((r_30 = 0 → (kd u_31 a0 = 16) ∧ pX19_eatsWord u_31 a0 (L 45) (fun (r_33 : Int32) (u_34 : Hp) => ((r_33 = 0 → (kd u_34 a0 = 16) ∧ pX19_eatsWord u_34 a0 (L 46) (fun (r_36 : Int32) (u_37 : Hp) => ((r_36 = 0 → (kd u_37 a0 = 16) ∧ pX19_flaw u_37 a0 1 (fun (u_39 : Hp) => bX19_readWords_68 K L a0 (-1) u_39)) ∧ (¬ r_36 = 0 → bX19_readWords_68 K L a0 3 u_37)))) ∧ (¬ r_33 = 0 → bX19_readWords_68 K L a0 2 u_34)))) ∧ (¬ r_30 = 0 → bX19_readWords_68 K L a0 1 u_31)))) ∧ (¬ r_27 = 0 → bX19_readWords_68 K L a0 0 u_28)))
/-! X19_readRule -/
def bX19_readRule_141 (K : Hp → Prop) (L : Nat → Nat) (a0 : Nat) (y1 : Int64) (x3 : Int32) (u : Hp) : Prop :=
  (kd u a0 = 16) ∧ ((FI u 1909 a0 = 5 → K u) ∧ (¬ FI u 1909 a0 = 5 → ∃ b_2 : Nat, FR u 1904 a0 = some b_2 ∧ (kd u b_2 = 20) ∧ ∃ b_5 : Nat, FR u 2314 b_2 = some b_5 ∧ (kd u b_5 = 105) ∧ vp_in (FI u 2305 b_2) (ln u b_5) ∧ ∃ b_8 : Nat, FR u 2310 b_2 = some b_8 ∧ (kd u b_8 = 101) ∧ vp_in (FI u 2305 b_2) (ln u b_8) ∧ K (sFI (sAI (sAJ u b_5 (vp_updL (AJ u b_5) (tn (FI u 2305 b_2)) y1)) b_8 (upd (AI u b_8) (tn (FI u 2305 b_2)) x3)) 2305 b_2 ((FI u 2305 b_2) + 1))))
def bX19_readRule_26 (K : Hp → Prop) (L : Nat → Nat) (a0 : Nat) (J26 : Int32 → Hp → Prop) (x1 : Int32) (u : Hp) : Prop :=
  (kd u a0 = 16) ∧ ∃ b_13 : Nat, FR u 1904 a0 = some b_13 ∧ (kd u b_13 = 20) ∧ ((FI u 2305 b_13 ≤ x1 → pX19_goesOn u a0 (fun (u_16 : Hp) => (kd u_16 a0 = 16) ∧ pX19_eatsWord u_16 a0 (L 40) (fun (r_18 : Int32) (u_19 : Hp) => ((r_18 = 0 → (kd u_19 a0 = 16) ∧ pX19_eatsWord u_19 a0 (L 41) (fun (r_21 : Int32) (u_22 : Hp) => ((r_21 = 0 → (kd u_22 a0 = 16) ∧ pX19_eatsWord u_22 a0 (L 42) (fun (r_24 : Int32) (u_25 : Hp) => ((r_24 = 0 → (kd u_25 a0 = 16) ∧ pX19_flaw u_25 a0 1 (fun (u_27 : Hp) => bX19_readRule_141 K L a0 (FJ u 1915 a0) (-1) u_27)) ∧ (¬ r_24 = 0 → (kd u_25 a0 = 16) ∧ pX19_readWords L u_25 a0 (fun (r_30 : Int32) (u_31 : Hp) => ((r_30 = (-1) → (kd u_31 a0 = 16) ∧ pX19_flaw u_31 a0 1 (fun (u_33 : Hp) => bX19_readRule_141 K L a0 (FJ u 1915 a0) r_30 u_33)) ∧ (¬ r_30 = (-1) → bX19_readRule_141 K L a0 (FJ u 1915 a0) r_30 u_31))))))) ∧ (¬ r_21 = 0 → bX19_readRule_141 K L a0 (FJ u 1915 a0) 21 u_22)))) ∧ (¬ r_18 = 0 → bX19_readRule_141 K L a0 (FJ u 1915 a0) 20 u_19))))) ∧ (¬ FI u 2305 b_13 ≤ x1 → ((FI u 1909 a0 = 5 → J26 (x1 + 1) u) ∧ (¬ FI u 1909 a0 = 5 → ∃ b_40 : Nat, FR u 2314 b_13 = some b_40 ∧ (kd u b_40 = 105) ∧ vp_in x1 (ln u b_40) ∧ ((lg_cmp (AJ u b_40 (tn x1)) (FJ u 1915 a0) = 0 → pX19_flaw u a0 3 (fun (u_43 : Hp) => J26 (x1 + 1) u_43)) ∧ (¬ lg_cmp (AJ u b_40 (tn x1)) (FJ u 1915 a0) = 0 → J26 (x1 + 1) u))))))
def pX19_readRule (L : Nat → Nat) (u : Hp) (a0 : Nat) (K : Hp → Prop) : Prop :=
  (kd u a0 = 16) ∧ ∃ b_48 : Nat, FR u 1904 a0 = some b_48 ∧ (kd u b_48 = 20) ∧ pX19_begins u a0 (FI u 2305 b_48) 4 (fun (u_51 : Hp) => (kd u_51 a0 = 16) ∧ pX19_isName L u_51 a0 (fun (r_53 : Int32) => ((r_53 = 0 → pX19_flaw u_51 a0 1 (fun (u_54 : Hp) => jl2 (bX19_readRule_26 K L a0) 0 u_54)) ∧ (¬ r_53 = 0 → jl2 (bX19_readRule_26 K L a0) 0 u_51))))
/-! X19_needsSign -/
def bX19_needsSign_16 (K : Hp → Prop) (a0 : Nat) (u : Hp) : Prop :=
  (kd u a0 = 16) ∧ pX19_flaw u a0 1 (fun (u_2 : Hp) => (kd u_2 a0 = 16) ∧ pX19_goesOn u_2 a0 (fun (u_4 : Hp) => K u_4))
def pX19_needsSign (u : Hp) (a0 : Nat) (x1 : Int32) (K : Hp → Prop) : Prop :=
  (kd u a0 = 16) ∧ ((FI u 1909 a0 = 4 → ((FI u 1911 a0 = x1 → pX19_goesOn u a0 (fun (u_6 : Hp) => K u_6)) ∧ (¬ FI u 1911 a0 = x1 → bX19_needsSign_16 K a0 u))) ∧ (¬ FI u 1909 a0 = 4 → bX19_needsSign_16 K a0 u))
/-! X19_readUnlike -/
def bX19_readUnlike_58 (K : Hp → Prop) (J6 : Int32 → Int32 → Hp → Prop) (a0 : Nat) (a1 : Nat) (x2 : Int32) (x3 : Int32) (x4 : Int32) (x5 : Int32) (x6 : Int32) (x7 : Int32) (u : Hp) : Prop :=
  (kd u a0 = 16) ∧ pX19_goesOn u a0 (fun (u_2 : Hp) => (kd u_2 a1 = 101) ∧ vp_in (x2 + x6) (ln u_2 a1) ∧ J6 (x5 ||| (jshl 1 x7)) (x6 + 1) (sAI u_2 a1 (upd (AI u_2 a1) (tn (x2 + x6)) x7)))
def bX19_readUnlike_31 (K : Hp → Prop) (J6 : Int32 → Int32 → Hp → Prop) (a0 : Nat) (a1 : Nat) (x2 : Int32) (x3 : Int32) (x4 : Int32) (x5 : Int32) (x6 : Int32) (u : Hp) : Prop :=
  (kd u a0 = 16) ∧ pX19_bounded u a0 0 (x4 - 1) (fun (r_5 : Int32) (u_6 : Hp) => (((jshr x5 r_5) &&& 1 = 1 → (kd u_6 a0 = 16) ∧ pX19_flaw u_6 a0 3 (fun (u_8 : Hp) => bX19_readUnlike_58 K J6 a0 a1 x2 x3 x4 x5 x6 r_5 u_8)) ∧ (¬ (jshr x5 r_5) &&& 1 = 1 → bX19_readUnlike_58 K J6 a0 a1 x2 x3 x4 x5 x6 r_5 u_6)))
def bX19_readUnlike_6 (K : Hp → Prop) (a0 : Nat) (a1 : Nat) (x2 : Int32) (x3 : Int32) (x4 : Int32) (J6 : Int32 → Int32 → Hp → Prop) (x5 : Int32) (x6 : Int32) (u : Hp) : Prop :=
  ((x3 ≤ x6 → K u) ∧ (¬ x3 ≤ x6 → (kd u a0 = 16) ∧ ((FI u 1909 a0 = 5 → K u) ∧ (¬ FI u 1909 a0 = 5 → ((x6 ≤ 0 → bX19_readUnlike_31 K J6 a0 a1 x2 x3 x4 x5 x6 u) ∧ (¬ x6 ≤ 0 → pX19_needsSign u a0 44 (fun (u_11 : Hp) => bX19_readUnlike_31 K J6 a0 a1 x2 x3 x4 x5 x6 u_11)))))))
def pX19_readUnlike (u : Hp) (a0 : Nat) (a1 : Nat) (x2 : Int32) (x3 : Int32) (x4 : Int32) (K : Hp → Prop) : Prop :=
  jl3 (bX19_readUnlike_6 K a0 a1 x2 x3 x4) 0 0 u
/-! X19_eatsSign -/
def bX19_eatsSign_20 (K : Int32 → Hp → Prop) (a0 : Nat) (u : Hp) : Prop :=
  K 0 u
def pX19_eatsSign (u : Hp) (a0 : Nat) (x1 : Int32) (K : Int32 → Hp → Prop) : Prop :=
  (kd u a0 = 16) ∧ ((FI u 1909 a0 = 4 → ((FI u 1911 a0 = x1 → pX19_goesOn u a0 (fun (u_3 : Hp) => K 1 u_3)) ∧ (¬ FI u 1911 a0 = x1 → bX19_eatsSign_20 K a0 u))) ∧ (¬ FI u 1909 a0 = 4 → bX19_eatsSign_20 K a0 u))
/-! X19_readPlaces -/
def bX19_readPlaces_45 (K : Int32 → Hp → Prop) (J4 : Int32 → Int32 → Hp → Prop) (a0 : Nat) (x1 : Int32) (x3 : Int32) (u : Hp) : Prop :=
  (kd u a0 = 16) ∧ pX19_goesOn u a0 (fun (u_2 : Hp) => (kd u_2 a0 = 16) ∧ pX19_eatsSign u_2 a0 44 (fun (r_4 : Int32) (u_5 : Hp) => J4 (x1 ||| (jshl 1 x3)) r_4 u_5))
def bX19_readPlaces_4 (K : Int32 → Hp → Prop) (a0 : Nat) (J4 : Int32 → Int32 → Hp → Prop) (x1 : Int32) (x2 : Int32) (u : Hp) : Prop :=
  ((x2 = 0 → K x1 u) ∧ (¬ x2 = 0 → (kd u a0 = 16) ∧ ((FI u 1909 a0 = 5 → K x1 u) ∧ (¬ FI u 1909 a0 = 5 → ∃ b_7 : Nat, FR u 1904 a0 = some b_7 ∧ (kd u b_7 = 20) ∧ pX19_bounded u a0 0 ((FI u 2304 b_7) - 1) (fun (r_10 : Int32) (u_11 : Hp) => (((jshr x1 r_10) &&& 1 = 1 → (kd u_11 a0 = 16) ∧ pX19_flaw u_11 a0 3 (fun (u_13 : Hp) => bX19_readPlaces_45 K J4 a0 x1 r_10 u_13)) ∧ (¬ (jshr x1 r_10) &&& 1 = 1 → bX19_readPlaces_45 K J4 a0 x1 r_10 u_11)))))))
def pX19_readPlaces (u : Hp) (a0 : Nat) (K : Int32 → Hp → Prop) : Prop :=
  jl3 (bX19_readPlaces_4 K a0) 0 1 u
/-! X19_readEvening -/
def bX19_readEvening_117 (K : Hp → Prop) (L : Nat → Nat) (a0 : Nat) (z0 : Int32) (u : Hp) : Prop :=
  (kd u a0 = 16) ∧ ((FI u 1909 a0 = 5 → K u) ∧ (¬ FI u 1909 a0 = 5 → ∃ b_2 : Nat, FR u 1904 a0 = some b_2 ∧ (kd u b_2 = 20) ∧ ∃ b_5 : Nat, FR u 2313 b_2 = some b_5 ∧ (kd u b_5 = 101) ∧ vp_in (FI u 2306 b_2) (ln u b_5) ∧ K (sFI (sAI u b_5 (upd (AI u b_5) (tn (FI u 2306 b_2)) z0)) 2306 b_2 ((FI u 2306 b_2) + 1))))
def pX19_readEvening (L : Nat → Nat) (u : Hp) (a0 : Nat) (K : Hp → Prop) : Prop :=
  (kd u a0 = 16) ∧ ∃ b_10 : Nat, FR u 1904 a0 = some b_10 ∧ (kd u b_10 = 20) ∧ pX19_begins u a0 (FI u 2306 b_10) 9 (fun (u_13 : Hp) => (kd u_13 a0 = 16) ∧ ((FI u_13 1909 a0 = 5 → K u_13) ∧ (¬ FI u_13 1909 a0 = 5 → ∃ b_15 : Nat, FR u_13 1904 a0 = some b_15 ∧ (kd u_13 b_15 = 20) ∧ ∃ b_18 : Nat, FR u_13 2311 b_15 = some b_18 ∧ pX19_readUnlike u_13 a0 b_18 (5 * (FI u_13 2306 b_15)) (FI u_13 2302 b_15) (FI u_13 2300 b_15) (fun (u_20 : Hp) => (kd u_20 a0 = 16) ∧ pX19_needs u_20 a0 (L 30) (fun (u_22 : Hp) => (kd u_22 a0 = 16) ∧ ∃ b_24 : Nat, FR u_22 1904 a0 = some b_24 ∧ (kd u_22 b_24 = 20) ∧ ∃ b_27 : Nat, FR u_22 2312 b_24 = some b_27 ∧ pX19_readUnlike u_22 a0 b_27 (5 * (FI u_13 2306 b_15)) (FI u_22 2304 b_24) (FI u_22 2300 b_24) (fun (u_29 : Hp) => (kd u_29 a0 = 16) ∧ ∃ b_31 : Nat, FR u_29 1904 a0 = some b_31 ∧ (kd u_29 b_31 = 20) ∧ ((FI u_29 2309 b_31 = 0 → bX19_readEvening_117 K L a0 0 u_29) ∧ (¬ FI u_29 2309 b_31 = 0 → pX19_eatsWord u_29 a0 (L 31) (fun (r_34 : Int32) (u_35 : Hp) => ((r_34 = 0 → bX19_readEvening_117 K L a0 0 u_35) ∧ (¬ r_34 = 0 → (kd u_35 a0 = 16) ∧ pX19_readPlaces u_35 a0 (fun (r_37 : Int32) (u_38 : Hp) => bX19_readEvening_117 K L a0 r_37 u_38))))))))))))
/-! X19_readLine -/
def pX19_readLine (L : Nat → Nat) (u : Hp) (a0 : Nat) (K : Hp → Prop) : Prop :=
  (kd u a0 = 16) ∧ pX19_isWord u a0 (L 27) (fun (r_2 : Int32) => ((r_2 = 0 → pX19_isWord u a0 (L 28) (fun (r_3 : Int32) => ((r_3 = 0 → pX19_isWord u a0 (L 29) (fun (r_4 : Int32) => ((r_4 = 0 → pX19_flaw u a0 1 (fun (u_5 : Hp) => K u_5)) ∧ (¬ r_4 = 0 → pX19_readEvening L u a0 (fun (u_6 : Hp) => K u_6))))) ∧ (¬ r_3 = 0 → pX19_readRule L u a0 (fun (u_8 : Hp) => K u_8))))) ∧ (¬ r_2 = 0 → pX19_readTrick L u a0 (fun (u_10 : Hp) => K u_10))))
/-! X19_readAll -/
def bX19_readAll_2 (K : Hp → Prop) (L : Nat → Nat) (a0 : Nat) (J2 : Int32 → Hp → Prop) (x1 : Int32) (u : Hp) : Prop :=
  ((x1 = 0 → (kd u a0 = 16) ∧ ((FI u 1909 a0 = 1 → K u) ∧ (¬ FI u 1909 a0 = 1 → pX19_flaw u a0 1 (fun (u_2 : Hp) => K u_2)))) ∧ (¬ x1 = 0 → (kd u a0 = 16) ∧ pX19_readLine L u a0 (fun (u_5 : Hp) => (kd u_5 a0 = 16) ∧ pX19_eatsSign u_5 a0 59 (fun (r_7 : Int32) (u_8 : Hp) => J2 r_7 u_8))))
def pX19_readAll (L : Nat → Nat) (u : Hp) (a0 : Nat) (K : Hp → Prop) : Prop :=
  jl2 (bX19_readAll_2 K L a0) 1 u
/-! X19_isPicked -/
def bX19_isPicked_2 (K : Int32 → Prop) (a0 : Nat) (x1 : Int32) (x2 : Int32) (u : Hp) (J2 : Int32 → Prop) (x3 : Int32) : Prop :=
  ((x2 ≤ x3 → K 0) ∧ (¬ x2 ≤ x3 → (kd u a0 = 16) ∧ ∃ b_2 : Nat, FR u 1918 a0 = some b_2 ∧ (kd u b_2 = 101) ∧ vp_in x3 (ln u b_2) ∧ ((AI u b_2 (tn x3) = x1 → K 1) ∧ (¬ AI u b_2 (tn x3) = x1 → J2 (x3 + 1)))))
def pX19_isPicked (u : Hp) (a0 : Nat) (x1 : Int32) (x2 : Int32) (K : Int32 → Prop) : Prop :=
  jl1 (bX19_isPicked_2 K a0 x1 x2 u) 0
/-! X19_next -/
def bX19_next_46 (K : Int32 → Prop) (a0 : Nat) (x1 : Int32) (u : Hp) (J46 : Int32 → Prop) (x2 : Int32) : Prop :=
  (kd u a0 = 16) ∧ ∃ b_2 : Nat, FR u 1903 a0 = some b_2 ∧ (kd u b_2 = 20) ∧ ((FI u 2300 b_2 ≤ x2 → ((FI u 2300 b_2 ≤ x2 → K (FI u 2300 b_2)) ∧ (¬ FI u 2300 b_2 ≤ x2 → K x2))) ∧ (¬ FI u 2300 b_2 ≤ x2 → pX19_isPicked u a0 x2 x1 (fun (r_6 : Int32) => ((r_6 = 0 → ((FI u 2300 b_2 ≤ x2 → K (FI u 2300 b_2)) ∧ (¬ FI u 2300 b_2 ≤ x2 → K x2))) ∧ (¬ r_6 = 0 → J46 (x2 + 1))))))
def pX19_next (u : Hp) (a0 : Nat) (x1 : Int32) (K : Int32 → Prop) : Prop :=
  (kd u a0 = 16) ∧ ∃ b_11 : Nat, FR u 1918 a0 = some b_11 ∧ (kd u b_11 = 101) ∧ vp_in x1 (ln u b_11) ∧ ∃ b_14 : Nat, FR u 1903 a0 = some b_14 ∧ (kd u b_14 = 20) ∧ ((FI u 2307 b_14 = 0 → ((x1 ≤ 0 → jl1 (bX19_next_46 K a0 x1 u) ((AI u b_11 (tn x1)) + 1)) ∧ (¬ x1 ≤ 0 → vp_in (x1 - 1) (ln u b_11) ∧ ((AI u b_11 (tn (x1 - 1)) < ((AI u b_11 (tn x1)) + 1) → jl1 (bX19_next_46 K a0 x1 u) ((AI u b_11 (tn x1)) + 1)) ∧ (¬ AI u b_11 (tn (x1 - 1)) < ((AI u b_11 (tn x1)) + 1) → vp_in (x1 - 1) (ln u b_11) ∧ jl1 (bX19_next_46 K a0 x1 u) ((AI u b_11 (tn (x1 - 1))) + 1)))))) ∧ (¬ FI u 2307 b_14 = 0 → jl1 (bX19_next_46 K a0 x1 u) ((AI u b_11 (tn x1)) + 1)))
/-! X19_deals -/
def bX19_deals_86 (K : Hp → Prop) (J27 : Int32 → Hp → Prop) (a0 : Nat) (x1 : Int32) (J86 : Int32 → Hp → Prop) (x2 : Int32) (u : Hp) : Prop :=
  (kd u a0 = 16) ∧ ∃ b_2 : Nat, FR u 1903 a0 = some b_2 ∧ (kd u b_2 = 20) ∧ ((FI u 2302 b_2 ≤ x2 → J27 x1 (sFI u 1917 a0 ((FI u 1917 a0) + 1))) ∧ (¬ FI u 2302 b_2 ≤ x2 → ∃ b_5 : Nat, FR u 1916 a0 = some b_5 ∧ ∃ b_7 : Nat, FR u 1918 a0 = some b_7 ∧ (kd u b_7 = 101) ∧ vp_in x2 (ln u b_7) ∧ (kd u b_5 = 102) ∧ vp_in ((5 * (FI u 1917 a0)) + x2) (ln u b_5) ∧ J86 (x2 + 1) (sAI u b_5 (upd (AI u b_5) (tn ((5 * (FI u 1917 a0)) + x2)) (vp_nar .byte ((AI u b_7 (tn x2)).toInt8.toInt32))))))
def bX19_deals_27 (K : Hp → Prop) (a0 : Nat) (J27 : Int32 → Hp → Prop) (x1 : Int32) (u : Hp) : Prop :=
  ((x1 < 0 → K u) ∧ (¬ x1 < 0 → (kd u a0 = 16) ∧ ∃ b_13 : Nat, FR u 1918 a0 = some b_13 ∧ pX19_next u a0 x1 (fun (r_15 : Int32) => (kd u b_13 = 101) ∧ vp_in x1 (ln u b_13) ∧ vp_in x1 (ln u b_13) ∧ ∃ b_17 : Nat, FR u 1903 a0 = some b_17 ∧ (kd u b_17 = 20) ∧ ((AI (sAI u b_13 (upd (AI u b_13) (tn x1) r_15)) b_13 (tn x1) = (FI u 2300 b_17) → vp_in x1 (ln u b_13) ∧ J27 (x1 + (-1)) (sAI (sAI u b_13 (upd (AI u b_13) (tn x1) r_15)) b_13 (upd (AI (sAI u b_13 (upd (AI u b_13) (tn x1) r_15)) b_13) (tn x1) (-1)))) ∧ (¬ AI (sAI u b_13 (upd (AI u b_13) (tn x1) r_15)) b_13 (tn x1) = (FI u 2300 b_17) → ((x1 = ((FI u 2302 b_17) - 1) → jl2 (bX19_deals_86 K J27 a0 x1) 0 (sAI u b_13 (upd (AI u b_13) (tn x1) r_15))) ∧ (¬ x1 = ((FI u 2302 b_17) - 1) → J27 (x1 + 1) (sAI u b_13 (upd (AI u b_13) (tn x1) r_15)))))))))
def bX19_deals_7 (K : Hp → Prop) (a0 : Nat) (J7 : Int32 → Hp → Prop) (x1 : Int32) (u : Hp) : Prop :=
  ((5 ≤ x1 → jl2 (bX19_deals_27 K a0) 0 u) ∧ (¬ 5 ≤ x1 → (kd u a0 = 16) ∧ ∃ b_24 : Nat, FR u 1918 a0 = some b_24 ∧ (kd u b_24 = 101) ∧ vp_in x1 (ln u b_24) ∧ J7 (x1 + 1) (sAI u b_24 (upd (AI u b_24) (tn x1) (-1)))))
def pX19_deals (u : Hp) (a0 : Nat) (K : Hp → Prop) : Prop :=
  (kd u a0 = 16) ∧ jl2 (bX19_deals_7 K a0) 0 (sFI u 1917 a0 0)
/-! X19_isOneOrder -/
def pX19_isOneOrder (u : Hp) (a0 : Nat) (K : Int32 → Prop) : Prop :=
  (kd u a0 = 16) ∧ ∃ b_2 : Nat, FR u 1903 a0 = some b_2 ∧ (kd u b_2 = 20) ∧ ((FI u 2308 b_2 = 0 → ((FI u 2307 b_2 = 0 → K 0) ∧ (¬ FI u 2307 b_2 = 0 → K 1))) ∧ (¬ FI u 2308 b_2 = 0 → K 1))
/-! X19_laysCodes -/
def bX19_laysCodes_121 (K : Hp → Prop) (J7 : Int32 → Hp → Prop) (a0 : Nat) (x1 : Int32) (x3 : Int32) (u : Hp) : Prop :=
  ((x3 = 0 → J7 (x1 + 1) u) ∧ (¬ x3 = 0 → (kd u a0 = 16) ∧ ∃ b_2 : Nat, FR u 1923 a0 = some b_2 ∧ (kd u b_2 = 101) ∧ vp_in (FI u 1924 a0) (ln u b_2) ∧ J7 (x1 + 1) (sFI (sAI u b_2 (upd (AI u b_2) (tn (FI u 1924 a0)) x1)) 1924 a0 ((FI u 1924 a0) + 1))))
def bX19_laysCodes_29 (K : Hp → Prop) (J7 : Int32 → Hp → Prop) (a0 : Nat) (x1 : Int32) (u : Hp) (J29 : Int32 → Int32 → Int32 → Prop) (x2 : Int32) (x3 : Int32) (x4 : Int32) : Prop :=
  (kd u a0 = 16) ∧ ∃ b_7 : Nat, FR u 1903 a0 = some b_7 ∧ (kd u b_7 = 20) ∧ ((FI u 2304 b_7 ≤ x4 → bX19_laysCodes_121 K J7 a0 x1 x3 u) ∧ (¬ FI u 2304 b_7 ≤ x4 → ((x3 = 0 → bX19_laysCodes_121 K J7 a0 x1 x3 u) ∧ (¬ x3 = 0 → ∀ x5_10 : Int32, x5_10 = (jshr x1 (3 * (((FI u 2304 b_7) - 1) - x4))) &&& 7 → ((FI u 2302 b_7 ≤ x5_10 → J29 (x2 ||| (jshl 1 x5_10)) 0 (x4 + 1)) ∧ (¬ FI u 2302 b_7 ≤ x5_10 → (((jshr x2 x5_10) &&& 1 = 0 → pX19_isOneOrder u a0 (fun (r_12 : Int32) => ((r_12 = 0 → J29 (x2 ||| (jshl 1 x5_10)) 1 (x4 + 1)) ∧ (¬ r_12 = 0 → ((jshl 1 x5_10 ≤ x2 → J29 (x2 ||| (jshl 1 x5_10)) 0 (x4 + 1)) ∧ (¬ jshl 1 x5_10 ≤ x2 → J29 (x2 ||| (jshl 1 x5_10)) 1 (x4 + 1))))))) ∧ (¬ (jshr x2 x5_10) &&& 1 = 0 → J29 (x2 ||| (jshl 1 x5_10)) 0 (x4 + 1)))))))))
def bX19_laysCodes_7 (K : Hp → Prop) (a0 : Nat) (J7 : Int32 → Hp → Prop) (x1 : Int32) (u : Hp) : Prop :=
  (kd u a0 = 16) ∧ ∃ b_20 : Nat, FR u 1903 a0 = some b_20 ∧ (kd u b_20 = 20) ∧ ((jshl 1 (3 * (FI u 2304 b_20)) ≤ x1 → K u) ∧ (¬ jshl 1 (3 * (FI u 2304 b_20)) ≤ x1 → jl3 (bX19_laysCodes_29 K J7 a0 x1 u) 0 1 0))
def pX19_laysCodes (u : Hp) (a0 : Nat) (K : Hp → Prop) : Prop :=
  (kd u a0 = 16) ∧ jl2 (bX19_laysCodes_7 K a0) 0 (sFI u 1924 a0 0)
/-! X19_cardOf -/
def pX19_cardOf (u : Hp) (a0 : Nat) (x1 : Int32) (x2 : Int32) (K : Int32 → Prop) : Prop :=
  (kd u a0 = 16) ∧ ∃ b_2 : Nat, FR u 1916 a0 = some b_2 ∧ (kd u b_2 = 102 ∨ kd u b_2 = 202) ∧ vp_in ((5 * x1) + x2) (ln u b_2) ∧ K (AI u b_2 (tn ((5 * x1) + x2)))
/-! X19_has -/
def bX19_has_2 (K : Int32 → Prop) (a0 : Nat) (x1 : Int32) (x2 : Int32) (u : Hp) (J2 : Int32 → Prop) (x3 : Int32) : Prop :=
  (kd u a0 = 16) ∧ ∃ b_2 : Nat, FR u 1903 a0 = some b_2 ∧ (kd u b_2 = 20) ∧ ((FI u 2302 b_2 ≤ x3 → K 0) ∧ (¬ FI u 2302 b_2 ≤ x3 → pX19_cardOf u a0 x1 x3 (fun (r_5 : Int32) => ((r_5 = x2 → K 1) ∧ (¬ r_5 = x2 → J2 (x3 + 1))))))
def pX19_has (u : Hp) (a0 : Nat) (x1 : Int32) (x2 : Int32) (K : Int32 → Prop) : Prop :=
  jl1 (bX19_has_2 K a0 x1 x2 u) 0
/-! X19_handNumber -/
def bX19_handNumber_16 (K : Int32 → Prop) (J2 : Int32 → Prop) (a0 : Nat) (a1 : Nat) (x2 : Int32) (x3 : Int32) (u : Hp) (J16 : Int32 → Int32 → Prop) (x4 : Int32) (x5 : Int32) : Prop :=
  (kd u a0 = 16) ∧ ∃ b_2 : Nat, FR u 1903 a0 = some b_2 ∧ (kd u b_2 = 20) ∧ ((FI u 2302 b_2 ≤ x5 → ((x4 = 0 → J2 (x3 + 1)) ∧ (¬ x4 = 0 → K x3))) ∧ (¬ FI u 2302 b_2 ≤ x5 → ((x4 = 0 → J16 0 (x5 + 1)) ∧ (¬ x4 = 0 → ((FI u 2307 b_2 = 0 → (kd u a1 = 101) ∧ vp_in (x2 + x5) (ln u a1) ∧ pX19_has u a0 x3 (AI u a1 (tn (x2 + x5))) (fun (r_7 : Int32) => ((r_7 = 0 → J16 0 (x5 + 1)) ∧ (¬ r_7 = 0 → J16 1 (x5 + 1))))) ∧ (¬ FI u 2307 b_2 = 0 → pX19_cardOf u a0 x3 x5 (fun (r_9 : Int32) => (kd u a1 = 101) ∧ vp_in (x2 + x5) (ln u a1) ∧ ((r_9 = (AI u a1 (tn (x2 + x5))) → J16 1 (x5 + 1)) ∧ (¬ r_9 = (AI u a1 (tn (x2 + x5))) → J16 0 (x5 + 1))))))))))
def bX19_handNumber_2 (K : Int32 → Prop) (a0 : Nat) (a1 : Nat) (x2 : Int32) (u : Hp) (J2 : Int32 → Prop) (x3 : Int32) : Prop :=
  (kd u a0 = 16) ∧ ((FI u 1917 a0 ≤ x3 → K (-1)) ∧ (¬ FI u 1917 a0 ≤ x3 → jl2 (bX19_handNumber_16 K J2 a0 a1 x2 x3 u) 1 0))
def pX19_handNumber (u : Hp) (a0 : Nat) (a1 : Nat) (x2 : Int32) (K : Int32 → Prop) : Prop :=
  jl1 (bX19_handNumber_2 K a0 a1 x2 u) 0
/-! X19_rowNumber -/
def bX19_rowNumber_28 (K : Int32 → Prop) (J5 : Int32 → Int32 → Prop) (a0 : Nat) (a1 : Nat) (x2 : Int32) (x3 : Int32) (x4 : Int32) (u : Hp) (J28 : Int32 → Int32 → Prop) (x5 : Int32) (x6 : Int32) : Prop :=
  ((x4 ≤ x6 → (kd u a0 = 16) ∧ ∃ b_2 : Nat, FR u 1903 a0 = some b_2 ∧ (kd u b_2 = 20) ∧ ∀ x3_5 : Int32, x3_5 = (x3 * ((FI u 2300 b_2) - x4)) + x5 → J5 x3_5 (x4 + 1)) ∧ (¬ x4 ≤ x6 → (kd u a1 = 101) ∧ vp_in (x2 + x6) (ln u a1) ∧ vp_in (x2 + x4) (ln u a1) ∧ ((AI u a1 (tn (x2 + x4)) ≤ (AI u a1 (tn (x2 + x6))) → J28 (x5 - 0) (x6 + 1)) ∧ (¬ AI u a1 (tn (x2 + x4)) ≤ (AI u a1 (tn (x2 + x6))) → J28 (x5 - 1) (x6 + 1)))))
def bX19_rowNumber_5 (K : Int32 → Prop) (a0 : Nat) (a1 : Nat) (x2 : Int32) (u : Hp) (J5 : Int32 → Int32 → Prop) (x3 : Int32) (x4 : Int32) : Prop :=
  (kd u a0 = 16) ∧ ∃ b_11 : Nat, FR u 1903 a0 = some b_11 ∧ (kd u b_11 = 20) ∧ ((FI u 2304 b_11 ≤ x4 → K x3) ∧ (¬ FI u 2304 b_11 ≤ x4 → (kd u a1 = 101) ∧ vp_in (x2 + x4) (ln u a1) ∧ jl2 (bX19_rowNumber_28 K J5 a0 a1 x2 x3 x4 u) (AI u a1 (tn (x2 + x4))) 0))
def pX19_rowNumber (u : Hp) (a0 : Nat) (a1 : Nat) (x2 : Int32) (K : Int32 → Prop) : Prop :=
  jl2 (bX19_rowNumber_5 K a0 a1 x2 u) 0 0
/-! X23_tilts -/
def pX23_tilts (u : Hp) (a0 : Nat) (K : Int32 → Prop) : Prop :=
  (kd u a0 = 20) ∧ ((FI u 2309 a0 = 0 → K 1) ∧ (¬ FI u 2309 a0 = 0 → K (jshl 1 (FI u 2304 a0))))
/-! X19_good -/
def pX19_good (u : Hp) (a0 : Nat) (x1 : Int32) (K : Int32 → Hp → Prop) : Prop :=
  (kd u a0 = 16) ∧ K x1 (sFI (sFI u 1901 a0 0) 1902 a0 (-1))
/-! X19_trick -/
def bX19_trick_133 (K : Int32 → Hp → Prop) (L : Nat → Nat) (a0 : Nat) (mc : Nat) (ms : Nat) (J133 : Int32 → Hp → Prop) (x2 : Int32) (u : Hp) : Prop :=
  (kd u a0 = 16) ∧ ((FI u 1943 a0 ≤ x2 → ∃ b_2 : Nat, FR u 1903 a0 = some b_2 ∧ (kd u b_2 = 20) ∧ pX19_good u a0 (FI u 2305 b_2) (fun (r_5 : Int32) (u_6 : Hp) => K r_5 u_6)) ∧ (¬ FI u 1943 a0 ≤ x2 → ∃ b_7 : Nat, FR u 1937 a0 = some b_7 ∧ ∃ b_9 : Nat, FR u 1903 a0 = some b_9 ∧ (kd u b_9 = 20) ∧ ∃ b_12 : Nat, FR u 2311 b_9 = some b_12 ∧ pX19_handNumber u a0 b_12 (5 * x2) (fun (r_14 : Int32) => (kd u b_7 = 101) ∧ vp_in x2 (ln u b_7) ∧ ∃ b_16 : Nat, FR u 1938 a0 = some b_16 ∧ ∃ b_18 : Nat, FR u 2312 b_9 = some b_18 ∧ pX19_rowNumber (sAI u b_7 (upd (AI u b_7) (tn x2) r_14)) a0 b_18 (5 * x2) (fun (r_20 : Int32) => pX23_tilts (sAI u b_7 (upd (AI u b_7) (tn x2) r_14)) b_9 (fun (r_21 : Int32) => ∃ b_22 : Nat, FR u 2313 b_9 = some b_22 ∧ (kd u b_22 = 101) ∧ vp_in x2 (ln u b_22) ∧ (kd u b_16 = 101) ∧ vp_in x2 (ln u b_16) ∧ J133 (x2 + 1) (sAI (sAI u b_7 (upd (AI u b_7) (tn x2) r_14)) b_16 (upd (AI (sAI u b_7 (upd (AI u b_7) (tn x2) r_14)) b_16) (tn x2) ((r_20 * r_21) + (AI (sAI u b_7 (upd (AI u b_7) (tn x2) r_14)) b_22 (tn x2))))))))))
def pX19_trick (L : Nat → Nat) (u : Hp) (a0 : Nat) (x1 : Int32) (mc ms : Nat) (K : Int32 → Hp → Prop) : Prop :=
  (kd u a0 = 16) ∧ ((x1 < 0 → pX19_refused (sFI u 1900 a0 0) a0 2 (fun (r_28 : Int32) (u_29 : Hp) => K r_28 u_29)) ∧ (¬ x1 < 0 → ((x1 ≤ (FI (sFI u 1900 a0 0) 1906 a0) → ∀ u_30 : Hp, u_30 = (sFI (sFI (sFI u 1900 a0 0) 1907 a0 x1) 1906 a0 0) → 1 ≤ mc ∧ 15 ≤ ms ∧ ∀ q_33 : Nat, kd u_30 q_33 = 0 → ∃ q_39 q_40 : Nat, q_39 ≤ (mc - 1) ∧ q_40 ≤ (ms - 15) ∧ pX23_init (mkC (sFI (sFI u_30 1908 a0 0) 1913 a0 0) q_33 20 0) q_33 q_39 q_40 (fun (u_43 : Hp) => (kd u_43 a0 = 16) ∧ pX19_goesOn (sFI (sFR u_43 1904 a0 (some q_33)) 1909 a0 0) a0 (fun (u_45 : Hp) => (kd u_45 a0 = 16) ∧ pX19_readAll L u_45 a0 (fun (u_47 : Hp) => (kd u_47 a0 = 16) ∧ ((FI u_47 1913 a0 ≤ 0 → ∃ b_49 : Nat, FR u_47 1904 a0 = some b_49 ∧ pX19_deals (sFI (sFI (sFR u_47 1903 a0 (some b_49)) 1945 a0 0) 1944 a0 0) a0 (fun (u_51 : Hp) => (kd u_51 a0 = 16) ∧ pX19_laysCodes u_51 a0 (fun (u_53 : Hp) => (kd u_53 a0 = 16) ∧ ∃ b_55 : Nat, FR u_53 1903 a0 = some b_55 ∧ (kd u_53 b_55 = 20) ∧ jl2 (bX19_trick_133 K L a0 ((mc - 1) - q_39) ((ms - 15) - q_40)) 0 (sFI (sFI u_53 1935 a0 0) 1943 a0 (FI (sFI u_53 1935 a0 0) 2306 b_55))))) ∧ (¬ FI u_47 1913 a0 ≤ 0 → K (-1) (sFI (sFI u_47 1901 a0 4) 1902 a0 (FI (sFI u_47 1901 a0 4) 1914 a0)))))))) ∧ (¬ x1 ≤ (FI (sFI u 1900 a0 0) 1906 a0) → pX19_refused (sFI u 1900 a0 0) a0 2 (fun (r_59 : Int32) (u_60 : Hp) => K r_59 u_60)))))
/-! X1_fault -/
def pX1_fault (u : Hp) (a0 : Nat) (K : Int32 → Prop) : Prop :=
  (kd u a0 = 1) ∧ K (FI u 105 a0)
/-! X19_fault -/
def pX19_fault (u : Hp) (a0 : Nat) (K : Int32 → Hp → Prop) : Prop :=
  (kd u a0 = 16) ∧ K (FI (sFI u 1900 a0 0) 1913 a0) (sFI u 1900 a0 0)
/-! X1_where -/
def pX1_where (u : Hp) (a0 : Nat) (K : Int32 → Prop) : Prop :=
  (kd u a0 = 1) ∧ ((FI u 104 a0 = 4 → K (FI u 106 a0)) ∧ (¬ FI u 104 a0 = 4 → K (-1)))
/-! X19_where -/
def pX19_where (u : Hp) (a0 : Nat) (K : Int32 → Hp → Prop) : Prop :=
  (kd u a0 = 16) ∧ K (FI (sFI u 1900 a0 0) 1902 a0) (sFI u 1900 a0 0)
/-! X1_hands -/
def pX1_hands (u : Hp) (a0 : Nat) (K : Int32 → Hp → Prop) : Prop :=
  (kd u a0 = 1) ∧ pX1_anew u a0 (fun (u_2 : Hp) => (kd u_2 a0 = 1) ∧ ((FR u_2 103 a0 = none → pX1_no u_2 a0 1 (fun (r_6 : Int32) (u_7 : Hp) => K r_6 u_7)) ∧ (∀ b_4 : Nat, FR u_2 103 a0 = some b_4 → K (FI u_2 108 a0) u_2)))
/-! X19_hands -/
def pX19_hands (u : Hp) (a0 : Nat) (K : Int32 → Hp → Prop) : Prop :=
  (kd u a0 = 16) ∧ ((FR u 1903 a0 = none → pX19_refused (sFI u 1900 a0 0) a0 1 (fun (r_4 : Int32) (u_5 : Hp) => K r_4 u_5)) ∧ (∀ b_2 : Nat, FR u 1903 a0 = some b_2 → pX19_good (sFI u 1900 a0 0) a0 (FI (sFI u 1900 a0 0) 1917 a0) (fun (r_6 : Int32) (u_7 : Hp) => K r_6 u_7)))
/-! X1_rowMany -/
def pX1_rowMany (u : Hp) (a0 : Nat) (K : Int32 → Prop) : Prop :=
  (kd u a0 = 1) ∧ ∃ b_2 : Nat, FR u 103 a0 = some b_2 ∧ (kd u b_2 = 17) ∧ pX20_rows u b_2 (fun (r_5 : Int32) => pX1_falling (FI u 2003 b_2) r_5 (fun (r_6 : Int64) => pX20_tiltings u b_2 (fun (r_7 : Int32) => K ((r_6.toInt32) * r_7))))
/-! X1_rows -/
def pX1_rows (u : Hp) (a0 : Nat) (K : Int32 → Hp → Prop) : Prop :=
  (kd u a0 = 1) ∧ pX1_anew u a0 (fun (u_2 : Hp) => (kd u_2 a0 = 1) ∧ ((FR u_2 103 a0 = none → pX1_no u_2 a0 1 (fun (r_6 : Int32) (u_7 : Hp) => K r_6 u_7)) ∧ (∀ b_4 : Nat, FR u_2 103 a0 = some b_4 → pX1_rowMany u_2 a0 (fun (r_8 : Int32) => K r_8 u_2))))
/-! X19_rowMany -/
def pX19_rowMany (u : Hp) (a0 : Nat) (K : Int32 → Prop) : Prop :=
  (kd u a0 = 16) ∧ ∃ b_2 : Nat, FR u 1903 a0 = some b_2 ∧ (kd u b_2 = 20) ∧ pX19_rowsOf (FI u 2300 b_2) (FI u 2304 b_2) (fun (r_5 : Int64) => pX23_tilts u b_2 (fun (r_6 : Int32) => K ((r_5.toInt32) * r_6)))
/-! X19_rows -/
def pX19_rows (u : Hp) (a0 : Nat) (K : Int32 → Hp → Prop) : Prop :=
  (kd u a0 = 16) ∧ ((FR u 1903 a0 = none → pX19_refused (sFI u 1900 a0 0) a0 1 (fun (r_4 : Int32) (u_5 : Hp) => K r_4 u_5)) ∧ (∀ b_2 : Nat, FR u 1903 a0 = some b_2 → pX19_rowMany (sFI u 1900 a0 0) a0 (fun (r_6 : Int32) => pX19_good (sFI u 1900 a0 0) a0 r_6 (fun (r_7 : Int32) (u_8 : Hp) => K r_7 u_8))))
/-! X1_isHand -/
def pX1_isHand (u : Hp) (a0 : Nat) (x1 : Int32) (K : Int32 → Prop) : Prop :=
  (kd u a0 = 1) ∧ ((FR u 103 a0 = none → K 0) ∧ (∀ b_2 : Nat, FR u 103 a0 = some b_2 → pX1_in x1 0 ((FI u 108 a0) - 1) (fun (r_4 : Int32) => ((r_4 = 0 → K 0) ∧ (¬ r_4 = 0 → K 1)))))
/-! X1_hand -/
def pX1_hand (u : Hp) (a0 : Nat) (x1 : Int32) (x2 : Int32) (K : Int32 → Hp → Prop) : Prop :=
  (kd u a0 = 1) ∧ pX1_anew u a0 (fun (u_2 : Hp) => (kd u_2 a0 = 1) ∧ pX1_isHand u_2 a0 x1 (fun (r_4 : Int32) => ((r_4 = 0 → pX1_no u_2 a0 1 (fun (r_5 : Int32) (u_6 : Hp) => K r_5 u_6)) ∧ (¬ r_4 = 0 → ∃ b_7 : Nat, FR u_2 103 a0 = some b_7 ∧ (kd u_2 b_7 = 17) ∧ pX1_in x2 0 ((FI u_2 2005 b_7) - 1) (fun (r_10 : Int32) => ((r_10 = 0 → pX1_no u_2 a0 1 (fun (r_18 : Int32) (u_19 : Hp) => K r_18 u_19)) ∧ (¬ r_10 = 0 → ∃ b_11 : Nat, FR u_2 113 a0 = some b_11 ∧ pX20_layHand u_2 b_7 x1 b_11 (fun (u_13 : Hp) => (kd u_13 a0 = 1) ∧ ∃ b_15 : Nat, FR u_13 113 a0 = some b_15 ∧ (kd u_13 b_15 = 101) ∧ vp_in x2 (ln u_13 b_15) ∧ K (AI u_13 b_15 (tn x2)) u_13))))))))
/-! X19_isHand -/
def pX19_isHand (u : Hp) (a0 : Nat) (x1 : Int32) (K : Int32 → Prop) : Prop :=
  (kd u a0 = 16) ∧ ((FR u 1903 a0 = none → K 0) ∧ (∀ b_2 : Nat, FR u 1903 a0 = some b_2 → ((x1 < 0 → K 0) ∧ (¬ x1 < 0 → ((FI u 1917 a0 ≤ x1 → K 0) ∧ (¬ FI u 1917 a0 ≤ x1 → K 1))))))
/-! X19_hand -/
def pX19_hand (u : Hp) (a0 : Nat) (x1 : Int32) (x2 : Int32) (K : Int32 → Hp → Prop) : Prop :=
  (kd u a0 = 16) ∧ pX19_isHand (sFI u 1900 a0 0) a0 x1 (fun (r_2 : Int32) => ((r_2 = 0 → pX19_refused (sFI u 1900 a0 0) a0 1 (fun (r_3 : Int32) (u_4 : Hp) => K r_3 u_4)) ∧ (¬ r_2 = 0 → ∃ b_5 : Nat, FR u 1903 a0 = some b_5 ∧ (kd u b_5 = 20) ∧ pX19_in x2 0 ((FI (sFI u 1900 a0 0) 2302 b_5) - 1) (fun (r_8 : Int32) => ((r_8 = 0 → pX19_refused (sFI u 1900 a0 0) a0 1 (fun (r_9 : Int32) (u_10 : Hp) => K r_9 u_10)) ∧ (¬ r_8 = 0 → pX19_cardOf (sFI u 1900 a0 0) a0 x1 x2 (fun (r_11 : Int32) => pX19_good (sFI u 1900 a0 0) a0 r_11 (fun (r_12 : Int32) (u_13 : Hp) => K r_12 u_13))))))))
/-! X1_puts -/
def bX1_puts_47 (K : Int32 → Hp → Prop) (a0 : Nat) (x1 : Int32) (x2 : Int32) (u : Hp) (J47 : Int32 → Int32 → Prop) (x3 : Int32) (x4 : Int32) : Prop :=
  ((x1 ≤ x4 → narrow .boolean (.int x3) = .int x3 ∧ K x3 u) ∧ (¬ x1 ≤ x4 → ((x3 = 0 → narrow .boolean (.int x3) = .int x3 ∧ K x3 u) ∧ (¬ x3 = 0 → (kd u a0 = 1) ∧ ∃ b_2 : Nat, FR u 113 a0 = some b_2 ∧ (kd u b_2 = 101) ∧ vp_in x4 (ln u b_2) ∧ ((AI u b_2 (tn x4) = x2 → J47 0 (x4 + 1)) ∧ (¬ AI u b_2 (tn x4) = x2 → J47 1 (x4 + 1)))))))
def pX1_puts (u : Hp) (a0 : Nat) (x1 : Int32) (x2 : Int32) (K : Int32 → Hp → Prop) : Prop :=
  (kd u a0 = 1) ∧ ∃ b_9 : Nat, FR u 103 a0 = some b_9 ∧ (kd u b_9 = 17) ∧ ((x1 < (FI u 2005 b_9) → ∃ b_12 : Nat, FR u 113 a0 = some b_12 ∧ (kd u b_12 = 101) ∧ vp_in x1 (ln u b_12) ∧ pX1_in x2 0 ((FI u 2003 b_9) - 1) (fun (r_15 : Int32) => jl2 (bX1_puts_47 K a0 x1 x2 (sAI u b_12 (upd (AI u b_12) (tn x1) x2))) r_15 0)) ∧ (¬ x1 < (FI u 2005 b_9) → ((x2 = (-1) → K 1 u) ∧ (¬ x2 = (-1) → K 0 u))))
/-! X20_setOf -/
def bX20_setOf_4 (K : Int32 → Prop) (a0 : Nat) (x1 : Int32) (u : Hp) (J4 : Int32 → Int32 → Prop) (x2 : Int32) (x3 : Int32) : Prop :=
  ((x1 ≤ x3 → K x2) ∧ (¬ x1 ≤ x3 → (kd u a0 = 101) ∧ vp_in x3 (ln u a0) ∧ ∀ x2_2 : Int32, x2_2 = x2 ||| (jshl 1 (AI u a0 (tn x3))) → J4 x2_2 (x3 + 1)))
def pX20_setOf (u : Hp) (a0 : Nat) (x1 : Int32) (K : Int32 → Prop) : Prop :=
  jl2 (bX20_setOf_4 K a0 x1 u) 0 0
/-! X20_handOf -/
def pX20_handOf (u : Hp) (a0 : Nat) (a1 : Nat) (K : Int32 → Prop) : Prop :=
  (kd u a0 = 17) ∧ ((FI u 2009 a0 = 0 → pX20_setOf u a1 (FI u 2005 a0) (fun (r_2 : Int32) => pX20_rankSet u a0 r_2 (fun (r_3 : Int32) => K r_3))) ∧ (¬ FI u 2009 a0 = 0 → pX20_rank u a0 a1 (FI u 2005 a0) (fun (r_4 : Int32) => K r_4)))
/-! X1_handOf -/
def bX1_handOf_69 (K : Int32 → Hp → Prop) (a0 : Nat) (z0 : Int32) (u : Hp) : Prop :=
  ((z0 = 0 → (kd u a0 = 1) ∧ pX1_no u a0 2 (fun (r_2 : Int32) (u_3 : Hp) => K r_2 u_3)) ∧ (¬ z0 = 0 → (kd u a0 = 1) ∧ ∃ b_5 : Nat, FR u 103 a0 = some b_5 ∧ ∃ b_7 : Nat, FR u 113 a0 = some b_7 ∧ (kd u b_5 = 17) ∧ pX20_handOf u b_5 b_7 (fun (r_10 : Int32) => K r_10 u)))
def pX1_handOf (u : Hp) (a0 : Nat) (x1 : Int32) (x2 : Int32) (x3 : Int32) (x4 : Int32) (x5 : Int32) (K : Int32 → Hp → Prop) : Prop :=
  (kd u a0 = 1) ∧ pX1_anew u a0 (fun (u_13 : Hp) => (kd u_13 a0 = 1) ∧ ((FR u_13 103 a0 = none → pX1_no u_13 a0 1 (fun (r_17 : Int32) (u_18 : Hp) => K r_17 u_18)) ∧ (∀ b_15 : Nat, FR u_13 103 a0 = some b_15 → pX1_puts u_13 a0 0 x1 (fun (r_19 : Int32) (u_20 : Hp) => ((r_19 = 0 → bX1_handOf_69 K a0 0 u_20) ∧ (¬ r_19 = 0 → (kd u_20 a0 = 1) ∧ pX1_puts u_20 a0 1 x2 (fun (r_22 : Int32) (u_23 : Hp) => ((r_22 = 0 → bX1_handOf_69 K a0 0 u_23) ∧ (¬ r_22 = 0 → (kd u_23 a0 = 1) ∧ pX1_puts u_23 a0 2 x3 (fun (r_25 : Int32) (u_26 : Hp) => ((r_25 = 0 → bX1_handOf_69 K a0 0 u_26) ∧ (¬ r_25 = 0 → (kd u_26 a0 = 1) ∧ pX1_puts u_26 a0 3 x4 (fun (r_28 : Int32) (u_29 : Hp) => ((r_28 = 0 → bX1_handOf_69 K a0 0 u_29) ∧ (¬ r_28 = 0 → (kd u_29 a0 = 1) ∧ pX1_puts u_29 a0 4 x5 (fun (r_31 : Int32) (u_32 : Hp) => ((r_31 = 0 → bX1_handOf_69 K a0 0 u_32) ∧ (¬ r_31 = 0 → bX1_handOf_69 K a0 1 u_32))))))))))))))))))
/-! X19_handOf -/
def bX19_handOf_114 (K : Int32 → Hp → Prop) (J54 : Int32 → Prop) (a0 : Nat) (a6 : Nat) (x7 : Int32) (u : Hp) (J114 : Int32 → Prop) (x8 : Int32) : Prop :=
  ((x7 ≤ x8 → J54 (x7 + 1)) ∧ (¬ x7 ≤ x8 → (kd u a0 = 16) ∧ ∃ b_2 : Nat, FR u 1903 a0 = some b_2 ∧ (kd u b_2 = 20) ∧ ((FI u 2302 b_2 ≤ x7 → J54 (x7 + 1)) ∧ (¬ FI u 2302 b_2 ≤ x7 → (kd u a6 = 101) ∧ vp_in x8 (ln u a6) ∧ vp_in x7 (ln u a6) ∧ ((AI u a6 (tn x8) = (AI u a6 (tn x7)) → pX19_refused u a0 2 (fun (r_6 : Int32) (u_7 : Hp) => K r_6 u_7)) ∧ (¬ AI u a6 (tn x8) = (AI u a6 (tn x7)) → J114 (x8 + 1)))))))
def bX19_handOf_54 (K : Int32 → Hp → Prop) (a0 : Nat) (a6 : Nat) (u : Hp) (J54 : Int32 → Prop) (x7 : Int32) : Prop :=
  ((5 ≤ x7 → (kd u a0 = 16) ∧ pX19_handNumber u a0 a6 0 (fun (r_12 : Int32) => pX19_good u a0 r_12 (fun (r_13 : Int32) (u_14 : Hp) => K r_13 u_14))) ∧ (¬ 5 ≤ x7 → (kd u a0 = 16) ∧ ∃ b_16 : Nat, FR u 1903 a0 = some b_16 ∧ (kd u b_16 = 20) ∧ ((FI u 2302 b_16 ≤ x7 → (kd u a6 = 101) ∧ vp_in x7 (ln u a6) ∧ ((AI u a6 (tn x7) = (-1) → jl1 (bX19_handOf_114 K J54 a0 a6 x7 u) 0) ∧ (¬ AI u a6 (tn x7) = (-1) → pX19_refused u a0 2 (fun (r_20 : Int32) (u_21 : Hp) => K r_20 u_21)))) ∧ (¬ FI u 2302 b_16 ≤ x7 → (kd u a6 = 101) ∧ vp_in x7 (ln u a6) ∧ pX19_in (AI u a6 (tn x7)) 0 ((FI u 2300 b_16) - 1) (fun (r_24 : Int32) => ((r_24 = 0 → pX19_refused u a0 2 (fun (r_25 : Int32) (u_26 : Hp) => K r_25 u_26)) ∧ (¬ r_24 = 0 → jl1 (bX19_handOf_114 K J54 a0 a6 x7 u) 0)))))))
def pX19_handOf (u : Hp) (a0 : Nat) (x1 : Int32) (x2 : Int32) (x3 : Int32) (x4 : Int32) (x5 : Int32) (K : Int32 → Hp → Prop) : Prop :=
  (kd u a0 = 16) ∧ ((FR u 1903 a0 = none → pX19_refused (sFI u 1900 a0 0) a0 1 (fun (r_33 : Int32) (u_34 : Hp) => K r_33 u_34)) ∧ (∀ b_31 : Nat, FR u 1903 a0 = some b_31 → ∃ b_35 : Nat, FR u 1918 a0 = some b_35 ∧ (kd u b_35 = 101) ∧ vp_in 0 (ln u b_35) ∧ vp_in 1 (ln u b_35) ∧ ∀ u_38 : Hp, u_38 = (sAI (sAI (sFI u 1900 a0 0) b_35 (upd (AI u b_35) (tn 0) x1)) b_35 (upd (AI (sAI (sFI u 1900 a0 0) b_35 (upd (AI u b_35) (tn 0) x1)) b_35) (tn 1) x2)) → vp_in 2 (ln u_38 b_35) ∧ vp_in 3 (ln u_38 b_35) ∧ vp_in 4 (ln u_38 b_35) ∧ jl1 (bX19_handOf_54 K a0 b_35 (sAI (sAI (sAI u_38 b_35 (upd (AI u_38 b_35) (tn 2) x3)) b_35 (upd (AI (sAI u_38 b_35 (upd (AI u_38 b_35) (tn 2) x3)) b_35) (tn 3) x4)) b_35 (upd (AI (sAI (sAI u_38 b_35 (upd (AI u_38 b_35) (tn 2) x3)) b_35 (upd (AI (sAI u_38 b_35 (upd (AI u_38 b_35) (tn 2) x3)) b_35) (tn 3) x4)) b_35) (tn 4) x5))) 0))
/-! X1_isRow -/
def pX1_isRow (u : Hp) (a0 : Nat) (x1 : Int32) (K : Int32 → Prop) : Prop :=
  (kd u a0 = 1) ∧ ((FR u 103 a0 = none → K 0) ∧ (∀ b_2 : Nat, FR u 103 a0 = some b_2 → pX1_rowMany u a0 (fun (r_4 : Int32) => pX1_in x1 0 (r_4 - 1) (fun (r_5 : Int32) => ((r_5 = 0 → K 0) ∧ (¬ r_5 = 0 → K 1))))))
/-! X1_row -/
def pX1_row (u : Hp) (a0 : Nat) (x1 : Int32) (x2 : Int32) (K : Int32 → Hp → Prop) : Prop :=
  (kd u a0 = 1) ∧ pX1_anew u a0 (fun (u_2 : Hp) => (kd u_2 a0 = 1) ∧ pX1_isRow u_2 a0 x1 (fun (r_4 : Int32) => ((r_4 = 0 → pX1_no u_2 a0 1 (fun (r_5 : Int32) (u_6 : Hp) => K r_5 u_6)) ∧ (¬ r_4 = 0 → ∃ b_7 : Nat, FR u_2 103 a0 = some b_7 ∧ (kd u_2 b_7 = 17) ∧ pX20_rows u_2 b_7 (fun (r_10 : Int32) => pX1_in x2 0 (r_10 - 1) (fun (r_11 : Int32) => ((r_11 = 0 → pX1_no u_2 a0 1 (fun (r_21 : Int32) (u_22 : Hp) => K r_21 u_22)) ∧ (¬ r_11 = 0 → pX20_tiltings u_2 b_7 (fun (r_12 : Int32) => (¬ r_12 = 0) ∧ pX20_rows u_2 b_7 (fun (r_13 : Int32) => ∃ b_14 : Nat, FR u_2 114 a0 = some b_14 ∧ pX20_unrank u_2 b_7 (x1 / r_12) r_13 b_14 (fun (u_16 : Hp) => (kd u_16 a0 = 1) ∧ ∃ b_18 : Nat, FR u_16 114 a0 = some b_18 ∧ (kd u_16 b_18 = 101) ∧ vp_in x2 (ln u_16 b_18) ∧ K (AI u_16 b_18 (tn x2)) u_16)))))))))))
/-! X19_isRow -/
def pX19_isRow (u : Hp) (a0 : Nat) (x1 : Int32) (K : Int32 → Prop) : Prop :=
  (kd u a0 = 16) ∧ ((FR u 1903 a0 = none → K 0) ∧ (∀ b_2 : Nat, FR u 1903 a0 = some b_2 → ((x1 < 0 → K 0) ∧ (¬ x1 < 0 → pX19_rowMany u a0 (fun (r_4 : Int32) => ((r_4 ≤ x1 → K 0) ∧ (¬ r_4 ≤ x1 → K 1)))))))
/-! X19_rowCards -/
def bX19_rowCards_96 (K : Hp → Prop) (J74 : Int32 → Int32 → Hp → Prop) (a0 : Nat) (a2 : Nat) (a4 : Nat) (x5 : Int32) (x6 : Int32) (u : Hp) (J96 : Int32 → Int32 → Prop) (x7 : Int32) (x8 : Int32) : Prop :=
  (((jshr x5 x7) &&& 1 = 1 → (((jshr x5 x7) &&& 1 = 0 → J96 (x7 + 1) (x8 + (-1))) ∧ (¬ (jshr x5 x7) &&& 1 = 0 → J96 (x7 + 1) x8))) ∧ (¬ (jshr x5 x7) &&& 1 = 1 → ((x8 ≤ 0 → (kd u a2 = 101) ∧ vp_in x6 (ln u a2) ∧ J74 (x5 ||| (jshl 1 x7)) (x6 + 1) (sAI u a2 (upd (AI u a2) (tn x6) x7))) ∧ (¬ x8 ≤ 0 → (((jshr x5 x7) &&& 1 = 0 → J96 (x7 + 1) (x8 + (-1))) ∧ (¬ (jshr x5 x7) &&& 1 = 0 → J96 (x7 + 1) x8))))))
def bX19_rowCards_74 (K : Hp → Prop) (a0 : Nat) (a2 : Nat) (a4 : Nat) (J74 : Int32 → Int32 → Hp → Prop) (x5 : Int32) (x6 : Int32) (u : Hp) : Prop :=
  (kd u a0 = 16) ∧ ∃ b_7 : Nat, FR u 1903 a0 = some b_7 ∧ (kd u b_7 = 20) ∧ ((FI u 2304 b_7 ≤ x6 → K u) ∧ (¬ FI u 2304 b_7 ≤ x6 → (kd u a4 = 101) ∧ vp_in x6 (ln u a4) ∧ jl2 (bX19_rowCards_96 K J74 a0 a2 a4 x5 x6 u) 0 (AI u a4 (tn x6))))
def bX19_rowCards_27 (K : Hp → Prop) (a0 : Nat) (a2 : Nat) (a4 : Nat) (J27 : Int32 → Int32 → Hp → Prop) (x3 : Int32) (x5 : Int32) (u : Hp) : Prop :=
  ((x5 < 0 → jl3 (bX19_rowCards_74 K a0 a2 a4) 0 0 u) ∧ (¬ x5 < 0 → (kd u a0 = 16) ∧ ∃ b_13 : Nat, FR u 1903 a0 = some b_13 ∧ (kd u b_13 = 20) ∧ (¬ (FI u 2300 b_13) - x5 = 0) ∧ (kd u a4 = 101) ∧ vp_in x5 (ln u a4) ∧ (¬ (FI u 2300 b_13) - x5 = 0) ∧ J27 (x3 / ((FI u 2300 b_13) - x5)) (x5 + (-1)) (sAI u a4 (upd (AI u a4) (tn x5) (jrem x3 ((FI u 2300 b_13) - x5))))))
def pX19_rowCards (u : Hp) (a0 : Nat) (x1 : Int32) (a2 : Nat) (K : Hp → Prop) : Prop :=
  (kd u a0 = 16) ∧ ∃ b_19 : Nat, FR u 1903 a0 = some b_19 ∧ (kd u b_19 = 20) ∧ pX23_tilts u b_19 (fun (r_22 : Int32) => (¬ r_22 = 0) ∧ ∃ b_23 : Nat, FR u 1920 a0 = some b_23 ∧ jl3 (bX19_rowCards_27 K a0 a2 b_23) (x1 / r_22) ((FI u 2304 b_19) - 1) u)
/-! X19_row -/
def pX19_row (u : Hp) (a0 : Nat) (x1 : Int32) (x2 : Int32) (K : Int32 → Hp → Prop) : Prop :=
  (kd u a0 = 16) ∧ pX19_isRow (sFI u 1900 a0 0) a0 x1 (fun (r_2 : Int32) => ((r_2 = 0 → pX19_refused (sFI u 1900 a0 0) a0 1 (fun (r_3 : Int32) (u_4 : Hp) => K r_3 u_4)) ∧ (¬ r_2 = 0 → ∃ b_5 : Nat, FR u 1903 a0 = some b_5 ∧ (kd u b_5 = 20) ∧ pX19_in x2 0 ((FI (sFI u 1900 a0 0) 2304 b_5) - 1) (fun (r_8 : Int32) => ((r_8 = 0 → pX19_refused (sFI u 1900 a0 0) a0 1 (fun (r_18 : Int32) (u_19 : Hp) => K r_18 u_19)) ∧ (¬ r_8 = 0 → ∃ b_9 : Nat, FR u 1919 a0 = some b_9 ∧ pX19_rowCards (sFI u 1900 a0 0) a0 x1 b_9 (fun (u_11 : Hp) => (kd u_11 a0 = 16) ∧ ∃ b_13 : Nat, FR u_11 1919 a0 = some b_13 ∧ (kd u_11 b_13 = 101) ∧ vp_in x2 (ln u_11 b_13) ∧ pX19_good u_11 a0 (AI u_11 b_13 (tn x2)) (fun (r_16 : Int32) (u_17 : Hp) => K r_16 u_17))))))))
/-! X1_tilted -/
def pX1_tilted (u : Hp) (a0 : Nat) (x1 : Int32) (K : Int32 → Hp → Prop) : Prop :=
  (kd u a0 = 1) ∧ pX1_anew u a0 (fun (u_2 : Hp) => (kd u_2 a0 = 1) ∧ pX1_isRow u_2 a0 x1 (fun (r_4 : Int32) => ((r_4 = 0 → pX1_no u_2 a0 1 (fun (r_5 : Int32) (u_6 : Hp) => K r_5 u_6)) ∧ (¬ r_4 = 0 → ∃ b_7 : Nat, FR u_2 103 a0 = some b_7 ∧ (kd u_2 b_7 = 17) ∧ pX20_tiltings u_2 b_7 (fun (r_10 : Int32) => (¬ r_10 = 0) ∧ K (jrem x1 r_10) u_2)))))
/-! X19_tilted -/
def pX19_tilted (u : Hp) (a0 : Nat) (x1 : Int32) (K : Int32 → Hp → Prop) : Prop :=
  (kd u a0 = 16) ∧ pX19_isRow (sFI u 1900 a0 0) a0 x1 (fun (r_2 : Int32) => ((r_2 = 0 → pX19_refused (sFI u 1900 a0 0) a0 1 (fun (r_3 : Int32) (u_4 : Hp) => K r_3 u_4)) ∧ (¬ r_2 = 0 → ∃ b_5 : Nat, FR u 1903 a0 = some b_5 ∧ (kd u b_5 = 20) ∧ pX23_tilts (sFI u 1900 a0 0) b_5 (fun (r_8 : Int32) => (¬ r_8 = 0) ∧ pX19_good (sFI u 1900 a0 0) a0 (jrem x1 r_8) (fun (r_9 : Int32) (u_10 : Hp) => K r_9 u_10)))))
/-! X4_fits -/
def bX4_fits_5 (K : Int32 → Prop) (a0 : Nat) (x1 : Int32) (x2 : Int32) (u : Hp) (J5 : Int32 → Int32 → Prop) (x3 : Int32) (x4 : Int32) : Prop :=
  (kd u a0 = 4) ∧ ((FI u 408 a0 ≤ x4 → narrow .boolean (.int x3) = .int x3 ∧ K x3) ∧ (¬ FI u 408 a0 ≤ x4 → ((x3 = 0 → ∃ b_2 : Nat, FR u 400 a0 = some b_2 ∧ (kd u b_2 = 101) ∧ vp_in (((FI u 408 a0) * x1) + x4) (ln u b_2) ∧ (¬ FI u 410 a0 = 0) ∧ ((AI u b_2 (tn (((FI u 408 a0) * x1) + x4)) = (x2 / (FI u 410 a0)) → J5 1 (x4 + 1)) ∧ (¬ AI u b_2 (tn (((FI u 408 a0) * x1) + x4)) = (x2 / (FI u 410 a0)) → J5 0 (x4 + 1)))) ∧ (¬ x3 = 0 → J5 1 (x4 + 1)))))
def pX4_fits (u : Hp) (a0 : Nat) (x1 : Int32) (x2 : Int32) (K : Int32 → Prop) : Prop :=
  jl2 (bX4_fits_5 K a0 x1 x2 u) 0 0
/-! X1_fits -/
def pX1_fits (u : Hp) (a0 : Nat) (x1 : Int32) (x2 : Int32) (K : Int32 → Hp → Prop) : Prop :=
  (kd u a0 = 1) ∧ pX1_anew u a0 (fun (u_2 : Hp) => (kd u_2 a0 = 1) ∧ pX1_isHand u_2 a0 x1 (fun (r_4 : Int32) => ((r_4 = 0 → pX1_no u_2 a0 1 (fun (r_5 : Int32) (u_6 : Hp) => K r_5 u_6)) ∧ (¬ r_4 = 0 → pX1_isRow u_2 a0 x2 (fun (r_7 : Int32) => ((r_7 = 0 → pX1_no u_2 a0 1 (fun (r_8 : Int32) (u_9 : Hp) => K r_8 u_9)) ∧ (¬ r_7 = 0 → ∃ b_10 : Nat, FR u_2 109 a0 = some b_10 ∧ (kd u_2 b_10 = 4) ∧ pX4_fits u_2 b_10 x1 x2 (fun (r_13 : Int32) => ((r_13 = 0 → K 0 u_2) ∧ (¬ r_13 = 0 → K 1 u_2))))))))))
/-! X19_rowFits -/
def bX19_rowFits_90 (K : Int32 → Hp → Prop) (J14 : Int32 → Int32 → Prop) (a0 : Nat) (x1 : Int32) (x4 : Int32) (u : Hp) (J90 : Int32 → Prop) (x3 : Int32) : Prop :=
  (kd u a0 = 16) ∧ ∃ b_2 : Nat, FR u 1903 a0 = some b_2 ∧ (kd u b_2 = 20) ∧ ((FI u 2302 b_2 ≤ x3 → ((x3 = (FI u 2302 b_2) → K 0 u) ∧ (¬ x3 = (FI u 2302 b_2) → J14 x3 (x4 + 1)))) ∧ (¬ FI u 2302 b_2 ≤ x3 → pX19_cardOf u a0 x1 x3 (fun (r_6 : Int32) => ∃ b_7 : Nat, FR u 1919 a0 = some b_7 ∧ (kd u b_7 = 101) ∧ vp_in x4 (ln u b_7) ∧ ((r_6 = (AI u b_7 (tn x4)) → ((x3 = (FI u 2302 b_2) → K 0 u) ∧ (¬ x3 = (FI u 2302 b_2) → J14 x3 (x4 + 1)))) ∧ (¬ r_6 = (AI u b_7 (tn x4)) → J90 (x3 + 1))))))
def bX19_rowFits_14 (K : Int32 → Hp → Prop) (a0 : Nat) (x1 : Int32) (u : Hp) (J14 : Int32 → Int32 → Prop) (x3 : Int32) (x4 : Int32) : Prop :=
  (kd u a0 = 16) ∧ ∃ b_14 : Nat, FR u 1903 a0 = some b_14 ∧ (kd u b_14 = 20) ∧ ((FI u 2304 b_14 ≤ x4 → K 1 u) ∧ (¬ FI u 2304 b_14 ≤ x4 → ∃ b_17 : Nat, FR u 1919 a0 = some b_17 ∧ (kd u b_17 = 101) ∧ vp_in x4 (ln u b_17) ∧ pX19_has u a0 x1 (AI u b_17 (tn x4)) (fun (r_20 : Int32) => ((r_20 = 0 → K 0 u) ∧ (¬ r_20 = 0 → ((FI u 2308 b_14 = 0 → ((FI u 2307 b_14 = 0 → J14 x3 (x4 + 1)) ∧ (¬ FI u 2307 b_14 = 0 → jl1 (bX19_rowFits_90 K J14 a0 x1 x4 u) x3))) ∧ (¬ FI u 2308 b_14 = 0 → ((x4 ≤ 0 → ((FI u 2307 b_14 = 0 → J14 x3 (x4 + 1)) ∧ (¬ FI u 2307 b_14 = 0 → jl1 (bX19_rowFits_90 K J14 a0 x1 x4 u) x3))) ∧ (¬ x4 ≤ 0 → vp_in x4 (ln u b_17) ∧ vp_in (x4 - 1) (ln u b_17) ∧ ((AI u b_17 (tn (x4 - 1)) ≤ (AI u b_17 (tn x4)) → ((FI u 2307 b_14 = 0 → J14 x3 (x4 + 1)) ∧ (¬ FI u 2307 b_14 = 0 → jl1 (bX19_rowFits_90 K J14 a0 x1 x4 u) x3))) ∧ (¬ AI u b_17 (tn (x4 - 1)) ≤ (AI u b_17 (tn x4)) → K 0 u)))))))))))
def pX19_rowFits (u : Hp) (a0 : Nat) (x1 : Int32) (x2 : Int32) (K : Int32 → Hp → Prop) : Prop :=
  (kd u a0 = 16) ∧ ∃ b_30 : Nat, FR u 1919 a0 = some b_30 ∧ pX19_rowCards u a0 x2 b_30 (fun (u_32 : Hp) => jl2 (bX19_rowFits_14 K a0 x1 u_32) 0 0)
/-! X19_fits -/
def pX19_fits (u : Hp) (a0 : Nat) (x1 : Int32) (x2 : Int32) (K : Int32 → Hp → Prop) : Prop :=
  (kd u a0 = 16) ∧ pX19_isHand (sFI u 1900 a0 0) a0 x1 (fun (r_2 : Int32) => ((r_2 = 0 → pX19_refused (sFI u 1900 a0 0) a0 1 (fun (r_3 : Int32) (u_4 : Hp) => K r_3 u_4)) ∧ (¬ r_2 = 0 → pX19_isRow (sFI u 1900 a0 0) a0 x2 (fun (r_5 : Int32) => ((r_5 = 0 → pX19_refused (sFI u 1900 a0 0) a0 1 (fun (r_6 : Int32) (u_7 : Hp) => K r_6 u_7)) ∧ (¬ r_5 = 0 → pX19_rowFits (sFI u 1900 a0 0) a0 x1 x2 (fun (r_8 : Int32) (u_9 : Hp) => ((r_8 = 0 → (kd u_9 a0 = 16) ∧ pX19_good u_9 a0 0 (fun (r_11 : Int32) (u_12 : Hp) => K r_11 u_12)) ∧ (¬ r_8 = 0 → (kd u_9 a0 = 16) ∧ pX19_good u_9 a0 1 (fun (r_14 : Int32) (u_15 : Hp) => K r_14 u_15))))))))))
/-! X4_fitting -/
def pX4_fitting (u : Hp) (a0 : Nat) (K : Int32 → Prop) : Prop :=
  (kd u a0 = 4) ∧ K ((FI u 408 a0) * (FI u 410 a0))
/-! X1_fitting -/
def pX1_fitting (u : Hp) (a0 : Nat) (K : Int32 → Hp → Prop) : Prop :=
  (kd u a0 = 1) ∧ pX1_anew u a0 (fun (u_2 : Hp) => (kd u_2 a0 = 1) ∧ ((FR u_2 103 a0 = none → pX1_no u_2 a0 1 (fun (r_6 : Int32) (u_7 : Hp) => K r_6 u_7)) ∧ (∀ b_4 : Nat, FR u_2 103 a0 = some b_4 → ∃ b_8 : Nat, FR u_2 109 a0 = some b_8 ∧ (kd u_2 b_8 = 4) ∧ pX4_fitting u_2 b_8 (fun (r_11 : Int32) => K r_11 u_2))))
/-! X19_fittingMany -/
def pX19_fittingMany (u : Hp) (a0 : Nat) (K : Int32 → Prop) : Prop :=
  (kd u a0 = 16) ∧ pX19_isOneOrder u a0 (fun (r_2 : Int32) => ((r_2 = 0 → ∃ b_3 : Nat, FR u 1903 a0 = some b_3 ∧ (kd u b_3 = 20) ∧ pX19_rowsOf (FI u 2302 b_3) (FI u 2304 b_3) (fun (r_6 : Int64) => pX23_tilts u b_3 (fun (r_7 : Int32) => K ((r_6.toInt32) * r_7)))) ∧ (¬ r_2 = 0 → ∃ b_8 : Nat, FR u 1903 a0 = some b_8 ∧ (kd u b_8 = 20) ∧ pX19_setsOf (FI u 2302 b_8) (FI u 2304 b_8) (fun (r_11 : Int64) => pX23_tilts u b_8 (fun (r_12 : Int32) => K ((r_11.toInt32) * r_12))))))
/-! X19_fitting -/
def pX19_fitting (u : Hp) (a0 : Nat) (K : Int32 → Hp → Prop) : Prop :=
  (kd u a0 = 16) ∧ ((FR u 1903 a0 = none → pX19_refused (sFI u 1900 a0 0) a0 1 (fun (r_4 : Int32) (u_5 : Hp) => K r_4 u_5)) ∧ (∀ b_2 : Nat, FR u 1903 a0 = some b_2 → pX19_fittingMany (sFI u 1900 a0 0) a0 (fun (r_6 : Int32) => pX19_good (sFI u 1900 a0 0) a0 r_6 (fun (r_7 : Int32) (u_8 : Hp) => K r_7 u_8))))
/-! X1_isRule -/
def pX1_isRule (u : Hp) (a0 : Nat) (x1 : Int32) (K : Int32 → Prop) : Prop :=
  (kd u a0 = 1) ∧ ((FR u 103 a0 = none → K 0) ∧ (∀ b_2 : Nat, FR u 103 a0 = some b_2 → ∃ b_4 : Nat, FR u 103 a0 = some b_4 ∧ (kd u b_4 = 17) ∧ pX1_in x1 0 ((FI u 2007 b_4) - 1) (fun (r_7 : Int32) => ((r_7 = 0 → K 0) ∧ (¬ r_7 = 0 → K 1)))))
/-! X4_row -/
def pX4_row (u : Hp) (a0 : Nat) (x1 : Int32) (x2 : Int32) (K : Int32 → Prop) : Prop :=
  (kd u a0 = 4) ∧ ∃ b_2 : Nat, FR u 400 a0 = some b_2 ∧ (¬ FI u 410 a0 = 0) ∧ (kd u b_2 = 101) ∧ vp_in (((FI u 408 a0) * x1) + (x2 / (FI u 410 a0))) (ln u b_2) ∧ (¬ FI u 410 a0 = 0) ∧ K (((AI u b_2 (tn (((FI u 408 a0) * x1) + (x2 / (FI u 410 a0))))) * (FI u 410 a0)) + (jrem x2 (FI u 410 a0)))
/-! X4_turns -/
def bX4_turns_5 (K : Hp → Prop) (a0 : Nat) (x2 : Int32) (J5 : Int32 → Int32 → Hp → Prop) (x3 : Int32) (x4 : Int32) (u : Hp) : Prop :=
  ((x4 = 0 → K u) ∧ (¬ x4 = 0 → (kd u a0 = 4) ∧ ∃ b_2 : Nat, FR u 403 a0 = some b_2 ∧ (kd u b_2 = 101) ∧ vp_in x3 (ln u b_2) ∧ ∃ b_5 : Nat, FR u 402 a0 = some b_5 ∧ (kd u b_5 = 101) ∧ vp_in (AI u b_2 (tn x3)) (ln u b_5) ∧ ∀ x6_8 : Int32, x6_8 = AI u b_5 (tn (AI u b_2 (tn x3))) → vp_in (AI u b_2 (tn x3)) (ln u b_5) ∧ ∃ b_10 : Nat, FR u 401 a0 = some b_10 ∧ (kd u b_10 = 101) ∧ vp_in x3 (ln u b_10) ∧ ((AI u b_2 (tn x3) = x2 → J5 x6_8 0 (sAI (sAI u b_5 (upd (AI u b_5) (tn (AI u b_2 (tn x3))) x3)) b_10 (upd (AI (sAI u b_5 (upd (AI u b_5) (tn (AI u b_2 (tn x3))) x3)) b_10) (tn x3) (AI u b_2 (tn x3))))) ∧ (¬ AI u b_2 (tn x3) = x2 → J5 x6_8 1 (sAI (sAI u b_5 (upd (AI u b_5) (tn (AI u b_2 (tn x3))) x3)) b_10 (upd (AI (sAI u b_5 (upd (AI u b_5) (tn (AI u b_2 (tn x3))) x3)) b_10) (tn x3) (AI u b_2 (tn x3))))))))
def pX4_turns (u : Hp) (a0 : Nat) (x1 : Int32) (x2 : Int32) (K : Hp → Prop) : Prop :=
  jl3 (bX4_turns_5 K a0 x2) x1 1 u
/-! X4_gives -/
def bX4_gives_96 (K : Int32 → Hp → Prop) (J22 : Int32 → Int32 → Hp → Prop) (J40 : Int32 → Int32 → Hp → Prop) (a0 : Nat) (x1 : Int32) (x2 : Int32) (x3 : Int32) (x4 : Int32) (x5 : Int32) (x6 : Int32) (x7 : Int32) (x8 : Int32) (u : Hp) : Prop :=
  (kd u a0 = 4) ∧ ∃ b_2 : Nat, FR u 404 a0 = some b_2 ∧ (kd u b_2 = 101) ∧ vp_in x7 (ln u b_2) ∧ ∃ b_5 : Nat, FR u 403 a0 = some b_5 ∧ (kd u b_5 = 101) ∧ vp_in x7 (ln u b_5) ∧ ((0 ≤ x8 → ∃ b_8 : Nat, FR u 405 a0 = some b_8 ∧ (kd u b_8 = 101) ∧ vp_in x3 (ln u b_8) ∧ J40 (x3 + 1) (x6 + 1) (sAI (sAI (sAI u b_2 (upd (AI u b_2) (tn x7) (FI u 411 a0))) b_5 (upd (AI (sAI u b_2 (upd (AI u b_2) (tn x7) (FI u 411 a0))) b_5) (tn x7) x5)) b_8 (upd (AI (sAI (sAI u b_2 (upd (AI u b_2) (tn x7) (FI u 411 a0))) b_5 (upd (AI (sAI u b_2 (upd (AI u b_2) (tn x7) (FI u 411 a0))) b_5) (tn x7) x5)) b_8) (tn x3) x8))) ∧ (¬ 0 ≤ x8 → pX4_turns (sAI (sAI u b_2 (upd (AI u b_2) (tn x7) (FI u 411 a0))) b_5 (upd (AI (sAI u b_2 (upd (AI u b_2) (tn x7) (FI u 411 a0))) b_5) (tn x7) x5)) a0 x7 x1 (fun (u_11 : Hp) => K 1 u_11)))
def bX4_gives_40 (K : Int32 → Hp → Prop) (J22 : Int32 → Int32 → Hp → Prop) (a0 : Nat) (x1 : Int32) (x2 : Int32) (x4 : Int32) (x5 : Int32) (J40 : Int32 → Int32 → Hp → Prop) (x3 : Int32) (x6 : Int32) (u : Hp) : Prop :=
  (kd u a0 = 4) ∧ pX4_fitting u a0 (fun (r_14 : Int32) => ((r_14 ≤ x6 → J22 x3 (x4 + 1) u) ∧ (¬ r_14 ≤ x6 → pX4_row u a0 x5 x6 (fun (r_15 : Int32) => ∃ b_16 : Nat, FR u 401 a0 = some b_16 ∧ (kd u b_16 = 101) ∧ vp_in r_15 (ln u b_16) ∧ ∃ b_19 : Nat, FR u 404 a0 = some b_19 ∧ (kd u b_19 = 101) ∧ vp_in r_15 (ln u b_19) ∧ ((AI u b_19 (tn r_15) = (FI u 411 a0) → J40 x3 (x6 + 1) u) ∧ (¬ AI u b_19 (tn r_15) = (FI u 411 a0) → ((AI u b_16 (tn r_15) < 0 → bX4_gives_96 K J22 J40 a0 x1 x2 x3 x4 x5 x6 r_15 (AI u b_16 (tn r_15)) u) ∧ (¬ AI u b_16 (tn r_15) < 0 → ((x2 ≤ (AI u b_16 (tn r_15)) → bX4_gives_96 K J22 J40 a0 x1 x2 x3 x4 x5 x6 r_15 (AI u b_16 (tn r_15)) u) ∧ (¬ x2 ≤ (AI u b_16 (tn r_15)) → J40 x3 (x6 + 1) u))))))))))
def bX4_gives_22 (K : Int32 → Hp → Prop) (a0 : Nat) (x1 : Int32) (x2 : Int32) (J22 : Int32 → Int32 → Hp → Prop) (x3 : Int32) (x4 : Int32) (u : Hp) : Prop :=
  ((x3 ≤ x4 → K 0 u) ∧ (¬ x3 ≤ x4 → (kd u a0 = 4) ∧ ∃ b_27 : Nat, FR u 405 a0 = some b_27 ∧ (kd u b_27 = 101) ∧ vp_in x4 (ln u b_27) ∧ jl3 (bX4_gives_40 K J22 a0 x1 x2 x4 (AI u b_27 (tn x4))) x3 0 u))
def pX4_gives (u : Hp) (a0 : Nat) (x1 : Int32) (x2 : Int32) (K : Int32 → Hp → Prop) : Prop :=
  (kd u a0 = 4) ∧ ∃ b_32 : Nat, FR u 405 a0 = some b_32 ∧ (kd u b_32 = 101) ∧ vp_in 0 (ln u b_32) ∧ jl3 (bX4_gives_22 K a0 x1 x2) 1 0 (sAI (sFI u 411 a0 ((FI u 411 a0) + 1)) b_32 (upd (AI u b_32) (tn 0) x1))
/-! X4_pair -/
def bX4_pair_60 (K : Hp → Prop) (a0 : Nat) (J60 : Int32 → Hp → Prop) (x1 : Int32) (u : Hp) : Prop :=
  (kd u a0 = 4) ∧ ((FI u 409 a0 ≤ x1 → K u) ∧ (¬ FI u 409 a0 ≤ x1 → pX4_gives u a0 x1 0 (fun (r_2 : Int32) (u_3 : Hp) => ((r_2 = 0 → (kd u_3 a0 = 4) ∧ J60 (x1 + 1) (sFI u_3 412 a0 ((FI u 412 a0) + 0))) ∧ (¬ r_2 = 0 → (kd u_3 a0 = 4) ∧ J60 (x1 + 1) (sFI u_3 412 a0 ((FI u 412 a0) + 1)))))))
def bX4_pair_32 (K : Hp → Prop) (a0 : Nat) (J32 : Int32 → Hp → Prop) (x1 : Int32) (u : Hp) : Prop :=
  (kd u a0 = 4) ∧ ((FI u 409 a0 ≤ x1 → jl2 (bX4_pair_60 K a0) 0 (sFI u 412 a0 0)) ∧ (¬ FI u 409 a0 ≤ x1 → ∃ b_9 : Nat, FR u 402 a0 = some b_9 ∧ (kd u b_9 = 101) ∧ vp_in x1 (ln u b_9) ∧ J32 (x1 + 1) (sAI u b_9 (upd (AI u b_9) (tn x1) (-1)))))
def bX4_pair_11 (K : Hp → Prop) (a0 : Nat) (J11 : Int32 → Hp → Prop) (x1 : Int32) (u : Hp) : Prop :=
  ((190080 ≤ x1 → jl2 (bX4_pair_32 K a0) 0 u) ∧ (¬ 190080 ≤ x1 → (kd u a0 = 4) ∧ ∃ b_14 : Nat, FR u 401 a0 = some b_14 ∧ (kd u b_14 = 101) ∧ vp_in x1 (ln u b_14) ∧ J11 (x1 + 1) (sAI u b_14 (upd (AI u b_14) (tn x1) (-1)))))
def pX4_pair (u : Hp) (a0 : Nat) (K : Hp → Prop) : Prop :=
  (kd u a0 = 4) ∧ ((FI u 412 a0 = (-1) → jl2 (bX4_pair_11 K a0) 0 u) ∧ (¬ FI u 412 a0 = (-1) → K u))
/-! X4_takes -/
def bX4_takes_25 (K : Int32 → Hp → Prop) (a0 : Nat) (x1 : Int32) (x2 : Int32) (x3 : Int32) (u : Hp) : Prop :=
  (kd u a0 = 4) ∧ ∃ b_2 : Nat, FR u 402 a0 = some b_2 ∧ (kd u b_2 = 101) ∧ vp_in x1 (ln u b_2) ∧ ∃ b_5 : Nat, FR u 401 a0 = some b_5 ∧ (kd u b_5 = 101) ∧ vp_in (AI u b_2 (tn x1)) (ln u b_5) ∧ vp_in x2 (ln u b_5) ∧ vp_in x1 (ln u b_2) ∧ ((0 ≤ x3 → ∀ u_8 : Hp, u_8 = (sAI (sAI (sAI u b_5 (upd (AI u b_5) (tn (AI u b_2 (tn x1))) (-1))) b_5 (upd (AI (sAI u b_5 (upd (AI u b_5) (tn (AI u b_2 (tn x1))) (-1))) b_5) (tn x2) x1)) b_2 (upd (AI (sAI (sAI u b_5 (upd (AI u b_5) (tn (AI u b_2 (tn x1))) (-1))) b_5 (upd (AI (sAI u b_5 (upd (AI u b_5) (tn (AI u b_2 (tn x1))) (-1))) b_5) (tn x2) x1)) b_2) (tn x1) x2)) → vp_in x3 (ln u_8 b_2) ∧ pX4_gives (sAI u_8 b_2 (upd (AI u_8 b_2) (tn x3) (-1))) a0 x3 (x1 + 1) (fun (r_13 : Int32) (u_14 : Hp) => ((r_13 = 0 → (kd u_14 a0 = 4) ∧ ∃ b_16 : Nat, FR u_14 401 a0 = some b_16 ∧ (kd u_14 b_16 = 101) ∧ vp_in x2 (ln u_14 b_16) ∧ ∃ b_19 : Nat, FR u_14 402 a0 = some b_19 ∧ (kd u_14 b_19 = 101) ∧ vp_in x3 (ln u_14 b_19) ∧ vp_in (AI u b_2 (tn x1)) (ln u_14 b_16) ∧ ∀ u_22 : Hp, u_22 = (sAI (sAI (sAI u_14 b_16 (upd (AI u_14 b_16) (tn x2) x3)) b_19 (upd (AI (sAI u_14 b_16 (upd (AI u_14 b_16) (tn x2) x3)) b_19) (tn x3) x2)) b_16 (upd (AI (sAI (sAI u_14 b_16 (upd (AI u_14 b_16) (tn x2) x3)) b_19 (upd (AI (sAI u_14 b_16 (upd (AI u_14 b_16) (tn x2) x3)) b_19) (tn x3) x2)) b_16) (tn (AI u b_2 (tn x1))) x1)) → vp_in x1 (ln u_22 b_19) ∧ K 0 (sAI u_22 b_19 (upd (AI u_22 b_19) (tn x1) (AI u b_2 (tn x1))))) ∧ (¬ r_13 = 0 → K 1 u_14)))) ∧ (¬ 0 ≤ x3 → K 1 (sAI (sAI (sAI u b_5 (upd (AI u b_5) (tn (AI u b_2 (tn x1))) (-1))) b_5 (upd (AI (sAI u b_5 (upd (AI u b_5) (tn (AI u b_2 (tn x1))) (-1))) b_5) (tn x2) x1)) b_2 (upd (AI (sAI (sAI u b_5 (upd (AI u b_5) (tn (AI u b_2 (tn x1))) (-1))) b_5 (upd (AI (sAI u b_5 (upd (AI u b_5) (tn (AI u b_2 (tn x1))) (-1))) b_5) (tn x2) x1)) b_2) (tn x1) x2))))
def pX4_takes (u : Hp) (a0 : Nat) (x1 : Int32) (x2 : Int32) (K : Int32 → Hp → Prop) : Prop :=
  (kd u a0 = 4) ∧ ∃ b_30 : Nat, FR u 401 a0 = some b_30 ∧ (kd u b_30 = 101) ∧ vp_in x2 (ln u b_30) ∧ ((AI u b_30 (tn x2) = x1 → K 1 u) ∧ (¬ AI u b_30 (tn x2) = x1 → ((AI u b_30 (tn x2) < 0 → bX4_takes_25 K a0 x1 x2 (AI u b_30 (tn x2)) u) ∧ (¬ AI u b_30 (tn x2) < 0 → ((x1 ≤ (AI u b_30 (tn x2)) → bX4_takes_25 K a0 x1 x2 (AI u b_30 (tn x2)) u) ∧ (¬ x1 ≤ (AI u b_30 (tn x2)) → K 0 u))))))
/-! X4_least -/
def bX4_least_46 (K : Int32 → Hp → Prop) (J29 : Int32 → Hp → Prop) (a0 : Nat) (x1 : Int32) (J46 : Int32 → Hp → Prop) (x2 : Int32) (u : Hp) : Prop :=
  (kd u a0 = 4) ∧ pX4_row u a0 x1 x2 (fun (r_2 : Int32) => pX4_takes u a0 x1 r_2 (fun (r_3 : Int32) (u_4 : Hp) => ((r_3 = 0 → J46 (x2 + 1) u_4) ∧ (¬ r_3 = 0 → J29 (x1 + 1) u_4))))
def bX4_least_29 (K : Int32 → Hp → Prop) (a0 : Nat) (J29 : Int32 → Hp → Prop) (x1 : Int32) (u : Hp) : Prop :=
  (kd u a0 = 4) ∧ ((FI u 409 a0 ≤ x1 → K 1 (sFI u 413 a0 1)) ∧ (¬ FI u 409 a0 ≤ x1 → ((FI u 413 a0 = 0 → jl2 (bX4_least_46 K J29 a0 x1) 0 u) ∧ (¬ FI u 413 a0 = 0 → K 1 (sFI u 413 a0 1)))))
def pX4_least (u : Hp) (a0 : Nat) (K : Int32 → Hp → Prop) : Prop :=
  (kd u a0 = 4) ∧ pX4_pair u a0 (fun (u_10 : Hp) => (kd u_10 a0 = 4) ∧ ((FI u_10 412 a0 < (FI u_10 409 a0) → K 0 u_10) ∧ (¬ FI u_10 412 a0 < (FI u_10 409 a0) → ((FI u_10 409 a0 ≤ 300 → jl2 (bX4_least_29 K a0) 0 u_10) ∧ (¬ FI u_10 409 a0 ≤ 300 → K 0 u_10)))))
/-! X4_rowOf -/
def pX4_rowOf (u : Hp) (a0 : Nat) (x1 : Int32) (K : Int32 → Prop) : Prop :=
  (kd u a0 = 4) ∧ ∃ b_2 : Nat, FR u 402 a0 = some b_2 ∧ (kd u b_2 = 101) ∧ vp_in x1 (ln u b_2) ∧ K (AI u b_2 (tn x1))
/-! X1_spread -/
def bX1_spread_4 (K : Int32 → Hp → Prop) (x0 : Int32) (a1 : Nat) (J4 : Int32 → Int32 → Hp → Prop) (x2 : Int32) (x3 : Int32) (u : Hp) : Prop :=
  ((12 ≤ x3 → K x2 u) ∧ (¬ 12 ≤ x3 → pX1_has x0 x3 (fun (r_1 : Int32) => ((r_1 = 0 → J4 x2 (x3 + 1) u) ∧ (¬ r_1 = 0 → (kd u a1 = 101) ∧ vp_in x2 (ln u a1) ∧ J4 (x2 + 1) (x3 + 1) (sAI u a1 (upd (AI u a1) (tn x2) x3)))))))
def pX1_spread (u : Hp) (x0 : Int32) (a1 : Nat) (K : Int32 → Hp → Prop) : Prop :=
  jl3 (bX1_spread_4 K x0 a1) 0 0 u
/-! X7_index -/
def pX7_index (a0 : Nat) (a1 : Nat) (a2 : Nat) (K : Int32 → Prop) : Prop :=
  K 0
/-! X8_index -/
def pX8_index (u : Hp) (a0 : Nat) (a1 : Nat) (a2 : Nat) (K : Int32 → Prop) : Prop :=
  (kd u a2 = 17) ∧ K ((FI u 2005 a2) - 1)
/-! X9_index -/
def pX9_index (u : Hp) (a0 : Nat) (a1 : Nat) (a2 : Nat) (K : Int32 → Prop) : Prop :=
  (kd u a2 = 17) ∧ K (((FI u 2005 a2) - (FI u 2006 a2)) / 2)
/-! X10_index -/
def bX10_index_5 (K : Int32 → Prop) (a1 : Nat) (a2 : Nat) (u : Hp) (J5 : Int32 → Int32 → Prop) (x3 : Int32) (x4 : Int32) : Prop :=
  (kd u a2 = 17) ∧ ((FI u 2005 a2 ≤ x4 → (¬ FI u 2005 a2 = 0) ∧ K (jrem x3 (FI u 2005 a2))) ∧ (¬ FI u 2005 a2 ≤ x4 → (kd u a1 = 101) ∧ vp_in x4 (ln u a1) ∧ J5 (x3 + (AI u a1 (tn x4))) (x4 + 1)))
def pX10_index (u : Hp) (a0 : Nat) (a1 : Nat) (a2 : Nat) (K : Int32 → Prop) : Prop :=
  jl2 (bX10_index_5 K a1 a2 u) 0 0
/-! X12_of -/
def pX12_of (a0 : Nat) (x1 : Int32) (x2 : Int32) (x3 : Int32) (a4 : Nat) (K : Int32 → Prop) : Prop :=
  K x1
/-! X20_ranks -/
def pX20_ranks (u : Hp) (a0 : Nat) (K : Int32 → Prop) : Prop :=
  (kd u a0 = 17) ∧ (¬ FI u 2004 a0 = 0) ∧ K ((FI u 2003 a0) / (FI u 2004 a0))
/-! X13_of -/
def pX13_of (u : Hp) (a0 : Nat) (x1 : Int32) (x2 : Int32) (x3 : Int32) (a4 : Nat) (K : Int32 → Prop) : Prop :=
  (kd u a4 = 17) ∧ pX20_ranks u a4 (fun (r_2 : Int32) => (¬ r_2 = 0) ∧ K (jrem x1 r_2))
/-! X14_of -/
def bX14_of_3 (K : Int32 → Prop) (x1 : Int32) (x2 : Int32) (a4 : Nat) (u : Hp) (J3 : Int32 → Prop) (x5 : Int32) : Prop :=
  (kd u a4 = 17) ∧ (¬ FI u 2003 a4 = 0) ∧ pX1_has x2 (jrem ((x1 - x5) + (FI u 2003 a4)) (FI u 2003 a4)) (fun (r_2 : Int32) => ((r_2 = 0 → J3 (x5 + 1)) ∧ (¬ r_2 = 0 → K x5)))
def pX14_of (u : Hp) (a0 : Nat) (x1 : Int32) (x2 : Int32) (x3 : Int32) (a4 : Nat) (K : Int32 → Prop) : Prop :=
  jl1 (bX14_of_3 K x1 x2 a4 u) 1
/-! X15_of -/
def bX15_of_6 (K : Int32 → Prop) (x1 : Int32) (x2 : Int32) (a4 : Nat) (u : Hp) (J6 : Int32 → Int32 → Prop) (x5 : Int32) (x6 : Int32) : Prop :=
  ((x1 ≤ x6 → (kd u a4 = 17) ∧ (¬ FI u 2005 a4 = 0) ∧ K (x5 / (FI u 2005 a4))) ∧ (¬ x1 ≤ x6 → pX1_has x2 x6 (fun (r_2 : Int32) => ((r_2 = 0 → J6 (x5 + 1) (x6 + 1)) ∧ (¬ r_2 = 0 → J6 (x5 + 0) (x6 + 1))))))
def pX15_of (u : Hp) (a0 : Nat) (x1 : Int32) (x2 : Int32) (x3 : Int32) (a4 : Nat) (K : Int32 → Prop) : Prop :=
  jl2 (bX15_of_6 K x1 x2 a4 u) 0 0
/-! X16_of -/
def bX16_of_6 (K : Int32 → Prop) (x2 : Int32) (x3 : Int32) (a4 : Nat) (u : Hp) (J6 : Int32 → Int32 → Prop) (x5 : Int32) (x6 : Int32) : Prop :=
  (kd u a4 = 17) ∧ ((FI u 2003 a4 ≤ x6 → (¬ FI u 2003 a4 = 0) ∧ K (jrem x5 (FI u 2003 a4))) ∧ (¬ FI u 2003 a4 ≤ x6 → pX1_has x3 x6 (fun (r_2 : Int32) => ((r_2 = 0 → J6 (x5 + 0) (x6 + 1)) ∧ (¬ r_2 = 0 → pX1_has x2 x6 (fun (r_3 : Int32) => ((r_3 = 0 → J6 (x5 + x6) (x6 + 1)) ∧ (¬ r_3 = 0 → J6 (x5 + 0) (x6 + 1)))))))))
def pX16_of (u : Hp) (a0 : Nat) (x1 : Int32) (x2 : Int32) (x3 : Int32) (a4 : Nat) (K : Int32 → Prop) : Prop :=
  jl2 (bX16_of_6 K x2 x3 a4 u) 0 0
/-! X1_arrange -/
def bX1_arrange_58 (K : Hp → Prop) (J9 : Int32 → Int32 → Int32 → Hp → Prop) (J43 : Int32 → Int32 → Prop) (a0 : Nat) (x1 : Int32) (x2 : Int32) (a4 : Nat) (x5 : Int32) (x6 : Int32) (x7 : Int32) (x9 : Int32) (x10 : Int32) (u : Hp) : Prop :=
  pX1_has x5 x10 (fun (r_1 : Int32) => ((r_1 = 0 → J43 (x9 - 1) (x10 + 1)) ∧ (¬ r_1 = 0 → J43 (x9 - 0) (x10 + 1))))
def bX1_arrange_43 (K : Hp → Prop) (J9 : Int32 → Int32 → Int32 → Hp → Prop) (a0 : Nat) (x1 : Int32) (x2 : Int32) (a4 : Nat) (x5 : Int32) (x6 : Int32) (x7 : Int32) (u : Hp) (J43 : Int32 → Int32 → Prop) (x9 : Int32) (x10 : Int32) : Prop :=
  pX1_has x5 x10 (fun (r_3 : Int32) => ((r_3 = 0 → ((x9 ≤ 0 → (kd u a0 = 101) ∧ vp_in x10 (ln u a0) ∧ (kd u a4 = 101) ∧ vp_in (x1 + x7) (ln u a4) ∧ J9 (x5 ||| (jshl 1 x10)) x6 (x7 + 1) (sAI u a4 (upd (AI u a4) (tn (x1 + x7)) (AI u a0 (tn x10))))) ∧ (¬ x9 ≤ 0 → bX1_arrange_58 K J9 J43 a0 x1 x2 a4 x5 x6 x7 x9 x10 u))) ∧ (¬ r_3 = 0 → bX1_arrange_58 K J9 J43 a0 x1 x2 a4 x5 x6 x7 x9 x10 u)))
def bX1_arrange_9 (K : Hp → Prop) (a0 : Nat) (x1 : Int32) (x2 : Int32) (a4 : Nat) (J9 : Int32 → Int32 → Int32 → Hp → Prop) (x5 : Int32) (x6 : Int32) (x7 : Int32) (u : Hp) : Prop :=
  ((x2 ≤ x7 → K u) ∧ (¬ x2 ≤ x7 → pX1_factorial ((x2 - 1) - x7) (fun (r_8 : Int32) => (¬ r_8 = 0) ∧ (¬ r_8 = 0) ∧ jl2 (bX1_arrange_43 K J9 a0 x1 x2 a4 x5 (jrem x6 r_8) x7 u) (x6 / r_8) 0)))
def pX1_arrange (u : Hp) (a0 : Nat) (x1 : Int32) (x2 : Int32) (x3 : Int32) (a4 : Nat) (K : Hp → Prop) : Prop :=
  jl4 (bX1_arrange_9 K a0 x1 x2 a4) 0 x3 0 u
/-! X18_lay -/
def bX18_lay_218 (K : Int32 → Hp → Prop) (a0 : Nat) (a2 : Nat) (x7 : Int32) (x8 : Int32) (u : Hp) : Prop :=
  (kd u a0 = 15) ∧ ∃ b_2 : Nat, FR u 1808 a0 = some b_2 ∧ (kd u a2 = 17) ∧ pX20_rank u a2 b_2 x8 (fun (r_5 : Int32) => pX20_tiltings u a2 (fun (r_6 : Int32) => pX20_tiltings u a2 (fun (r_7 : Int32) => (¬ r_7 = 0) ∧ K ((r_5 * r_6) + (jrem x7 r_7)) u)))
def bX18_lay_160 (K : Int32 → Hp → Prop) (a0 : Nat) (a1 : Nat) (a2 : Nat) (x6 : Int32) (x7 : Int32) (J160 : Int32 → Int32 → Hp → Prop) (x8 : Int32) (x9 : Int32) (u : Hp) : Prop :=
  (kd u a2 = 17) ∧ ((FI u 2005 a2 ≤ x9 → ((FI u 2009 a2 = 0 → ((FI u 2010 a2 = 0 → pX1_factorial x8 (fun (r_9 : Int32) => (kd u a0 = 15) ∧ ∃ b_11 : Nat, FR u 1808 a0 = some b_11 ∧ (¬ r_9 = 0) ∧ ∃ b_13 : Nat, FR u 1809 a0 = some b_13 ∧ pX1_arrange u b_11 0 x8 (jrem x7 r_9) b_13 (fun (u_15 : Hp) => (kd u_15 a0 = 15) ∧ ∃ b_17 : Nat, FR u_15 1809 a0 = some b_17 ∧ (kd u_15 a2 = 17) ∧ pX20_rank u_15 a2 b_17 x8 (fun (r_20 : Int32) => pX20_tiltings u_15 a2 (fun (r_21 : Int32) => (¬ r_9 = 0) ∧ pX20_tiltings u_15 a2 (fun (r_22 : Int32) => (¬ r_22 = 0) ∧ K ((r_20 * r_21) + (jrem (x7 / r_9) r_22)) u_15)))))) ∧ (¬ FI u 2010 a2 = 0 → bX18_lay_218 K a0 a2 x7 x8 u))) ∧ (¬ FI u 2009 a2 = 0 → bX18_lay_218 K a0 a2 x7 x8 u))) ∧ (¬ FI u 2005 a2 ≤ x9 → (kd u a1 = 101) ∧ vp_in x9 (ln u a1) ∧ pX1_has x6 (AI u a1 (tn x9)) (fun (r_26 : Int32) => ((r_26 = 0 → J160 x8 (x9 + 1) u) ∧ (¬ r_26 = 0 → (kd u a0 = 15) ∧ ∃ b_28 : Nat, FR u 1808 a0 = some b_28 ∧ vp_in x9 (ln u a1) ∧ (kd u b_28 = 101) ∧ vp_in x8 (ln u b_28) ∧ J160 (x8 + 1) (x9 + 1) (sAI u b_28 (upd (AI u b_28) (tn x8) (AI u a1 (tn x9)))))))))
def bX18_lay_145 (K : Int32 → Hp → Prop) (J106 : Int32 → Int32 → Prop) (a0 : Nat) (a1 : Nat) (a2 : Nat) (x3 : Int32) (x5 : Int32) (x6 : Int32) (x8 : Int32) (z0 : Int32) (z1 : Int32) (u : Hp) : Prop :=
  J106 (z1 + z0) (x8 + 1)
def bX18_lay_106 (K : Int32 → Hp → Prop) (a0 : Nat) (a1 : Nat) (a2 : Nat) (x3 : Int32) (x5 : Int32) (x6 : Int32) (u : Hp) (J106 : Int32 → Int32 → Prop) (x7 : Int32) (x8 : Int32) : Prop :=
  (kd u a2 = 17) ∧ ((FI u 2003 a2 ≤ x8 → jl3 (bX18_lay_160 K a0 a1 a2 x6 x7) 0 0 u) ∧ (¬ FI u 2003 a2 ≤ x8 → pX1_has x5 x8 (fun (r_34 : Int32) => ((r_34 = 0 → J106 x7 (x8 + 1)) ∧ (¬ r_34 = 0 → (kd u a0 = 15) ∧ ∃ b_36 : Nat, FR u 1805 a0 = some b_36 ∧ ((kd u b_36 = 10 ∨ kd u b_36 = 11 ∨ kd u b_36 = 12 ∨ kd u b_36 = 13 ∨ kd u b_36 = 14) ∧ (kd u b_36 = 10 → pX12_of b_36 x8 x6 x3 a2 (fun (r_39 : Int32) => bX18_lay_145 K J106 a0 a1 a2 x3 x5 x6 x8 r_39 (x7 * (FI u 2003 a2)) u)) ∧ (kd u b_36 = 11 → pX13_of u b_36 x8 x6 x3 a2 (fun (r_41 : Int32) => bX18_lay_145 K J106 a0 a1 a2 x3 x5 x6 x8 r_41 (x7 * (FI u 2003 a2)) u)) ∧ (kd u b_36 = 12 → pX14_of u b_36 x8 x6 x3 a2 (fun (r_43 : Int32) => bX18_lay_145 K J106 a0 a1 a2 x3 x5 x6 x8 r_43 (x7 * (FI u 2003 a2)) u)) ∧ (kd u b_36 = 13 → pX15_of u b_36 x8 x6 x3 a2 (fun (r_45 : Int32) => bX18_lay_145 K J106 a0 a1 a2 x3 x5 x6 x8 r_45 (x7 * (FI u 2003 a2)) u)) ∧ (kd u b_36 = 14 → pX16_of u b_36 x8 x6 x3 a2 (fun (r_47 : Int32) => bX18_lay_145 K J106 a0 a1 a2 x3 x5 x6 x8 r_47 (x7 * (FI u 2003 a2)) u))))))))
def bX18_lay_50 (K : Int32 → Hp → Prop) (a0 : Nat) (a1 : Nat) (a2 : Nat) (x3 : Int32) (z0 : Int32) (u : Hp) : Prop :=
  (kd u a0 = 15) ∧ ∃ b_51 : Nat, FR u 1807 a0 = some b_51 ∧ (kd u b_51 = 101) ∧ vp_in z0 (ln u b_51) ∧ (kd u a2 = 17) ∧ ((FI u 2006 a2 = 2 → (¬ FI u 2005 a2 = 0) ∧ vp_in (jrem (z0 + 1) (FI u 2005 a2)) (ln u b_51) ∧ ∀ x5_57 : Int32, x5_57 = (jshl 1 (AI u b_51 (tn z0))) ||| (jshl 1 (AI u b_51 (tn (jrem (z0 + 1) (FI u 2005 a2))))) → jl2 (bX18_lay_106 K a0 a1 a2 x3 x5_57 (x3 &&& (x5_57 ^^^ (-1))) u) 0 0) ∧ (¬ FI u 2006 a2 = 2 → ∀ x6_55 : Int32, x6_55 = x3 &&& ((jshl 1 (AI u b_51 (tn z0))) ^^^ (-1)) → jl2 (bX18_lay_106 K a0 a1 a2 x3 (jshl 1 (AI u b_51 (tn z0))) x6_55 u) 0 0))
def bX18_lay_5 (K : Int32 → Hp → Prop) (a0 : Nat) (a1 : Nat) (a2 : Nat) (u : Hp) (J5 : Int32 → Int32 → Prop) (x3 : Int32) (x4 : Int32) : Prop :=
  (kd u a2 = 17) ∧ ((FI u 2005 a2 ≤ x4 → (kd u a0 = 15) ∧ ∃ b_62 : Nat, FR u 1807 a0 = some b_62 ∧ pX1_spread u x3 b_62 (fun (r_64 : Int32) (u_65 : Hp) => (kd u_65 a0 = 15) ∧ ∃ b_67 : Nat, FR u_65 1804 a0 = some b_67 ∧ ∃ b_69 : Nat, FR u_65 1807 a0 = some b_69 ∧ ((kd u_65 b_67 = 6 ∨ kd u_65 b_67 = 7 ∨ kd u_65 b_67 = 8 ∨ kd u_65 b_67 = 9) ∧ (kd u_65 b_67 = 6 → pX7_index b_67 b_69 a2 (fun (r_72 : Int32) => bX18_lay_50 K a0 a1 a2 x3 r_72 u_65)) ∧ (kd u_65 b_67 = 7 → pX8_index u_65 b_67 b_69 a2 (fun (r_74 : Int32) => bX18_lay_50 K a0 a1 a2 x3 r_74 u_65)) ∧ (kd u_65 b_67 = 8 → pX9_index u_65 b_67 b_69 a2 (fun (r_76 : Int32) => bX18_lay_50 K a0 a1 a2 x3 r_76 u_65)) ∧ (kd u_65 b_67 = 9 → pX10_index u_65 b_67 b_69 a2 (fun (r_78 : Int32) => bX18_lay_50 K a0 a1 a2 x3 r_78 u_65))))) ∧ (¬ FI u 2005 a2 ≤ x4 → (kd u a1 = 101) ∧ vp_in x4 (ln u a1) ∧ ∀ x3_80 : Int32, x3_80 = x3 ||| (jshl 1 (AI u a1 (tn x4))) → J5 x3_80 (x4 + 1)))
def pX18_lay (u : Hp) (a0 : Nat) (a1 : Nat) (a2 : Nat) (K : Int32 → Hp → Prop) : Prop :=
  jl2 (bX18_lay_5 K a0 a1 a2 u) 0 0
/-! X21_laysBy -/
def bX21_laysBy_64 (K : Int32 → Hp → Prop) (a0 : Nat) (a1 : Nat) (x2 : Int32) (x3 : Int32) (a4 : Nat) (x6 : Int32) (x7 : Int32) (J64 : Int32 → Int32 → Hp → Prop) (x8 : Int32) (x9 : Int32) (u : Hp) : Prop :=
  (kd u a4 = 17) ∧ ((FI u 2005 a4 ≤ x9 → pX1_factorial x8 (fun (r_2 : Int32) => ((x6 ≤ r_2 → (kd u a0 = 18) ∧ ∃ b_4 : Nat, FR u 2105 a0 = some b_4 ∧ (kd u b_4 = 101) ∧ vp_in 0 (ln u b_4) ∧ ∃ b_7 : Nat, FR u 2104 a0 = some b_7 ∧ pX1_arrange (sAI u b_4 (upd (AI u b_4) (tn 0) x7)) b_7 1 x8 (x6 - 1) b_4 (fun (u_9 : Hp) => (kd u_9 a0 = 18) ∧ ∃ b_11 : Nat, FR u_9 2105 a0 = some b_11 ∧ (kd u_9 a4 = 17) ∧ pX20_rank u_9 a4 b_11 (x8 + 1) (fun (r_14 : Int32) => pX20_tiltings u_9 a4 (fun (r_15 : Int32) => K (r_14 * r_15) u_9)))) ∧ (¬ x6 ≤ r_2 → K (-2) u)))) ∧ (¬ FI u 2005 a4 ≤ x9 → (kd u a1 = 101) ∧ vp_in x9 (ln u a1) ∧ ((AI u a1 (tn x9) = x2 → J64 x8 (x9 + 1) u) ∧ (¬ AI u a1 (tn x9) = x2 → vp_in x9 (ln u a1) ∧ ((AI u a1 (tn x9) = x3 → J64 x8 (x9 + 1) u) ∧ (¬ AI u a1 (tn x9) = x3 → (kd u a0 = 18) ∧ ∃ b_19 : Nat, FR u 2104 a0 = some b_19 ∧ vp_in x9 (ln u a1) ∧ (kd u b_19 = 101) ∧ vp_in x8 (ln u b_19) ∧ J64 (x8 + 1) (x9 + 1) (sAI u b_19 (upd (AI u b_19) (tn x8) (AI u a1 (tn x9))))))))))
def bX21_laysBy_38 (K : Int32 → Hp → Prop) (a0 : Nat) (a1 : Nat) (x2 : Int32) (x3 : Int32) (a4 : Nat) (x5 : Int32) (x6 : Int32) (z0 : Int32) (u : Hp) : Prop :=
  ((z0 = x2 → jl3 (bX21_laysBy_64 K a0 a1 x2 x3 a4 x6 z0) 0 0 u) ∧ (¬ z0 = x2 → jl3 (bX21_laysBy_64 K a0 a1 x2 x3 a4 (x5 - x6) z0) 0 0 u))
def pX21_laysBy (u : Hp) (a0 : Nat) (a1 : Nat) (x2 : Int32) (x3 : Int32) (a4 : Nat) (K : Int32 → Hp → Prop) : Prop :=
  (kd u a4 = 17) ∧ pX20_ranks u a4 (fun (r_27 : Int32) => (¬ r_27 = 0) ∧ (¬ r_27 = 0) ∧ (¬ r_27 = 0) ∧ ∀ x6_28 : Int32, x6_28 = jrem (((jrem x3 r_27) - (jrem x2 r_27)) + r_27) r_27 → ((r_27 < (2 * x6_28) → bX21_laysBy_38 K a0 a1 x2 x3 a4 r_27 x6_28 x3 u) ∧ (¬ r_27 < (2 * x6_28) → bX21_laysBy_38 K a0 a1 x2 x3 a4 r_27 x6_28 x2 u)))
/-! X21_lay -/
def bX21_lay_48 (K : Int32 → Hp → Prop) (J33 : Int32 → Prop) (a0 : Nat) (a1 : Nat) (a2 : Nat) (x3 : Int32) (x4 : Int32) (u : Hp) (J48 : Int32 → Prop) (x5 : Int32) : Prop :=
  (kd u a2 = 17) ∧ ((FI u 2005 a2 ≤ x5 → J33 (x4 + 1)) ∧ (¬ FI u 2005 a2 ≤ x5 → (kd u a1 = 101) ∧ vp_in x4 (ln u a1) ∧ (¬ x3 = 0) ∧ vp_in x5 (ln u a1) ∧ (¬ x3 = 0) ∧ (((AI u a1 (tn x4)) / x3 = ((AI u a1 (tn x5)) / x3) → vp_in x4 (ln u a1) ∧ vp_in x5 (ln u a1) ∧ (kd u a0 = 18) ∧ pX21_laysBy u a0 a1 (AI u a1 (tn x4)) (AI u a1 (tn x5)) a2 (fun (r_4 : Int32) (u_5 : Hp) => K r_4 u_5)) ∧ (¬ (AI u a1 (tn x4)) / x3 = ((AI u a1 (tn x5)) / x3) → J48 (x5 + 1)))))
def bX21_lay_33 (K : Int32 → Hp → Prop) (a0 : Nat) (a1 : Nat) (a2 : Nat) (x3 : Int32) (u : Hp) (J33 : Int32 → Prop) (x4 : Int32) : Prop :=
  (kd u a2 = 17) ∧ ((FI u 2005 a2 ≤ x4 → K (-2) u) ∧ (¬ FI u 2005 a2 ≤ x4 → jl1 (bX21_lay_48 K J33 a0 a1 a2 x3 x4 u) (x4 + 1)))
def pX21_lay (u : Hp) (a0 : Nat) (a1 : Nat) (a2 : Nat) (K : Int32 → Hp → Prop) : Prop :=
  (kd u a2 = 17) ∧ ((FI u 2009 a2 = 0 → ((FI u 2010 a2 = 0 → ((FI u 2006 a2 = 1 → pX20_ranks u a2 (fun (r_11 : Int32) => jl1 (bX21_lay_33 K a0 a1 a2 r_11 u) 0)) ∧ (¬ FI u 2006 a2 = 1 → K (-2) u))) ∧ (¬ FI u 2010 a2 = 0 → K (-2) u))) ∧ (¬ FI u 2009 a2 = 0 → K (-2) u))
/-! X22_lay -/
def pX22_lay (a0 : Nat) (a1 : Nat) (a2 : Nat) (K : Int32 → Prop) : Prop :=
  K (-2)
/-! X1_lay -/
def bX1_lay_85 (K : Hp → Prop) (J33 : Int32 → Hp → Prop) (a0 : Nat) (a1 : Nat) (x2 : Int32) (x3 : Int32) (z0 : Int32) (z1 : Int32) (z2 : Nat) (u : Hp) : Prop :=
  (kd u z2 = 101) ∧ vp_in z1 (ln u z2) ∧ J33 (x3 + 1) (sAI u z2 (upd (AI u z2) (tn z1) z0))
def bX1_lay_33 (K : Hp → Prop) (a0 : Nat) (a1 : Nat) (x2 : Int32) (J33 : Int32 → Hp → Prop) (x3 : Int32) (u : Hp) : Prop :=
  (kd u a0 = 1) ∧ ((FI u 108 a0 ≤ x3 → (isRu (kd u a1)) ∧ K (sFI u 1703 a1 1)) ∧ (¬ FI u 108 a0 ≤ x3 → ∃ b_4 : Nat, FR u 103 a0 = some b_4 ∧ ∃ b_6 : Nat, FR u 113 a0 = some b_6 ∧ (kd u b_4 = 17) ∧ pX20_layHand u b_4 x3 b_6 (fun (u_9 : Hp) => (isRu (kd u_9 a1)) ∧ ∃ b_11 : Nat, FR u_9 1702 a1 = some b_11 ∧ ((x2 = 0 → (kd u_9 a0 = 1) ∧ ∃ b_14 : Nat, FR u_9 113 a0 = some b_14 ∧ ∃ b_16 : Nat, FR u_9 103 a0 = some b_16 ∧ ((kd u_9 a1 = 15 ∨ kd u_9 a1 = 18 ∨ kd u_9 a1 = 19) ∧ (kd u_9 a1 = 15 → pX18_lay u_9 a1 b_14 b_16 (fun (r_19 : Int32) (u_20 : Hp) => bX1_lay_85 K J33 a0 a1 x2 x3 r_19 x3 b_11 u_20)) ∧ (kd u_9 a1 = 18 → pX21_lay u_9 a1 b_14 b_16 (fun (r_22 : Int32) (u_23 : Hp) => bX1_lay_85 K J33 a0 a1 x2 x3 r_22 x3 b_11 u_23)) ∧ (kd u_9 a1 = 19 → pX22_lay a1 b_14 b_16 (fun (r_25 : Int32) => bX1_lay_85 K J33 a0 a1 x2 x3 r_25 x3 b_11 u_9)))) ∧ (¬ x2 = 0 → (kd u_9 a0 = 1) ∧ ∃ b_27 : Nat, FR u_9 109 a0 = some b_27 ∧ (kd u_9 b_27 = 4) ∧ pX4_rowOf u_9 b_27 x3 (fun (r_30 : Int32) => bX1_lay_85 K J33 a0 a1 x2 x3 r_30 x3 b_11 u_9))))))
def pX1_lay (u : Hp) (a0 : Nat) (a1 : Nat) (K : Hp → Prop) : Prop :=
  (isRu (kd u a1)) ∧ ((FI u 1703 a1 = 0 → ((jtab (kd u a1) = 0 → jl2 (bX1_lay_33 K a0 a1 0) 0 u) ∧ (¬ jtab (kd u a1) = 0 → (kd u a0 = 1) ∧ ∃ b_35 : Nat, FR u 109 a0 = some b_35 ∧ (kd u b_35 = 4) ∧ pX4_least u b_35 (fun (r_38 : Int32) (u_39 : Hp) => ((r_38 = 0 → jl2 (bX1_lay_33 K a0 a1 0) 0 u_39) ∧ (¬ r_38 = 0 → jl2 (bX1_lay_33 K a0 a1 1) 0 u_39)))))) ∧ (¬ FI u 1703 a1 = 0 → K u))
/-! X1_rowOf -/
def pX1_rowOf (u : Hp) (a0 : Nat) (x1 : Int32) (x2 : Int32) (K : Int32 → Hp → Prop) : Prop :=
  (kd u a0 = 1) ∧ ∃ b_2 : Nat, FR u 103 a0 = some b_2 ∧ (kd u b_2 = 17) ∧ ∃ b_5 : Nat, FR u 2000 b_2 = some b_5 ∧ (kd u b_5 = 106 ∨ kd u b_5 = 107) ∧ vp_in x1 (ln u b_5) ∧ ∃ b_8 : Nat, AR u b_5 (tn x1) = some b_8 ∧ pX1_lay u a0 b_8 (fun (u_11 : Hp) => (kd u_11 a0 = 1) ∧ ∃ b_13 : Nat, FR u_11 103 a0 = some b_13 ∧ (kd u_11 b_13 = 17) ∧ ∃ b_16 : Nat, FR u_11 2000 b_13 = some b_16 ∧ (kd u_11 b_16 = 106 ∨ kd u_11 b_16 = 107) ∧ vp_in x1 (ln u_11 b_16) ∧ ∃ b_19 : Nat, AR u_11 b_16 (tn x1) = some b_19 ∧ (isRu (kd u_11 b_19)) ∧ ∃ b_23 : Nat, FR u_11 1702 b_19 = some b_23 ∧ (kd u_11 b_23 = 101) ∧ vp_in x2 (ln u_11 b_23) ∧ K (AI u_11 b_23 (tn x2)) u_11)
/-! X1_lays -/
def pX1_lays (u : Hp) (a0 : Nat) (x1 : Int32) (x2 : Int32) (K : Int32 → Hp → Prop) : Prop :=
  (kd u a0 = 1) ∧ pX1_anew u a0 (fun (u_2 : Hp) => (kd u_2 a0 = 1) ∧ pX1_isRule u_2 a0 x1 (fun (r_4 : Int32) => ((r_4 = 0 → pX1_no u_2 a0 1 (fun (r_5 : Int32) (u_6 : Hp) => K r_5 u_6)) ∧ (¬ r_4 = 0 → pX1_isHand u_2 a0 x2 (fun (r_7 : Int32) => ((r_7 = 0 → pX1_no u_2 a0 1 (fun (r_8 : Int32) (u_9 : Hp) => K r_8 u_9)) ∧ (¬ r_7 = 0 → pX1_rowOf u_2 a0 x1 x2 (fun (r_10 : Int32) (u_11 : Hp) => K r_10 u_11))))))))
/-! X19_isRule -/
def pX19_isRule (u : Hp) (a0 : Nat) (x1 : Int32) (K : Int32 → Prop) : Prop :=
  (kd u a0 = 16) ∧ ((FR u 1903 a0 = none → K 0) ∧ (∀ b_2 : Nat, FR u 1903 a0 = some b_2 → ((x1 < 0 → K 0) ∧ (¬ x1 < 0 → ∃ b_4 : Nat, FR u 1903 a0 = some b_4 ∧ (kd u b_4 = 20) ∧ ((FI u 2305 b_4 ≤ x1 → K 0) ∧ (¬ FI u 2305 b_4 ≤ x1 → K 1))))))
/-! X19_orders -/
def bX19_orders_84 (K : Hp → Prop) (J16 : Int32 → Int32 → Hp → Prop) (a0 : Nat) (x4 : Int32) (x5 : Int32) (x8 : Int32) (J84 : Int32 → Hp → Prop) (x7 : Int32) (u : Hp) : Prop :=
  ((x7 ≤ x5 → (kd u a0 = 16) ∧ ∃ b_2 : Nat, FR u 1919 a0 = some b_2 ∧ (kd u b_2 = 101) ∧ vp_in x5 (ln u b_2) ∧ J16 x4 (x5 + 1) (sAI u b_2 (upd (AI u b_2) (tn x5) x8))) ∧ (¬ x7 ≤ x5 → (kd u a0 = 16) ∧ ∃ b_6 : Nat, FR u 1919 a0 = some b_6 ∧ (kd u b_6 = 101) ∧ vp_in (x7 - 1) (ln u b_6) ∧ vp_in x7 (ln u b_6) ∧ J84 (x7 + (-1)) (sAI u b_6 (upd (AI u b_6) (tn x7) (AI u b_6 (tn (x7 - 1)))))))
def bX19_orders_16 (K : Hp → Prop) (a0 : Nat) (J16 : Int32 → Int32 → Hp → Prop) (x4 : Int32) (x5 : Int32) (u : Hp) : Prop :=
  (kd u a0 = 16) ∧ ∃ b_11 : Nat, FR u 1903 a0 = some b_11 ∧ (kd u b_11 = 20) ∧ ((FI u 2304 b_11 ≤ x5 → K u) ∧ (¬ FI u 2304 b_11 ≤ x5 → pX19_rowsOf (((FI u 2304 b_11) - 1) - x5) (((FI u 2304 b_11) - 1) - x5) (fun (r_14 : Int64) => (¬ r_14.toInt32 = 0) ∧ (¬ r_14.toInt32 = 0) ∧ ∃ b_15 : Nat, FR u 1919 a0 = some b_15 ∧ (kd u b_15 = 101) ∧ vp_in (x5 + (x4 / (r_14.toInt32))) (ln u b_15) ∧ ∀ x8_18 : Int32, x8_18 = AI u b_15 (tn (x5 + (x4 / (r_14.toInt32)))) → jl2 (bX19_orders_84 K J16 a0 (jrem x4 (r_14.toInt32)) x5 x8_18) (x5 + (x4 / (r_14.toInt32))) u)))
def pX19_orders (u : Hp) (a0 : Nat) (x1 : Int32) (x2 : Int32) (K : Hp → Prop) : Prop :=
  (kd u a0 = 16) ∧ ∃ b_22 : Nat, FR u 1903 a0 = some b_22 ∧ (kd u b_22 = 20) ∧ jl3 (bX19_orders_16 K a0) x1 x2 u
/-! X19_laysSuit -/
def bX19_laysSuit_197 (K : Int32 → Hp → Prop) (a0 : Nat) (x1 : Int32) (x3 : Int32) (x4 : Int32) (x10 : Int32) (J197 : Int32 → Int32 → Hp → Prop) (x11 : Int32) (x12 : Int32) (u : Hp) : Prop :=
  (kd u a0 = 16) ∧ ∃ b_2 : Nat, FR u 1903 a0 = some b_2 ∧ (kd u b_2 = 20) ∧ ((FI u 2302 b_2 ≤ x12 → pX19_orders u a0 x10 1 (fun (u_5 : Hp) => (kd u_5 a0 = 16) ∧ ∃ b_7 : Nat, FR u_5 1919 a0 = some b_7 ∧ pX19_rowNumber u_5 a0 b_7 0 (fun (r_9 : Int32) => ∃ b_10 : Nat, FR u_5 1903 a0 = some b_10 ∧ (kd u_5 b_10 = 20) ∧ pX23_tilts u_5 b_10 (fun (r_13 : Int32) => K (r_9 * r_13) u_5)))) ∧ (¬ FI u 2302 b_2 ≤ x12 → ((x12 = x3 → J197 x11 (x12 + 1) u) ∧ (¬ x12 = x3 → ((x12 = x4 → J197 x11 (x12 + 1) u) ∧ (¬ x12 = x4 → ∃ b_14 : Nat, FR u 1919 a0 = some b_14 ∧ pX19_cardOf u a0 x1 x12 (fun (r_16 : Int32) => (kd u b_14 = 101) ∧ vp_in x11 (ln u b_14) ∧ J197 (x11 + 1) (x12 + 1) (sAI u b_14 (upd (AI u b_14) (tn x11) r_16)))))))))
def bX19_laysSuit_148 (K : Int32 → Hp → Prop) (a0 : Nat) (x1 : Int32) (x3 : Int32) (x4 : Int32) (x9 : Int32) (z0 : Int32) (u : Hp) : Prop :=
  (kd u a0 = 16) ∧ ∃ b_22 : Nat, FR u 1903 a0 = some b_22 ∧ (kd u b_22 = 20) ∧ pX19_rowsOf ((FI u 2304 b_22) - 1) ((FI u 2304 b_22) - 1) (fun (r_25 : Int64) => ((lg_cmp ((z0 - 1).toInt64) r_25 < 0 → ∃ b_26 : Nat, FR u 1919 a0 = some b_26 ∧ (kd u b_26 = 101) ∧ vp_in 0 (ln u b_26) ∧ jl3 (bX19_laysSuit_197 K a0 x1 x3 x4 (z0 - 1)) 1 0 (sAI u b_26 (upd (AI u b_26) (tn 0) x9))) ∧ (¬ lg_cmp ((z0 - 1).toInt64) r_25 < 0 → K (-2) u)))
def bX19_laysSuit_118 (K : Int32 → Hp → Prop) (a0 : Nat) (x1 : Int32) (x2 : Int32) (x3 : Int32) (x4 : Int32) (x5 : Int32) (x6 : Int32) (x7 : Int32) (z0 : Int32) (u : Hp) : Prop :=
  ((z0 = 0 → ((z0 = 0 → bX19_laysSuit_148 K a0 x1 x3 x4 x6 (x2 - x7) u) ∧ (¬ z0 = 0 → bX19_laysSuit_148 K a0 x1 x3 x4 x6 x7 u))) ∧ (¬ z0 = 0 → ((z0 = 0 → bX19_laysSuit_148 K a0 x1 x3 x4 x5 (x2 - x7) u) ∧ (¬ z0 = 0 → bX19_laysSuit_148 K a0 x1 x3 x4 x5 x7 u))))
def bX19_laysSuit_55 (K : Int32 → Hp → Prop) (J39 : Int32 → Prop) (a0 : Nat) (x1 : Int32) (x2 : Int32) (x3 : Int32) (u : Hp) (J55 : Int32 → Prop) (x4 : Int32) : Prop :=
  (kd u a0 = 16) ∧ ∃ b_34 : Nat, FR u 1903 a0 = some b_34 ∧ (kd u b_34 = 20) ∧ ((FI u 2302 b_34 ≤ x4 → J39 (x3 + 1)) ∧ (¬ FI u 2302 b_34 ≤ x4 → pX19_cardOf u a0 x1 x3 (fun (r_37 : Int32) => pX19_cardOf u a0 x1 x4 (fun (r_38 : Int32) => (¬ x2 = 0) ∧ (¬ x2 = 0) ∧ ((r_37 / x2 = (r_38 / x2) → ((x2 < (2 * (r_38 - r_37)) → bX19_laysSuit_118 K a0 x1 x2 x3 x4 r_37 r_38 (r_38 - r_37) 0 u) ∧ (¬ x2 < (2 * (r_38 - r_37)) → bX19_laysSuit_118 K a0 x1 x2 x3 x4 r_37 r_38 (r_38 - r_37) 1 u))) ∧ (¬ r_37 / x2 = (r_38 / x2) → J55 (x4 + 1)))))))
def bX19_laysSuit_39 (K : Int32 → Hp → Prop) (a0 : Nat) (x1 : Int32) (x2 : Int32) (u : Hp) (J39 : Int32 → Prop) (x3 : Int32) : Prop :=
  (kd u a0 = 16) ∧ ∃ b_43 : Nat, FR u 1903 a0 = some b_43 ∧ (kd u b_43 = 20) ∧ ((FI u 2302 b_43 ≤ x3 → K (-2) u) ∧ (¬ FI u 2302 b_43 ≤ x3 → jl1 (bX19_laysSuit_55 K J39 a0 x1 x2 x3 u) (x3 + 1)))
def pX19_laysSuit (u : Hp) (a0 : Nat) (x1 : Int32) (K : Int32 → Hp → Prop) : Prop :=
  (kd u a0 = 16) ∧ pX19_isOneOrder u a0 (fun (r_48 : Int32) => ((r_48 = 0 → ∃ b_49 : Nat, FR u 1903 a0 = some b_49 ∧ (kd u b_49 = 20) ∧ ((FI u 2303 b_49 = 1 → (¬ FI u 2301 b_49 = 0) ∧ ∀ x2_52 : Int32, x2_52 = (FI u 2300 b_49) / (FI u 2301 b_49) → jl1 (bX19_laysSuit_39 K a0 x1 x2_52 u) 0) ∧ (¬ FI u 2303 b_49 = 1 → K (-2) u))) ∧ (¬ r_48 = 0 → K (-2) u)))
/-! X19_sorts -/
def bX19_sorts_23 (K : Hp → Prop) (J2 : Int32 → Hp → Prop) (a0 : Nat) (x1 : Int32) (x2 : Int32) (x4 : Int32) (J23 : Int32 → Hp → Prop) (x3 : Int32) (u : Hp) : Prop :=
  ((x3 ≤ 0 → (kd u a0 = 16) ∧ ∃ b_2 : Nat, FR u 1920 a0 = some b_2 ∧ (kd u b_2 = 101) ∧ vp_in x3 (ln u b_2) ∧ J2 (x2 + 1) (sAI u b_2 (upd (AI u b_2) (tn x3) x4))) ∧ (¬ x3 ≤ 0 → (kd u a0 = 16) ∧ ∃ b_6 : Nat, FR u 1920 a0 = some b_6 ∧ (kd u b_6 = 101) ∧ vp_in (x3 - 1) (ln u b_6) ∧ ((AI u b_6 (tn (x3 - 1)) ≤ x4 → vp_in x3 (ln u b_6) ∧ J2 (x2 + 1) (sAI u b_6 (upd (AI u b_6) (tn x3) x4))) ∧ (¬ AI u b_6 (tn (x3 - 1)) ≤ x4 → vp_in (x3 - 1) (ln u b_6) ∧ vp_in x3 (ln u b_6) ∧ J23 (x3 + (-1)) (sAI u b_6 (upd (AI u b_6) (tn x3) (AI u b_6 (tn (x3 - 1)))))))))
def bX19_sorts_2 (K : Hp → Prop) (a0 : Nat) (x1 : Int32) (J2 : Int32 → Hp → Prop) (x2 : Int32) (u : Hp) : Prop :=
  (kd u a0 = 16) ∧ ∃ b_12 : Nat, FR u 1903 a0 = some b_12 ∧ (kd u b_12 = 20) ∧ ((FI u 2302 b_12 ≤ x2 → K u) ∧ (¬ FI u 2302 b_12 ≤ x2 → pX19_cardOf u a0 x1 x2 (fun (r_15 : Int32) => jl2 (bX19_sorts_23 K J2 a0 x1 x2 r_15) x2 u)))
def pX19_sorts (u : Hp) (a0 : Nat) (x1 : Int32) (K : Hp → Prop) : Prop :=
  jl2 (bX19_sorts_2 K a0 x1) 0 u
/-! X19_keepsAt -/
def bX19_keepsAt_13 (K : Int32 → Prop) (a0 : Nat) (x1 : Int32) (x2 : Int32) (u : Hp) (J13 : Int32 → Int32 → Prop) (x3 : Int32) (x4 : Int32) : Prop :=
  ((x2 ≤ x4 → ((x1 = 0 → K 0) ∧ (¬ x1 = 0 → ((x1 = 1 → K (x2 - 1)) ∧ (¬ x1 = 1 → ((x1 = 2 → (kd u a0 = 16) ∧ ∃ b_2 : Nat, FR u 1903 a0 = some b_2 ∧ (kd u b_2 = 20) ∧ K ((x2 - (FI u 2303 b_2)) / 2)) ∧ (¬ x1 = 2 → (¬ x2 = 0) ∧ K (jrem x3 x2)))))))) ∧ (¬ x2 ≤ x4 → (kd u a0 = 16) ∧ ∃ b_9 : Nat, FR u 1920 a0 = some b_9 ∧ (kd u b_9 = 101) ∧ vp_in x4 (ln u b_9) ∧ J13 (x3 + (AI u b_9 (tn x4))) (x4 + 1)))
def pX19_keepsAt (u : Hp) (a0 : Nat) (x1 : Int32) (K : Int32 → Prop) : Prop :=
  (kd u a0 = 16) ∧ ∃ b_14 : Nat, FR u 1903 a0 = some b_14 ∧ (kd u b_14 = 20) ∧ jl2 (bX19_keepsAt_13 K a0 x1 (FI u 2302 b_14) u) 0 0
/-! X19_tells -/
def bX19_tells_189 (K : Int32 → Prop) (x4 : Int32) (x5 : Int32) (u : Hp) (J189 : Int32 → Int32 → Prop) (x6 : Int32) (x7 : Int32) : Prop :=
  ((x5 ≤ x7 → (¬ x5 = 0) ∧ K (jrem x6 x5)) ∧ (¬ x5 ≤ x7 → (((jshr x4 x7) &&& 1 = 1 → J189 (x6 + x7) (x7 + 1)) ∧ (¬ (jshr x4 x7) &&& 1 = 1 → J189 (x6 + 0) (x7 + 1)))))
def bX19_tells_132 (K : Int32 → Prop) (a0 : Nat) (x2 : Int32) (x3 : Int32) (x4 : Int32) (u : Hp) (J132 : Int32 → Int32 → Prop) (x6 : Int32) (x7 : Int32) : Prop :=
  ((x2 ≤ x7 → (kd u a0 = 16) ∧ ∃ b_4 : Nat, FR u 1903 a0 = some b_4 ∧ (kd u b_4 = 20) ∧ (¬ FI u 2302 b_4 = 0) ∧ K (x6 / (FI u 2302 b_4))) ∧ (¬ x2 ≤ x7 → (kd u a0 = 16) ∧ pX19_has u a0 x3 x7 (fun (r_8 : Int32) => ((r_8 = 0 → J132 (x6 + 1) (x7 + 1)) ∧ (¬ r_8 = 0 → (((jshr x4 x7) &&& 1 = 1 → J132 (x6 + 1) (x7 + 1)) ∧ (¬ (jshr x4 x7) &&& 1 = 1 → J132 (x6 + 0) (x7 + 1))))))))
def bX19_tells_66 (K : Int32 → Prop) (a0 : Nat) (x2 : Int32) (x3 : Int32) (x4 : Int32) (x5 : Int32) (u : Hp) (J66 : Int32 → Int32 → Prop) (x6 : Int32) (x7 : Int32) : Prop :=
  (kd u a0 = 16) ∧ ∃ b_13 : Nat, FR u 1903 a0 = some b_13 ∧ (kd u b_13 = 20) ∧ ((FI u 2302 b_13 ≤ x7 → K x6) ∧ (¬ FI u 2302 b_13 ≤ x7 → pX19_cardOf u a0 x3 x7 (fun (r_16 : Int32) => (¬ x5 = 0) ∧ (((jshr x4 r_16) &&& 1 = 0 → ((x6 ≤ (jrem ((x2 - r_16) + x5) x5) → J66 x6 (x7 + 1)) ∧ (¬ x6 ≤ (jrem ((x2 - r_16) + x5) x5) → J66 (jrem ((x2 - r_16) + x5) x5) (x7 + 1)))) ∧ (¬ (jshr x4 r_16) &&& 1 = 0 → J66 x6 (x7 + 1))))))
def pX19_tells (u : Hp) (a0 : Nat) (x1 : Int32) (x2 : Int32) (x3 : Int32) (x4 : Int32) (K : Int32 → Prop) : Prop :=
  (kd u a0 = 16) ∧ ∃ b_21 : Nat, FR u 1903 a0 = some b_21 ∧ (kd u b_21 = 20) ∧ ((x1 = 0 → K x2) ∧ (x1 = 1 → (¬ FI u 2301 b_21 = 0) ∧ (¬ (FI u 2300 b_21) / (FI u 2301 b_21) = 0) ∧ K (jrem x2 ((FI u 2300 b_21) / (FI u 2301 b_21)))) ∧ (x1 = 2 → jl2 (bX19_tells_66 K a0 x2 x3 x4 (FI u 2300 b_21) u) (FI u 2300 b_21) 0) ∧ (x1 = 3 → jl2 (bX19_tells_132 K a0 x2 x3 x4 u) 0 0) ∧ (¬ x1 = 0 ∧ ¬ x1 = 1 ∧ ¬ x1 = 2 ∧ ¬ x1 = 3 → jl2 (bX19_tells_189 K x4 (FI u 2300 b_21) u) 0 0))
/-! X19_laysWords -/
def bX19_laysWords_187 (K : Int32 → Hp → Prop) (J148 : Int32 → Int32 → Hp → Prop) (a0 : Nat) (x2 : Int32) (x7 : Int32) (x9 : Int32) (x10 : Int32) (x11 : Int32) (z0 : Int32) (u : Hp) : Prop :=
  (((jshr x7 z0) &&& 1 = 1 → J148 x10 (x11 + 1) u) ∧ (¬ (jshr x7 z0) &&& 1 = 1 → (kd u a0 = 16) ∧ ∃ b_2 : Nat, FR u 1919 a0 = some b_2 ∧ (kd u b_2 = 101) ∧ vp_in x10 (ln u b_2) ∧ J148 (x10 + 1) (x11 + 1) (sAI u b_2 (upd (AI u b_2) (tn x10) z0))))
def bX19_laysWords_148 (K : Int32 → Hp → Prop) (a0 : Nat) (x2 : Int32) (x7 : Int32) (x9 : Int32) (J148 : Int32 → Int32 → Hp → Prop) (x10 : Int32) (x11 : Int32) (u : Hp) : Prop :=
  (kd u a0 = 16) ∧ ∃ b_7 : Nat, FR u 1903 a0 = some b_7 ∧ (kd u b_7 = 20) ∧ ((FI u 2302 b_7 ≤ x11 → pX19_isOneOrder u a0 (fun (r_10 : Int32) => ((r_10 = 0 → pX19_rowsOf (FI u 2304 b_7) (FI u 2304 b_7) (fun (r_11 : Int64) => (¬ r_11.toInt32 = 0) ∧ pX19_orders u a0 (jrem x9 (r_11.toInt32)) 0 (fun (u_12 : Hp) => (kd u_12 a0 = 16) ∧ ∃ b_14 : Nat, FR u_12 1919 a0 = some b_14 ∧ pX19_rowNumber u_12 a0 b_14 0 (fun (r_16 : Int32) => ∃ b_17 : Nat, FR u_12 1903 a0 = some b_17 ∧ (kd u_12 b_17 = 20) ∧ pX23_tilts u_12 b_17 (fun (r_20 : Int32) => (¬ r_11.toInt32 = 0) ∧ pX23_tilts u_12 b_17 (fun (r_21 : Int32) => (¬ r_21 = 0) ∧ K ((r_16 * r_20) + (jrem (x9 / (r_11.toInt32)) r_21)) u_12)))))) ∧ (¬ r_10 = 0 → ∃ b_22 : Nat, FR u 1919 a0 = some b_22 ∧ pX19_rowNumber u a0 b_22 0 (fun (r_24 : Int32) => pX23_tilts u b_7 (fun (r_25 : Int32) => pX23_tilts u b_7 (fun (r_26 : Int32) => (¬ r_26 = 0) ∧ K ((r_24 * r_25) + (jrem x9 r_26)) u))))))) ∧ (¬ FI u 2302 b_7 ≤ x11 → ((FI u 2307 b_7 = 0 → ∃ b_28 : Nat, FR u 1920 a0 = some b_28 ∧ (kd u b_28 = 101) ∧ vp_in x11 (ln u b_28) ∧ bX19_laysWords_187 K J148 a0 x2 x7 x9 x10 x11 (AI u b_28 (tn x11)) u) ∧ (¬ FI u 2307 b_7 = 0 → pX19_cardOf u a0 x2 x11 (fun (r_31 : Int32) => bX19_laysWords_187 K J148 a0 x2 x7 x9 x10 x11 r_31 u)))))
def bX19_laysWords_84 (K : Int32 → Hp → Prop) (a0 : Nat) (x1 : Int32) (x2 : Int32) (x5 : Int32) (x6 : Int32) (x7 : Int32) (z0 : Int32) (u : Hp) : Prop :=
  (kd u a0 = 16) ∧ pX19_tells u a0 (jrem x1 5) z0 x2 x7 (fun (r_35 : Int32) => ∃ b_36 : Nat, FR u 1903 a0 = some b_36 ∧ (kd u b_36 = 20) ∧ ((FI u 2303 b_36 = 2 → pX19_tells u a0 (jrem x1 5) ((x5 + x6) - z0) x2 x7 (fun (r_39 : Int32) => ∀ x9_40 : Int32, x9_40 = (r_35 * (FI u 2300 b_36)) + r_39 → jl3 (bX19_laysWords_148 K a0 x2 x7 x9_40) 0 0 u)) ∧ (¬ FI u 2303 b_36 = 2 → jl3 (bX19_laysWords_148 K a0 x2 x7 r_35) 0 0 u)))
def bX19_laysWords_57 (K : Int32 → Hp → Prop) (a0 : Nat) (x1 : Int32) (x2 : Int32) (x5 : Int32) (z0 : Int32) (u : Hp) : Prop :=
  ((z0 ≤ x5 → bX19_laysWords_84 K a0 x1 x2 x5 z0 ((jshl 1 x5) ||| (jshl 1 z0)) z0 u) ∧ (¬ z0 ≤ x5 → bX19_laysWords_84 K a0 x1 x2 x5 z0 ((jshl 1 x5) ||| (jshl 1 z0)) x5 u))
def pX19_laysWords (u : Hp) (a0 : Nat) (x1 : Int32) (x2 : Int32) (K : Int32 → Hp → Prop) : Prop :=
  (kd u a0 = 16) ∧ pX19_sorts u a0 x2 (fun (u_45 : Hp) => (kd u_45 a0 = 16) ∧ pX19_keepsAt u_45 a0 (x1 / 5) (fun (r_47 : Int32) => ∃ b_48 : Nat, FR u_45 1903 a0 = some b_48 ∧ (kd u_45 b_48 = 20) ∧ (¬ FI u_45 2302 b_48 = 0) ∧ ∀ x4_51 : Int32, x4_51 = jrem (r_47 + 1) (FI u_45 2302 b_48) → ∃ b_53 : Nat, FR u_45 1920 a0 = some b_53 ∧ (kd u_45 b_53 = 101) ∧ vp_in r_47 (ln u_45 b_53) ∧ ((FI u_45 2303 b_48 = 2 → vp_in x4_51 (ln u_45 b_53) ∧ bX19_laysWords_57 K a0 x1 x2 (AI u_45 b_53 (tn r_47)) (AI u_45 b_53 (tn x4_51)) u_45) ∧ (¬ FI u_45 2303 b_48 = 2 → bX19_laysWords_57 K a0 x1 x2 (AI u_45 b_53 (tn r_47)) (AI u_45 b_53 (tn r_47)) u_45))))
/-! X19_clearOwners -/
def bX19_clearOwners_2 (K : Hp → Prop) (a0 : Nat) (J2 : Int32 → Hp → Prop) (x1 : Int32) (u : Hp) : Prop :=
  ((32768 ≤ x1 → K u) ∧ (¬ 32768 ≤ x1 → (kd u a0 = 16) ∧ ∃ b_2 : Nat, FR u 1927 a0 = some b_2 ∧ (kd u b_2 = 101) ∧ vp_in x1 (ln u b_2) ∧ J2 (x1 + 1) (sAI u b_2 (upd (AI u b_2) (tn x1) (-1)))))
def pX19_clearOwners (u : Hp) (a0 : Nat) (K : Hp → Prop) : Prop :=
  jl2 (bX19_clearOwners_2 K a0) 0 u
/-! X19_puts -/
def bX19_puts_74 (K : Hp → Prop) (a0 : Nat) (x1 : Int32) (x2 : Int32) (x3 : Int32) (J74 : Int32 → Hp → Prop) (x4 : Int32) (u : Hp) : Prop :=
  ((x2 ≤ x4 → (kd u a0 = 16) ∧ K (sFI u 1922 a0 ((FI u 1922 a0) + x2))) ∧ (¬ x2 ≤ x4 → (kd u a0 = 16) ∧ ∃ b_3 : Nat, FR u 1921 a0 = some b_3 ∧ (kd u b_3 = 101) ∧ vp_in (x3 + x4) (ln u b_3) ∧ J74 (x4 + 1) (sAI u b_3 (upd (AI u b_3) (tn (x3 + x4)) (x1 + x4)))))
def bX19_puts_32 (K : Hp → Prop) (J13 : Int32 → Hp → Prop) (a0 : Nat) (x1 : Int32) (x2 : Int32) (x3 : Int32) (J32 : Int32 → Hp → Prop) (x4 : Int32) (u : Hp) : Prop :=
  ((x2 < x4 → J13 (x3 - x2) u) ∧ (¬ x2 < x4 → (kd u a0 = 16) ∧ ∃ b_8 : Nat, FR u 1921 a0 = some b_8 ∧ (kd u b_8 = 101) ∧ vp_in (x3 - x4) (ln u b_8) ∧ vp_in ((x3 - x4) + x2) (ln u b_8) ∧ J32 (x4 + 1) (sAI u b_8 (upd (AI u b_8) (tn ((x3 - x4) + x2)) (AI u b_8 (tn (x3 - x4)))))))
def bX19_puts_13 (K : Hp → Prop) (a0 : Nat) (x1 : Int32) (x2 : Int32) (J13 : Int32 → Hp → Prop) (x3 : Int32) (u : Hp) : Prop :=
  ((x3 ≤ 0 → jl2 (bX19_puts_74 K a0 x1 x2 x3) 0 u) ∧ (¬ x3 ≤ 0 → (kd u a0 = 16) ∧ ∃ b_13 : Nat, FR u 1921 a0 = some b_13 ∧ (kd u b_13 = 101) ∧ vp_in (x3 - 1) (ln u b_13) ∧ ((AI u b_13 (tn (x3 - 1)) ≤ x1 → jl2 (bX19_puts_74 K a0 x1 x2 x3) 0 u) ∧ (¬ AI u b_13 (tn (x3 - 1)) ≤ x1 → jl2 (bX19_puts_32 K J13 a0 x1 x2 x3) 1 u))))
def pX19_puts (u : Hp) (a0 : Nat) (x1 : Int32) (K : Hp → Prop) : Prop :=
  (kd u a0 = 16) ∧ ∃ b_19 : Nat, FR u 1903 a0 = some b_19 ∧ (kd u b_19 = 20) ∧ pX23_tilts u b_19 (fun (r_22 : Int32) => jl2 (bX19_puts_13 K a0 x1 r_22) (FI u 1922 a0) u)
/-! X19_fitsOf -/
def bX19_fitsOf_17 (K : Hp → Prop) (J7 : Int32 → Hp → Prop) (a0 : Nat) (x1 : Int32) (x2 : Int32) (J17 : Int32 → Hp → Prop) (x3 : Int32) (u : Hp) : Prop :=
  (kd u a0 = 16) ∧ ∃ b_2 : Nat, FR u 1903 a0 = some b_2 ∧ (kd u b_2 = 20) ∧ ((FI u 2304 b_2 ≤ x3 → ∃ b_5 : Nat, FR u 1919 a0 = some b_5 ∧ pX19_rowNumber u a0 b_5 0 (fun (r_7 : Int32) => pX23_tilts u b_2 (fun (r_8 : Int32) => pX19_puts u a0 (r_7 * r_8) (fun (u_9 : Hp) => J7 (x2 + 1) u_9)))) ∧ (¬ FI u 2304 b_2 ≤ x3 → ∃ b_10 : Nat, FR u 1919 a0 = some b_10 ∧ ∃ b_12 : Nat, FR u 1923 a0 = some b_12 ∧ (kd u b_12 = 101) ∧ vp_in x2 (ln u b_12) ∧ pX19_cardOf u a0 x1 ((jshr (AI u b_12 (tn x2)) (3 * (((FI u 2304 b_2) - 1) - x3))) &&& 7) (fun (r_15 : Int32) => (kd u b_10 = 101) ∧ vp_in x3 (ln u b_10) ∧ J17 (x3 + 1) (sAI u b_10 (upd (AI u b_10) (tn x3) r_15)))))
def bX19_fitsOf_7 (K : Hp → Prop) (a0 : Nat) (x1 : Int32) (J7 : Int32 → Hp → Prop) (x2 : Int32) (u : Hp) : Prop :=
  (kd u a0 = 16) ∧ ((FI u 1924 a0 ≤ x2 → K u) ∧ (¬ FI u 1924 a0 ≤ x2 → jl2 (bX19_fitsOf_17 K J7 a0 x1 x2) 0 u))
def pX19_fitsOf (u : Hp) (a0 : Nat) (x1 : Int32) (K : Hp → Prop) : Prop :=
  (kd u a0 = 16) ∧ jl2 (bX19_fitsOf_7 K a0 x1) 0 (sFI u 1922 a0 0)
/-! X19_slot -/
def bX19_slot_9 (K : Int32 → Prop) (a0 : Nat) (x1 : Int32) (u : Hp) (J9 : Int32 → Prop) (x2 : Int32) : Prop :=
  (kd u a0 = 16) ∧ ∃ b_2 : Nat, FR u 1927 a0 = some b_2 ∧ (kd u b_2 = 101) ∧ vp_in x2 (ln u b_2) ∧ ((AI u b_2 (tn x2) = (-1) → K x2) ∧ (¬ AI u b_2 (tn x2) = (-1) → vp_in x2 (ln u b_2) ∧ ((AI u b_2 (tn x2) = x1 → K x2) ∧ (¬ AI u b_2 (tn x2) = x1 → J9 ((x2 + 1) &&& 32767)))))
def pX19_slot (u : Hp) (a0 : Nat) (x1 : Int32) (K : Int32 → Prop) : Prop :=
  jl1 (bX19_slot_9 K a0 x1 u) (jushr (x1 * (-1640531535)) 17)
/-! X19_ownerOf -/
def pX19_ownerOf (u : Hp) (a0 : Nat) (x1 : Int32) (K : Int32 → Prop) : Prop :=
  (kd u a0 = 16) ∧ pX19_slot u a0 x1 (fun (r_2 : Int32) => ∃ b_3 : Nat, FR u 1927 a0 = some b_3 ∧ (kd u b_3 = 101) ∧ vp_in r_2 (ln u b_3) ∧ ((AI u b_3 (tn r_2) = (-1) → K (-1)) ∧ (¬ AI u b_3 (tn r_2) = (-1) → ∃ b_6 : Nat, FR u 1928 a0 = some b_6 ∧ (kd u b_6 = 101) ∧ vp_in r_2 (ln u b_6) ∧ K (AI u b_6 (tn r_2)))))
/-! X19_owns -/
def pX19_owns (u : Hp) (a0 : Nat) (x1 : Int32) (x2 : Int32) (K : Hp → Prop) : Prop :=
  (kd u a0 = 16) ∧ pX19_slot u a0 x1 (fun (r_2 : Int32) => ∃ b_3 : Nat, FR u 1927 a0 = some b_3 ∧ (kd u b_3 = 101) ∧ vp_in r_2 (ln u b_3) ∧ ∃ b_6 : Nat, FR u 1928 a0 = some b_6 ∧ (kd u b_6 = 101) ∧ vp_in r_2 (ln u b_6) ∧ K (sAI (sAI u b_3 (upd (AI u b_3) (tn r_2) x1)) b_6 (upd (AI (sAI u b_3 (upd (AI u b_3) (tn r_2) x1)) b_6) (tn r_2) x2)))
/-! X19_takes -/
def bX19_takes_5 (K : Hp → Prop) (a0 : Nat) (J5 : Int32 → Int32 → Hp → Prop) (x3 : Int32) (x4 : Int32) (u : Hp) : Prop :=
  ((x3 = (-1) → K u) ∧ (¬ x3 = (-1) → (kd u a0 = 16) ∧ ∃ b_2 : Nat, FR u 1929 a0 = some b_2 ∧ (kd u b_2 = 101) ∧ vp_in x3 (ln u b_2) ∧ vp_in x3 (ln u b_2) ∧ pX19_owns (sAI u b_2 (upd (AI u b_2) (tn x3) x4)) a0 x4 x3 (fun (u_5 : Hp) => (kd u_5 a0 = 16) ∧ ∃ b_7 : Nat, FR u_5 1931 a0 = some b_7 ∧ (kd u_5 b_7 = 101) ∧ vp_in x3 (ln u_5 b_7) ∧ J5 (AI u_5 b_7 (tn x3)) (AI u b_2 (tn x3)) u_5)))
def pX19_takes (u : Hp) (a0 : Nat) (x1 : Int32) (x2 : Int32) (K : Hp → Prop) : Prop :=
  jl3 (bX19_takes_5 K a0) x1 x2 u
/-! X19_goesOnFrom -/
def bX19_goesOnFrom_194 (K : Int32 → Hp → Prop) (a0 : Nat) (x2 : Int32) (x4 : Int32) (J194 : Int32 → Hp → Prop) (x5 : Int32) (u : Hp) : Prop :=
  ((x4 ≤ x5 → K 0 u) ∧ (¬ x4 ≤ x5 → ((x2 = 0 → (kd u a0 = 16) ∧ ∃ b_2 : Nat, FR u 1932 a0 = some b_2 ∧ ∃ b_4 : Nat, FR u 1930 a0 = some b_4 ∧ (kd u b_4 = 101) ∧ vp_in x5 (ln u b_4) ∧ (kd u b_2 = 104) ∧ vp_in (AI u b_4 (tn x5)) (ln u b_2) ∧ J194 (x5 + 1) (sAI u b_2 (upd (AI u b_2) (tn (AI u b_4 (tn x5))) (vp_nar .boolean 1)))) ∧ (¬ x2 = 0 → K 0 u))))
def bX19_goesOnFrom_86 (K : Int32 → Hp → Prop) (J61 : Int32 → Int32 → Hp → Prop) (a0 : Nat) (x2 : Int32) (x3 : Int32) (x5 : Int32) (x6 : Int32) (J86 : Int32 → Int32 → Hp → Prop) (x4 : Int32) (x7 : Int32) (u : Hp) : Prop :=
  (kd u a0 = 16) ∧ ((FI u 1922 a0 ≤ x7 → J61 x4 (x5 + 1) u) ∧ (¬ FI u 1922 a0 ≤ x7 → ∃ b_11 : Nat, FR u 1921 a0 = some b_11 ∧ (kd u b_11 = 101) ∧ vp_in x7 (ln u b_11) ∧ ((AI u b_11 (tn x7) = x3 → J86 x4 (x7 + 1) u) ∧ (¬ AI u b_11 (tn x7) = x3 → pX19_ownerOf u a0 (AI u b_11 (tn x7)) (fun (r_14 : Int32) => ((r_14 = (-1) → pX19_takes u a0 x6 (AI u b_11 (tn x7)) (fun (u_23 : Hp) => K 1 u_23)) ∧ (¬ r_14 = (-1) → ((r_14 < x2 → J86 x4 (x7 + 1) u) ∧ (¬ r_14 < x2 → ∃ b_15 : Nat, FR u 1931 a0 = some b_15 ∧ (kd u b_15 = 101) ∧ vp_in r_14 (ln u b_15) ∧ ((AI u b_15 (tn r_14) = (-2) → vp_in r_14 (ln u b_15) ∧ ∃ b_18 : Nat, FR u 1930 a0 = some b_18 ∧ (kd u b_18 = 101) ∧ vp_in x4 (ln u b_18) ∧ J86 (x4 + 1) (x7 + 1) (sAI (sAI u b_15 (upd (AI u b_15) (tn r_14) x6)) b_18 (upd (AI (sAI u b_15 (upd (AI u b_15) (tn r_14) x6)) b_18) (tn x4) r_14))) ∧ (¬ AI u b_15 (tn r_14) = (-2) → J86 x4 (x7 + 1) u)))))))))))
def bX19_goesOnFrom_61 (K : Int32 → Hp → Prop) (a0 : Nat) (x2 : Int32) (x3 : Int32) (J61 : Int32 → Int32 → Hp → Prop) (x4 : Int32) (x5 : Int32) (u : Hp) : Prop :=
  ((x4 ≤ x5 → jl2 (bX19_goesOnFrom_194 K a0 x2 x4) 0 u) ∧ (¬ x4 ≤ x5 → (kd u a0 = 16) ∧ ∃ b_28 : Nat, FR u 1930 a0 = some b_28 ∧ (kd u b_28 = 101) ∧ vp_in x5 (ln u b_28) ∧ pX19_fitsOf u a0 (AI u b_28 (tn x5)) (fun (u_31 : Hp) => jl3 (bX19_goesOnFrom_86 K J61 a0 x2 x3 x5 (AI u b_28 (tn x5))) x4 0 u_31)))
def bX19_goesOnFrom_3 (K : Int32 → Hp → Prop) (a0 : Nat) (x1 : Int32) (x2 : Int32) (x3 : Int32) (J3 : Int32 → Hp → Prop) (x4 : Int32) (u : Hp) : Prop :=
  (kd u a0 = 16) ∧ ((FI u 1917 a0 ≤ x4 → ∃ b_34 : Nat, FR u 1930 a0 = some b_34 ∧ (kd u b_34 = 101) ∧ vp_in 0 (ln u b_34) ∧ ∃ b_37 : Nat, FR u 1931 a0 = some b_37 ∧ (kd u b_37 = 101) ∧ vp_in x1 (ln u b_37) ∧ jl3 (bX19_goesOnFrom_61 K a0 x2 x3) 1 0 (sAI (sAI u b_34 (upd (AI u b_34) (tn 0) x1)) b_37 (upd (AI (sAI u b_34 (upd (AI u b_34) (tn 0) x1)) b_37) (tn x1) (-1)))) ∧ (¬ FI u 1917 a0 ≤ x4 → ∃ b_40 : Nat, FR u 1931 a0 = some b_40 ∧ ∃ b_42 : Nat, FR u 1932 a0 = some b_42 ∧ (kd u b_42 = 104) ∧ vp_in x4 (ln u b_42) ∧ ((AI u b_42 (tn x4) = 0 → (kd u b_40 = 101) ∧ vp_in x4 (ln u b_40) ∧ J3 (x4 + 1) (sAI u b_40 (upd (AI u b_40) (tn x4) (-2)))) ∧ (¬ AI u b_42 (tn x4) = 0 → (kd u b_40 = 101) ∧ vp_in x4 (ln u b_40) ∧ J3 (x4 + 1) (sAI u b_40 (upd (AI u b_40) (tn x4) (-1)))))))
def pX19_goesOnFrom (u : Hp) (a0 : Nat) (x1 : Int32) (x2 : Int32) (x3 : Int32) (K : Int32 → Hp → Prop) : Prop :=
  jl2 (bX19_goesOnFrom_3 K a0 x1 x2 x3) 0 u
/-! X19_pairsNow -/
def bX19_pairsNow_38 (K : Int32 → Hp → Prop) (a0 : Nat) (J38 : Int32 → Int32 → Hp → Prop) (x1 : Int32) (x2 : Int32) (u : Hp) : Prop :=
  (kd u a0 = 16) ∧ ((FI u 1917 a0 ≤ x2 → K x1 u) ∧ (¬ FI u 1917 a0 ≤ x2 → pX19_goesOnFrom u a0 x2 0 (-1) (fun (r_2 : Int32) (u_3 : Hp) => ((r_2 = 0 → J38 (x1 + 0) (x2 + 1) u_3) ∧ (¬ r_2 = 0 → J38 (x1 + 1) (x2 + 1) u_3)))))
def bX19_pairsNow_8 (K : Int32 → Hp → Prop) (a0 : Nat) (x1 : Int32) (J8 : Int32 → Hp → Prop) (x2 : Int32) (u : Hp) : Prop :=
  (kd u a0 = 16) ∧ ((FI u 1917 a0 ≤ x2 → jl3 (bX19_pairsNow_38 K a0) x1 0 u) ∧ (¬ FI u 1917 a0 ≤ x2 → ∃ b_7 : Nat, FR u 1929 a0 = some b_7 ∧ (kd u b_7 = 101) ∧ vp_in x2 (ln u b_7) ∧ ∃ b_10 : Nat, FR u 1932 a0 = some b_10 ∧ (kd u b_10 = 104) ∧ vp_in x2 (ln u b_10) ∧ J8 (x2 + 1) (sAI (sAI u b_7 (upd (AI u b_7) (tn x2) (-1))) b_10 (upd (AI (sAI u b_7 (upd (AI u b_7) (tn x2) (-1))) b_10) (tn x2) (vp_nar .boolean 0)))))
def pX19_pairsNow (u : Hp) (a0 : Nat) (K : Int32 → Hp → Prop) : Prop :=
  (kd u a0 = 16) ∧ pX19_clearOwners u a0 (fun (u_15 : Hp) => jl2 (bX19_pairsNow_8 K a0 0) 0 u_15)
/-! X19_settles -/
def bX19_settles_68 (K : Int32 → Hp → Prop) (a0 : Nat) (x1 : Int32) (x2 : Int32) (u : Hp) : Prop :=
  (kd u a0 = 16) ∧ ∃ b_2 : Nat, FR u 1929 a0 = some b_2 ∧ (kd u b_2 = 101) ∧ vp_in x1 (ln u b_2) ∧ pX19_owns (sAI u b_2 (upd (AI u b_2) (tn x1) x2)) a0 x2 x1 (fun (u_5 : Hp) => K 1 u_5)
def bX19_settles_35 (K : Int32 → Hp → Prop) (a0 : Nat) (x1 : Int32) (x2 : Int32) (x3 : Int32) (x4 : Int32) (u : Hp) : Prop :=
  (kd u a0 = 16) ∧ pX19_owns u a0 x3 (-1) (fun (u_7 : Hp) => ((x4 = (-1) → bX19_settles_68 K a0 x1 x2 u_7) ∧ (¬ x4 = (-1) → (kd u_7 a0 = 16) ∧ pX19_goesOnFrom u_7 a0 x4 (x1 + 1) x2 (fun (r_9 : Int32) (u_10 : Hp) => ((r_9 = 0 → (kd u_10 a0 = 16) ∧ pX19_owns u_10 a0 x3 x1 (fun (u_12 : Hp) => K 0 u_12)) ∧ (¬ r_9 = 0 → bX19_settles_68 K a0 x1 x2 u_10))))))
def pX19_settles (u : Hp) (a0 : Nat) (x1 : Int32) (x2 : Int32) (K : Int32 → Hp → Prop) : Prop :=
  (kd u a0 = 16) ∧ ∃ b_16 : Nat, FR u 1929 a0 = some b_16 ∧ (kd u b_16 = 101) ∧ vp_in x1 (ln u b_16) ∧ ((x2 = (AI u b_16 (tn x1)) → K 1 u) ∧ (¬ x2 = (AI u b_16 (tn x1)) → pX19_ownerOf u a0 x2 (fun (r_19 : Int32) => ((r_19 = (-1) → bX19_settles_35 K a0 x1 x2 (AI u b_16 (tn x1)) r_19 u) ∧ (¬ r_19 = (-1) → ((x1 ≤ r_19 → bX19_settles_35 K a0 x1 x2 (AI u b_16 (tn x1)) r_19 u) ∧ (¬ x1 ≤ r_19 → K 0 u)))))))
/-! X19_knowsTable -/
def bX19_knowsTable_87 (K : Hp → Prop) (J35 : Int32 → Hp → Prop) (a0 : Nat) (x1 : Int32) (J87 : Int32 → Hp → Prop) (x3 : Int32) (u : Hp) : Prop :=
  (kd u a0 = 16) ∧ ∃ b_2 : Nat, FR u 1934 a0 = some b_2 ∧ (kd u b_2 = 101) ∧ vp_in x3 (ln u b_2) ∧ pX19_settles u a0 x1 (AI u b_2 (tn x3)) (fun (r_5 : Int32) (u_6 : Hp) => ((r_5 = 0 → J87 (x3 + 1) u_6) ∧ (¬ r_5 = 0 → (kd u_6 a0 = 16) ∧ ∃ b_8 : Nat, FR u_6 1933 a0 = some b_8 ∧ ∃ b_10 : Nat, FR u_6 1929 a0 = some b_10 ∧ (kd u_6 b_10 = 101) ∧ vp_in x1 (ln u_6 b_10) ∧ (kd u_6 b_8 = 101) ∧ vp_in x1 (ln u_6 b_8) ∧ J35 (x1 + 1) (sAI u_6 b_8 (upd (AI u_6 b_8) (tn x1) (AI u_6 b_10 (tn x1)))))))
def bX19_knowsTable_62 (K : Hp → Prop) (J35 : Int32 → Hp → Prop) (a0 : Nat) (x1 : Int32) (x2 : Int32) (J62 : Int32 → Hp → Prop) (x3 : Int32) (u : Hp) : Prop :=
  ((x2 ≤ x3 → jl2 (bX19_knowsTable_87 K J35 a0 x1) 0 u) ∧ (¬ x2 ≤ x3 → (kd u a0 = 16) ∧ ∃ b_16 : Nat, FR u 1934 a0 = some b_16 ∧ ∃ b_18 : Nat, FR u 1921 a0 = some b_18 ∧ (kd u b_18 = 101) ∧ vp_in x3 (ln u b_18) ∧ (kd u b_16 = 101) ∧ vp_in x3 (ln u b_16) ∧ J62 (x3 + 1) (sAI u b_16 (upd (AI u b_16) (tn x3) (AI u b_18 (tn x3))))))
def bX19_knowsTable_35 (K : Hp → Prop) (a0 : Nat) (J35 : Int32 → Hp → Prop) (x1 : Int32) (u : Hp) : Prop :=
  (kd u a0 = 16) ∧ ((FI u 1917 a0 ≤ x1 → K u) ∧ (¬ FI u 1917 a0 ≤ x1 → ((FI u 1936 a0 = 0 → K u) ∧ (¬ FI u 1936 a0 = 0 → pX19_fitsOf u a0 x1 (fun (u_24 : Hp) => (kd u_24 a0 = 16) ∧ jl2 (bX19_knowsTable_62 K J35 a0 x1 (FI u_24 1922 a0)) 0 u_24)))))
def pX19_knowsTable (u : Hp) (a0 : Nat) (K : Hp → Prop) : Prop :=
  (kd u a0 = 16) ∧ ((FI u 1935 a0 = 0 → pX19_pairsNow (sFI u 1935 a0 1) a0 (fun (r_29 : Int32) (u_30 : Hp) => (kd u_30 a0 = 16) ∧ ((r_29 = (FI u_30 1917 a0) → jl2 (bX19_knowsTable_35 K a0) 0 (sFI u_30 1936 a0 1)) ∧ (¬ r_29 = (FI u_30 1917 a0) → jl2 (bX19_knowsTable_35 K a0) 0 (sFI u_30 1936 a0 0))))) ∧ (¬ FI u 1935 a0 = 0 → K u))
/-! X19_laysNow -/
def pX19_laysNow (u : Hp) (a0 : Nat) (x1 : Int32) (x2 : Int32) (K : Int32 → Hp → Prop) : Prop :=
  (kd u a0 = 16) ∧ ∃ b_2 : Nat, FR u 1903 a0 = some b_2 ∧ (kd u b_2 = 20) ∧ ∃ b_5 : Nat, FR u 2310 b_2 = some b_5 ∧ (kd u b_5 = 101) ∧ vp_in x1 (ln u b_5) ∧ ((AI u b_5 (tn x1) = 20 → pX19_laysSuit u a0 x2 (fun (r_18 : Int32) (u_19 : Hp) => K r_18 u_19)) ∧ (¬ AI u b_5 (tn x1) = 20 → ((AI u b_5 (tn x1) = 21 → ((FI u 1917 a0 ≤ 300 → pX19_knowsTable u a0 (fun (u_8 : Hp) => (kd u_8 a0 = 16) ∧ ((FI u_8 1936 a0 = 0 → K (-2) u_8) ∧ (¬ FI u_8 1936 a0 = 0 → ∃ b_10 : Nat, FR u_8 1933 a0 = some b_10 ∧ (kd u_8 b_10 = 101) ∧ vp_in x2 (ln u_8 b_10) ∧ K (AI u_8 b_10 (tn x2)) u_8)))) ∧ (¬ FI u 1917 a0 ≤ 300 → K (-2) u))) ∧ (¬ AI u b_5 (tn x1) = 21 → pX19_laysWords u a0 (AI u b_5 (tn x1)) x2 (fun (r_15 : Int32) (u_16 : Hp) => K r_15 u_16)))))
/-! X19_lays -/
def pX19_lays (u : Hp) (a0 : Nat) (x1 : Int32) (x2 : Int32) (K : Int32 → Hp → Prop) : Prop :=
  (kd u a0 = 16) ∧ pX19_isRule (sFI u 1900 a0 0) a0 x1 (fun (r_2 : Int32) => ((r_2 = 0 → pX19_refused (sFI u 1900 a0 0) a0 1 (fun (r_3 : Int32) (u_4 : Hp) => K r_3 u_4)) ∧ (¬ r_2 = 0 → pX19_isHand (sFI u 1900 a0 0) a0 x2 (fun (r_5 : Int32) => ((r_5 = 0 → pX19_refused (sFI u 1900 a0 0) a0 1 (fun (r_6 : Int32) (u_7 : Hp) => K r_6 u_7)) ∧ (¬ r_5 = 0 → pX19_laysNow (sFI u 1900 a0 0) a0 x1 x2 (fun (r_8 : Int32) (u_9 : Hp) => (kd u_9 a0 = 16) ∧ pX19_good u_9 a0 r_8 (fun (r_11 : Int32) (u_12 : Hp) => K r_11 u_12))))))))
/-! X1_kept -/
def pX1_kept (u : Hp) (a0 : Nat) (x1 : Int32) (x2 : Int32) (x3 : Int32) (K : Int32 → Hp → Prop) : Prop :=
  (kd u a0 = 1) ∧ pX1_anew u a0 (fun (u_2 : Hp) => (kd u_2 a0 = 1) ∧ pX1_isRule u_2 a0 x1 (fun (r_4 : Int32) => ((r_4 = 0 → pX1_no u_2 a0 1 (fun (r_5 : Int32) (u_6 : Hp) => K r_5 u_6)) ∧ (¬ r_4 = 0 → pX1_isHand u_2 a0 x2 (fun (r_7 : Int32) => ((r_7 = 0 → pX1_no u_2 a0 1 (fun (r_8 : Int32) (u_9 : Hp) => K r_8 u_9)) ∧ (¬ r_7 = 0 → ∃ b_10 : Nat, FR u_2 103 a0 = some b_10 ∧ (kd u_2 b_10 = 17) ∧ pX1_in x3 0 ((FI u_2 2006 b_10) - 1) (fun (r_13 : Int32) => ((r_13 = 0 → pX1_no u_2 a0 1 (fun (r_54 : Int32) (u_55 : Hp) => K r_54 u_55)) ∧ (¬ r_13 = 0 → pX1_rowOf u_2 a0 x1 x2 (fun (r_14 : Int32) (u_15 : Hp) => ((r_14 = (-2) → (kd u_15 a0 = 1) ∧ pX1_no u_15 a0 6 (fun (r_51 : Int32) (u_52 : Hp) => K r_51 u_52)) ∧ (¬ r_14 = (-2) → (kd u_15 a0 = 1) ∧ ∃ b_17 : Nat, FR u_15 103 a0 = some b_17 ∧ ∃ b_19 : Nat, FR u_15 113 a0 = some b_19 ∧ (kd u_15 b_17 = 17) ∧ pX20_layHand u_15 b_17 x2 b_19 (fun (u_22 : Hp) => (kd u_22 a0 = 1) ∧ ∃ b_24 : Nat, FR u_22 103 a0 = some b_24 ∧ (kd u_22 b_24 = 17) ∧ pX20_tiltings u_22 b_24 (fun (r_27 : Int32) => (¬ r_27 = 0) ∧ pX20_rows u_22 b_24 (fun (r_28 : Int32) => ∃ b_29 : Nat, FR u_22 114 a0 = some b_29 ∧ pX20_unrank u_22 b_24 (r_14 / r_27) r_28 b_29 (fun (u_31 : Hp) => (kd u_31 a0 = 1) ∧ ∃ b_33 : Nat, FR u_31 113 a0 = some b_33 ∧ ∃ b_35 : Nat, FR u_31 103 a0 = some b_35 ∧ (kd u_31 b_35 = 17) ∧ pX20_setOf u_31 b_33 (FI u_31 2005 b_35) (fun (r_38 : Int32) => ∃ b_39 : Nat, FR u_31 114 a0 = some b_39 ∧ pX20_rows u_31 b_35 (fun (r_41 : Int32) => pX20_setOf u_31 b_39 r_41 (fun (r_42 : Int32) => pX1_spread u_31 (r_38 &&& (r_42 ^^^ (-1))) b_33 (fun (r_43 : Int32) (u_44 : Hp) => ((r_43 ≤ x3 → K (-1) u_44) ∧ (¬ r_43 ≤ x3 → (kd u_44 a0 = 1) ∧ ∃ b_46 : Nat, FR u_44 113 a0 = some b_46 ∧ (kd u_44 b_46 = 101) ∧ vp_in x3 (ln u_44 b_46) ∧ K (AI u_44 b_46 (tn x3)) u_44)))))))))))))))))))))))
/-! X19_kept -/
def bX19_kept_106 (K : Int32 → Hp → Prop) (J82 : Int32 → Int32 → Prop) (a0 : Nat) (x2 : Int32) (x3 : Int32) (x5 : Int32) (x6 : Int32) (u : Hp) (J106 : Int32 → Int32 → Prop) (x7 : Int32) (x8 : Int32) : Prop :=
  (kd u a0 = 16) ∧ ∃ b_2 : Nat, FR u 1903 a0 = some b_2 ∧ (kd u b_2 = 20) ∧ ((FI u 2304 b_2 ≤ x8 → ((x7 = 0 → J82 x5 (x6 + 1)) ∧ (¬ x7 = 0 → ((x5 = x3 → pX19_good u a0 x6 (fun (r_5 : Int32) (u_6 : Hp) => K r_5 u_6)) ∧ (¬ x5 = x3 → J82 (x5 + 1) (x6 + 1)))))) ∧ (¬ FI u 2304 b_2 ≤ x8 → ((x7 = 0 → J106 0 (x8 + 1)) ∧ (¬ x7 = 0 → ∃ b_9 : Nat, FR u 1919 a0 = some b_9 ∧ (kd u b_9 = 101) ∧ vp_in x8 (ln u b_9) ∧ ((AI u b_9 (tn x8) = x6 → J106 0 (x8 + 1)) ∧ (¬ AI u b_9 (tn x8) = x6 → J106 1 (x8 + 1)))))))
def bX19_kept_82 (K : Int32 → Hp → Prop) (a0 : Nat) (x2 : Int32) (x3 : Int32) (u : Hp) (J82 : Int32 → Int32 → Prop) (x5 : Int32) (x6 : Int32) : Prop :=
  (kd u a0 = 16) ∧ ∃ b_16 : Nat, FR u 1903 a0 = some b_16 ∧ (kd u b_16 = 20) ∧ ((FI u 2300 b_16 ≤ x6 → pX19_refused u a0 1 (fun (r_19 : Int32) (u_20 : Hp) => K r_19 u_20)) ∧ (¬ FI u 2300 b_16 ≤ x6 → pX19_has u a0 x2 x6 (fun (r_21 : Int32) => jl2 (bX19_kept_106 K J82 a0 x2 x3 x5 x6 u) r_21 0)))
def pX19_kept (u : Hp) (a0 : Nat) (x1 : Int32) (x2 : Int32) (x3 : Int32) (K : Int32 → Hp → Prop) : Prop :=
  (kd u a0 = 16) ∧ pX19_isRule (sFI u 1900 a0 0) a0 x1 (fun (r_24 : Int32) => ((r_24 = 0 → pX19_refused (sFI u 1900 a0 0) a0 1 (fun (r_25 : Int32) (u_26 : Hp) => K r_25 u_26)) ∧ (¬ r_24 = 0 → pX19_isHand (sFI u 1900 a0 0) a0 x2 (fun (r_27 : Int32) => ((r_27 = 0 → pX19_refused (sFI u 1900 a0 0) a0 1 (fun (r_28 : Int32) (u_29 : Hp) => K r_28 u_29)) ∧ (¬ r_27 = 0 → ∃ b_30 : Nat, FR u 1903 a0 = some b_30 ∧ (kd u b_30 = 20) ∧ pX19_in x3 0 ((FI (sFI u 1900 a0 0) 2303 b_30) - 1) (fun (r_33 : Int32) => ((r_33 = 0 → pX19_refused (sFI u 1900 a0 0) a0 1 (fun (r_44 : Int32) (u_45 : Hp) => K r_44 u_45)) ∧ (¬ r_33 = 0 → pX19_laysNow (sFI u 1900 a0 0) a0 x1 x2 (fun (r_34 : Int32) (u_35 : Hp) => ((r_34 = (-2) → (kd u_35 a0 = 16) ∧ pX19_refused u_35 a0 6 (fun (r_41 : Int32) (u_42 : Hp) => K r_41 u_42)) ∧ (¬ r_34 = (-2) → (kd u_35 a0 = 16) ∧ ∃ b_37 : Nat, FR u_35 1919 a0 = some b_37 ∧ pX19_rowCards u_35 a0 r_34 b_37 (fun (u_39 : Hp) => jl2 (bX19_kept_82 K a0 x2 x3 u_39) 0 0)))))))))))))
/-! X1_says -/
def bX1_says_28 (K : Int32 → Hp → Prop) (a0 : Nat) (x1 : Int32) (x2 : Int32) (J28 : Int32 → Hp → Prop) (x3 : Int32) (u : Hp) : Prop :=
  (kd u a0 = 1) ∧ ((FI u 108 a0 ≤ x3 → K (-2) u) ∧ (¬ FI u 108 a0 ≤ x3 → pX1_rowOf u a0 x1 x3 (fun (r_2 : Int32) (u_3 : Hp) => ((r_2 = x2 → K x3 u_3) ∧ (¬ r_2 = x2 → J28 (x3 + 1) u_3)))))
def pX1_says (u : Hp) (a0 : Nat) (x1 : Int32) (x2 : Int32) (K : Int32 → Hp → Prop) : Prop :=
  (kd u a0 = 1) ∧ pX1_anew u a0 (fun (u_7 : Hp) => (kd u_7 a0 = 1) ∧ pX1_isRule u_7 a0 x1 (fun (r_9 : Int32) => ((r_9 = 0 → pX1_no u_7 a0 1 (fun (r_10 : Int32) (u_11 : Hp) => K r_10 u_11)) ∧ (¬ r_9 = 0 → pX1_isRow u_7 a0 x2 (fun (r_12 : Int32) => ((r_12 = 0 → pX1_no u_7 a0 1 (fun (r_13 : Int32) (u_14 : Hp) => K r_13 u_14)) ∧ (¬ r_12 = 0 → jl2 (bX1_says_28 K a0 x1 x2) 0 u_7)))))))
/-! X19_laysAll -/
def bX19_laysAll_2 (K : Hp → Prop) (a0 : Nat) (x1 : Int32) (J2 : Int32 → Hp → Prop) (x2 : Int32) (u : Hp) : Prop :=
  (kd u a0 = 16) ∧ ((FI u 1917 a0 ≤ x2 → K u) ∧ (¬ FI u 1917 a0 ≤ x2 → ∃ b_2 : Nat, FR u 1925 a0 = some b_2 ∧ pX19_laysNow u a0 x1 x2 (fun (r_4 : Int32) (u_5 : Hp) => (kd u_5 b_2 = 101) ∧ vp_in x2 (ln u_5 b_2) ∧ J2 (x2 + 1) (sAI u_5 b_2 (upd (AI u_5 b_2) (tn x2) r_4)))))
def pX19_laysAll (u : Hp) (a0 : Nat) (x1 : Int32) (K : Hp → Prop) : Prop :=
  jl2 (bX19_laysAll_2 K a0 x1) 0 u
/-! X19_firstWith -/
def bX19_firstWith_2 (K : Int32 → Prop) (a0 : Nat) (x1 : Int32) (u : Hp) (J2 : Int32 → Prop) (x2 : Int32) : Prop :=
  (kd u a0 = 16) ∧ ((FI u 1917 a0 ≤ x2 → K (-2)) ∧ (¬ FI u 1917 a0 ≤ x2 → ∃ b_2 : Nat, FR u 1925 a0 = some b_2 ∧ (kd u b_2 = 101) ∧ vp_in x2 (ln u b_2) ∧ ((AI u b_2 (tn x2) = x1 → K x2) ∧ (¬ AI u b_2 (tn x2) = x1 → J2 (x2 + 1)))))
def pX19_firstWith (u : Hp) (a0 : Nat) (x1 : Int32) (K : Int32 → Prop) : Prop :=
  jl1 (bX19_firstWith_2 K a0 x1 u) 0
/-! X19_says -/
def pX19_says (u : Hp) (a0 : Nat) (x1 : Int32) (x2 : Int32) (K : Int32 → Hp → Prop) : Prop :=
  (kd u a0 = 16) ∧ pX19_isRule (sFI u 1900 a0 0) a0 x1 (fun (r_2 : Int32) => ((r_2 = 0 → pX19_refused (sFI u 1900 a0 0) a0 1 (fun (r_3 : Int32) (u_4 : Hp) => K r_3 u_4)) ∧ (¬ r_2 = 0 → pX19_isRow (sFI u 1900 a0 0) a0 x2 (fun (r_5 : Int32) => ((r_5 = 0 → pX19_refused (sFI u 1900 a0 0) a0 1 (fun (r_11 : Int32) (u_12 : Hp) => K r_11 u_12)) ∧ (¬ r_5 = 0 → pX19_laysAll (sFI u 1900 a0 0) a0 x1 (fun (u_6 : Hp) => (kd u_6 a0 = 16) ∧ pX19_firstWith u_6 a0 x2 (fun (r_8 : Int32) => pX19_good u_6 a0 r_8 (fun (r_9 : Int32) (u_10 : Hp) => K r_9 u_10)))))))))
/-! X1_failsOf -/
def bX1_failsOf_9 (K : Int32 → Hp → Prop) (a0 : Nat) (a1 : Nat) (u : Hp) (J9 : Int32 → Int32 → Prop) (x2 : Int32) (x3 : Int32) : Prop :=
  (kd u a0 = 1) ∧ ((FI u 108 a0 ≤ x3 → K x2 u) ∧ (¬ FI u 108 a0 ≤ x3 → (isRu (kd u a1)) ∧ ∃ b_3 : Nat, FR u 1702 a1 = some b_3 ∧ (kd u b_3 = 101) ∧ vp_in x3 (ln u b_3) ∧ ((AI u b_3 (tn x3) = (-2) → J9 (x2 + 1) (x3 + 1)) ∧ (¬ AI u b_3 (tn x3) = (-2) → J9 (x2 + 0) (x3 + 1)))))
def pX1_failsOf (u : Hp) (a0 : Nat) (a1 : Nat) (K : Int32 → Hp → Prop) : Prop :=
  (kd u a0 = 1) ∧ pX1_lay u a0 a1 (fun (u_9 : Hp) => jl2 (bX1_failsOf_9 K a0 a1 u_9) 0 0)
/-! X4_begin -/
def pX4_begin (u : Hp) (a0 : Nat) (K : Hp → Prop) : Prop :=
  (kd u a0 = 4) ∧ K (sFI u 411 a0 ((FI u 411 a0) + 1))
/-! X4_isThere -/
def pX4_isThere (u : Hp) (a0 : Nat) (x1 : Int32) (K : Int32 → Prop) : Prop :=
  (kd u a0 = 4) ∧ ∃ b_2 : Nat, FR u 404 a0 = some b_2 ∧ (kd u b_2 = 101) ∧ vp_in x1 (ln u b_2) ∧ ((AI u b_2 (tn x1) = (FI u 411 a0) → K 1) ∧ (¬ AI u b_2 (tn x1) = (FI u 411 a0) → K 0))
/-! X4_mark -/
def pX4_mark (u : Hp) (a0 : Nat) (x1 : Int32) (x2 : Int32) (K : Hp → Prop) : Prop :=
  (kd u a0 = 4) ∧ ∃ b_2 : Nat, FR u 404 a0 = some b_2 ∧ (kd u b_2 = 101) ∧ vp_in x1 (ln u b_2) ∧ ∃ b_5 : Nat, FR u 403 a0 = some b_5 ∧ (kd u b_5 = 101) ∧ vp_in x1 (ln u b_5) ∧ K (sAI (sAI u b_2 (upd (AI u b_2) (tn x1) (FI u 411 a0))) b_5 (upd (AI (sAI u b_2 (upd (AI u b_2) (tn x1) (FI u 411 a0))) b_5) (tn x1) x2))
/-! X1_clashOf -/
def bX1_clashOf_14 (K : Int32 → Hp → Prop) (a0 : Nat) (a1 : Nat) (J14 : Int32 → Hp → Prop) (x2 : Int32) (u : Hp) : Prop :=
  (kd u a0 = 1) ∧ ((FI u 108 a0 ≤ x2 → K (-2) u) ∧ (¬ FI u 108 a0 ≤ x2 → (isRu (kd u a1)) ∧ ∃ b_3 : Nat, FR u 1702 a1 = some b_3 ∧ (kd u b_3 = 101) ∧ vp_in x2 (ln u b_3) ∧ ((AI u b_3 (tn x2) = (-2) → J14 (x2 + 1) u) ∧ (¬ AI u b_3 (tn x2) = (-2) → ∃ b_6 : Nat, FR u 109 a0 = some b_6 ∧ vp_in x2 (ln u b_3) ∧ (kd u b_6 = 4) ∧ pX4_isThere u b_6 (AI u b_3 (tn x2)) (fun (r_9 : Int32) => ((r_9 = 0 → vp_in x2 (ln u b_3) ∧ pX4_mark u b_6 (AI u b_3 (tn x2)) x2 (fun (u_10 : Hp) => J14 (x2 + 1) u_10)) ∧ (¬ r_9 = 0 → K x2 u)))))))
def pX1_clashOf (u : Hp) (a0 : Nat) (a1 : Nat) (K : Int32 → Hp → Prop) : Prop :=
  (kd u a0 = 1) ∧ pX1_lay u a0 a1 (fun (u_15 : Hp) => (kd u_15 a0 = 1) ∧ ∃ b_17 : Nat, FR u_15 109 a0 = some b_17 ∧ (kd u_15 b_17 = 4) ∧ pX4_begin u_15 b_17 (fun (u_20 : Hp) => jl2 (bX1_clashOf_14 K a0 a1) 0 u_20))
/-! X1_doesWork -/
def pX1_doesWork (u : Hp) (a0 : Nat) (a1 : Nat) (K : Int32 → Hp → Prop) : Prop :=
  (kd u a0 = 1) ∧ pX1_failsOf u a0 a1 (fun (r_2 : Int32) (u_3 : Hp) => ((r_2 = 0 → (kd u_3 a0 = 1) ∧ pX1_clashOf u_3 a0 a1 (fun (r_5 : Int32) (u_6 : Hp) => ((r_5 = (-2) → K 1 u_6) ∧ (¬ r_5 = (-2) → K 0 u_6)))) ∧ (¬ r_2 = 0 → K 0 u_3)))
/-! X1_works -/
def pX1_works (u : Hp) (a0 : Nat) (x1 : Int32) (K : Int32 → Hp → Prop) : Prop :=
  (kd u a0 = 1) ∧ pX1_anew u a0 (fun (u_2 : Hp) => (kd u_2 a0 = 1) ∧ pX1_isRule u_2 a0 x1 (fun (r_4 : Int32) => ((r_4 = 0 → pX1_no u_2 a0 1 (fun (r_5 : Int32) (u_6 : Hp) => K r_5 u_6)) ∧ (¬ r_4 = 0 → ∃ b_7 : Nat, FR u_2 103 a0 = some b_7 ∧ (kd u_2 b_7 = 17) ∧ ∃ b_10 : Nat, FR u_2 2000 b_7 = some b_10 ∧ (kd u_2 b_10 = 106 ∨ kd u_2 b_10 = 107) ∧ vp_in x1 (ln u_2 b_10) ∧ ∃ b_13 : Nat, AR u_2 b_10 (tn x1) = some b_13 ∧ pX1_doesWork u_2 a0 b_13 (fun (r_16 : Int32) (u_17 : Hp) => ((r_16 = 0 → K 0 u_17) ∧ (¬ r_16 = 0 → K 1 u_17)))))))
/-! X19_clashNow -/
def bX19_clashNow_2 (K : Int32 → Prop) (a0 : Nat) (u : Hp) (J2 : Int32 → Prop) (x1 : Int32) : Prop :=
  (kd u a0 = 16) ∧ ((FI u 1917 a0 ≤ x1 → K (-2)) ∧ (¬ FI u 1917 a0 ≤ x1 → ∃ b_2 : Nat, FR u 1925 a0 = some b_2 ∧ (kd u b_2 = 101) ∧ vp_in x1 (ln u b_2) ∧ ((AI u b_2 (tn x1) = (-2) → J2 (x1 + 1)) ∧ (¬ AI u b_2 (tn x1) = (-2) → vp_in x1 (ln u b_2) ∧ pX19_firstWith u a0 (AI u b_2 (tn x1)) (fun (r_5 : Int32) => ((x1 ≤ r_5 → J2 (x1 + 1)) ∧ (¬ x1 ≤ r_5 → K x1)))))))
def pX19_clashNow (u : Hp) (a0 : Nat) (K : Int32 → Prop) : Prop :=
  jl1 (bX19_clashNow_2 K a0 u) 0
/-! X19_isWorking -/
def bX19_isWorking_2 (K : Int32 → Prop) (a0 : Nat) (u : Hp) (J2 : Int32 → Prop) (x1 : Int32) : Prop :=
  (kd u a0 = 16) ∧ ((FI u 1917 a0 ≤ x1 → pX19_clashNow u a0 (fun (r_2 : Int32) => ((r_2 = (-2) → K 1) ∧ (¬ r_2 = (-2) → K 0)))) ∧ (¬ FI u 1917 a0 ≤ x1 → ∃ b_4 : Nat, FR u 1925 a0 = some b_4 ∧ (kd u b_4 = 101) ∧ vp_in x1 (ln u b_4) ∧ ((AI u b_4 (tn x1) = (-2) → K 0) ∧ (¬ AI u b_4 (tn x1) = (-2) → J2 (x1 + 1)))))
def pX19_isWorking (u : Hp) (a0 : Nat) (K : Int32 → Prop) : Prop :=
  jl1 (bX19_isWorking_2 K a0 u) 0
/-! X19_works -/
def pX19_works (u : Hp) (a0 : Nat) (x1 : Int32) (K : Int32 → Hp → Prop) : Prop :=
  (kd u a0 = 16) ∧ pX19_isRule (sFI u 1900 a0 0) a0 x1 (fun (r_2 : Int32) => ((r_2 = 0 → pX19_refused (sFI u 1900 a0 0) a0 1 (fun (r_11 : Int32) (u_12 : Hp) => K r_11 u_12)) ∧ (¬ r_2 = 0 → pX19_laysAll (sFI u 1900 a0 0) a0 x1 (fun (u_3 : Hp) => (kd u_3 a0 = 16) ∧ pX19_isWorking u_3 a0 (fun (r_5 : Int32) => ((r_5 = 0 → pX19_good u_3 a0 0 (fun (r_6 : Int32) (u_7 : Hp) => K r_6 u_7)) ∧ (¬ r_5 = 0 → pX19_good u_3 a0 1 (fun (r_8 : Int32) (u_9 : Hp) => K r_8 u_9))))))))
/-! X4_markOf -/
def pX4_markOf (u : Hp) (a0 : Nat) (x1 : Int32) (K : Int32 → Prop) : Prop :=
  (kd u a0 = 4) ∧ ∃ b_2 : Nat, FR u 403 a0 = some b_2 ∧ (kd u b_2 = 101) ∧ vp_in x1 (ln u b_2) ∧ K (AI u b_2 (tn x1))
/-! X1_clash -/
def pX1_clash (u : Hp) (a0 : Nat) (x1 : Int32) (x2 : Int32) (K : Int32 → Hp → Prop) : Prop :=
  (kd u a0 = 1) ∧ pX1_anew u a0 (fun (u_2 : Hp) => (kd u_2 a0 = 1) ∧ pX1_isRule u_2 a0 x1 (fun (r_4 : Int32) => ((r_4 = 0 → pX1_no u_2 a0 1 (fun (r_36 : Int32) (u_37 : Hp) => K r_36 u_37)) ∧ (¬ r_4 = 0 → ∃ b_5 : Nat, FR u_2 103 a0 = some b_5 ∧ (kd u_2 b_5 = 17) ∧ ∃ b_8 : Nat, FR u_2 2000 b_5 = some b_8 ∧ (kd u_2 b_8 = 106 ∨ kd u_2 b_8 = 107) ∧ vp_in x1 (ln u_2 b_8) ∧ ∃ b_11 : Nat, AR u_2 b_8 (tn x1) = some b_11 ∧ pX1_clashOf u_2 a0 b_11 (fun (r_14 : Int32) (u_15 : Hp) => ((r_14 = (-2) → K r_14 u_15) ∧ (¬ r_14 = (-2) → ((x2 = 0 → K r_14 u_15) ∧ (¬ x2 = 0 → (kd u_15 a0 = 1) ∧ ∃ b_17 : Nat, FR u_15 109 a0 = some b_17 ∧ ∃ b_19 : Nat, FR u_15 103 a0 = some b_19 ∧ (kd u_15 b_19 = 17) ∧ ∃ b_22 : Nat, FR u_15 2000 b_19 = some b_22 ∧ (kd u_15 b_22 = 106 ∨ kd u_15 b_22 = 107) ∧ vp_in x1 (ln u_15 b_22) ∧ ∃ b_25 : Nat, AR u_15 b_22 (tn x1) = some b_25 ∧ (isRu (kd u_15 b_25)) ∧ ∃ b_29 : Nat, FR u_15 1702 b_25 = some b_29 ∧ (kd u_15 b_29 = 101) ∧ vp_in r_14 (ln u_15 b_29) ∧ (kd u_15 b_17 = 4) ∧ pX4_markOf u_15 b_17 (AI u_15 b_29 (tn r_14)) (fun (r_33 : Int32) => K r_33 u_15))))))))))
/-! X19_clash -/
def pX19_clash (u : Hp) (a0 : Nat) (x1 : Int32) (x2 : Int32) (K : Int32 → Hp → Prop) : Prop :=
  (kd u a0 = 16) ∧ pX19_isRule (sFI u 1900 a0 0) a0 x1 (fun (r_2 : Int32) => ((r_2 = 0 → pX19_refused (sFI u 1900 a0 0) a0 1 (fun (r_18 : Int32) (u_19 : Hp) => K r_18 u_19)) ∧ (¬ r_2 = 0 → pX19_laysAll (sFI u 1900 a0 0) a0 x1 (fun (u_3 : Hp) => (kd u_3 a0 = 16) ∧ pX19_clashNow u_3 a0 (fun (r_5 : Int32) => ((r_5 = (-2) → pX19_good u_3 a0 r_5 (fun (r_6 : Int32) (u_7 : Hp) => K r_6 u_7)) ∧ (¬ r_5 = (-2) → ((x2 = 0 → pX19_good u_3 a0 r_5 (fun (r_14 : Int32) (u_15 : Hp) => K r_14 u_15)) ∧ (¬ x2 = 0 → ∃ b_8 : Nat, FR u_3 1925 a0 = some b_8 ∧ (kd u_3 b_8 = 101) ∧ vp_in r_5 (ln u_3 b_8) ∧ pX19_firstWith u_3 a0 (AI u_3 b_8 (tn r_5)) (fun (r_11 : Int32) => pX19_good u_3 a0 r_11 (fun (r_12 : Int32) (u_13 : Hp) => K r_12 u_13)))))))))))
/-! X1_laid -/
def bX1_laid_45 (K : Int32 → Hp → Prop) (a0 : Nat) (a2 : Nat) (J45 : Int32 → Int32 → Hp → Prop) (x3 : Int32) (x4 : Int32) (u : Hp) : Prop :=
  (kd u a0 = 1) ∧ ((FI u 108 a0 ≤ x4 → K x3 u) ∧ (¬ FI u 108 a0 ≤ x4 → (isRu (kd u a2)) ∧ ∃ b_3 : Nat, FR u 1702 a2 = some b_3 ∧ (kd u b_3 = 101) ∧ vp_in x4 (ln u b_3) ∧ ((AI u b_3 (tn x4) = (-2) → J45 x3 (x4 + 1) u) ∧ (¬ AI u b_3 (tn x4) = (-2) → ∃ b_6 : Nat, FR u 109 a0 = some b_6 ∧ vp_in x4 (ln u b_3) ∧ (kd u b_6 = 4) ∧ pX4_isThere u b_6 (AI u b_3 (tn x4)) (fun (r_9 : Int32) => ((r_9 = 0 → vp_in x4 (ln u b_3) ∧ pX4_mark u b_6 (AI u b_3 (tn x4)) x4 (fun (u_10 : Hp) => J45 (x3 + 1) (x4 + 1) u_10)) ∧ (¬ r_9 = 0 → J45 x3 (x4 + 1) u)))))))
def pX1_laid (u : Hp) (a0 : Nat) (x1 : Int32) (K : Int32 → Hp → Prop) : Prop :=
  (kd u a0 = 1) ∧ pX1_anew u a0 (fun (u_15 : Hp) => (kd u_15 a0 = 1) ∧ pX1_isRule u_15 a0 x1 (fun (r_17 : Int32) => ((r_17 = 0 → pX1_no u_15 a0 1 (fun (r_33 : Int32) (u_34 : Hp) => K r_33 u_34)) ∧ (¬ r_17 = 0 → ∃ b_18 : Nat, FR u_15 103 a0 = some b_18 ∧ (kd u_15 b_18 = 17) ∧ ∃ b_21 : Nat, FR u_15 2000 b_18 = some b_21 ∧ (kd u_15 b_21 = 106 ∨ kd u_15 b_21 = 107) ∧ vp_in x1 (ln u_15 b_21) ∧ ∃ b_24 : Nat, AR u_15 b_21 (tn x1) = some b_24 ∧ pX1_lay u_15 a0 b_24 (fun (u_27 : Hp) => (kd u_27 a0 = 1) ∧ ∃ b_29 : Nat, FR u_27 109 a0 = some b_29 ∧ (kd u_27 b_29 = 4) ∧ pX4_begin u_27 b_29 (fun (u_32 : Hp) => jl3 (bX1_laid_45 K a0 b_24) 0 0 u_32))))))
/-! X19_laid -/
def bX19_laid_28 (K : Int32 → Hp → Prop) (a0 : Nat) (u : Hp) (J28 : Int32 → Int32 → Prop) (x2 : Int32) (x3 : Int32) : Prop :=
  (kd u a0 = 16) ∧ ((FI u 1917 a0 ≤ x3 → pX19_good u a0 x2 (fun (r_2 : Int32) (u_3 : Hp) => K r_2 u_3)) ∧ (¬ FI u 1917 a0 ≤ x3 → ∃ b_4 : Nat, FR u 1925 a0 = some b_4 ∧ (kd u b_4 = 101) ∧ vp_in x3 (ln u b_4) ∧ ((AI u b_4 (tn x3) = (-2) → J28 (x2 + 0) (x3 + 1)) ∧ (¬ AI u b_4 (tn x3) = (-2) → vp_in x3 (ln u b_4) ∧ pX19_firstWith u a0 (AI u b_4 (tn x3)) (fun (r_7 : Int32) => ((r_7 = x3 → J28 (x2 + 1) (x3 + 1)) ∧ (¬ r_7 = x3 → J28 (x2 + 0) (x3 + 1))))))))
def pX19_laid (u : Hp) (a0 : Nat) (x1 : Int32) (K : Int32 → Hp → Prop) : Prop :=
  (kd u a0 = 16) ∧ pX19_isRule (sFI u 1900 a0 0) a0 x1 (fun (r_12 : Int32) => ((r_12 = 0 → pX19_refused (sFI u 1900 a0 0) a0 1 (fun (r_14 : Int32) (u_15 : Hp) => K r_14 u_15)) ∧ (¬ r_12 = 0 → pX19_laysAll (sFI u 1900 a0 0) a0 x1 (fun (u_13 : Hp) => jl2 (bX19_laid_28 K a0 u_13) 0 0))))
/-! X1_fails -/
def pX1_fails (u : Hp) (a0 : Nat) (x1 : Int32) (K : Int32 → Hp → Prop) : Prop :=
  (kd u a0 = 1) ∧ pX1_anew u a0 (fun (u_2 : Hp) => (kd u_2 a0 = 1) ∧ pX1_isRule u_2 a0 x1 (fun (r_4 : Int32) => ((r_4 = 0 → pX1_no u_2 a0 1 (fun (r_5 : Int32) (u_6 : Hp) => K r_5 u_6)) ∧ (¬ r_4 = 0 → ∃ b_7 : Nat, FR u_2 103 a0 = some b_7 ∧ (kd u_2 b_7 = 17) ∧ ∃ b_10 : Nat, FR u_2 2000 b_7 = some b_10 ∧ (kd u_2 b_10 = 106 ∨ kd u_2 b_10 = 107) ∧ vp_in x1 (ln u_2 b_10) ∧ ∃ b_13 : Nat, AR u_2 b_10 (tn x1) = some b_13 ∧ pX1_failsOf u_2 a0 b_13 (fun (r_16 : Int32) (u_17 : Hp) => K r_16 u_17)))))
/-! X19_fails -/
def bX19_fails_28 (K : Int32 → Hp → Prop) (a0 : Nat) (u : Hp) (J28 : Int32 → Int32 → Prop) (x2 : Int32) (x3 : Int32) : Prop :=
  (kd u a0 = 16) ∧ ((FI u 1917 a0 ≤ x3 → pX19_good u a0 x2 (fun (r_2 : Int32) (u_3 : Hp) => K r_2 u_3)) ∧ (¬ FI u 1917 a0 ≤ x3 → ∃ b_4 : Nat, FR u 1925 a0 = some b_4 ∧ (kd u b_4 = 101) ∧ vp_in x3 (ln u b_4) ∧ ((AI u b_4 (tn x3) = (-2) → J28 (x2 + 1) (x3 + 1)) ∧ (¬ AI u b_4 (tn x3) = (-2) → J28 (x2 + 0) (x3 + 1)))))
def pX19_fails (u : Hp) (a0 : Nat) (x1 : Int32) (K : Int32 → Hp → Prop) : Prop :=
  (kd u a0 = 16) ∧ pX19_isRule (sFI u 1900 a0 0) a0 x1 (fun (r_10 : Int32) => ((r_10 = 0 → pX19_refused (sFI u 1900 a0 0) a0 1 (fun (r_12 : Int32) (u_13 : Hp) => K r_12 u_13)) ∧ (¬ r_10 = 0 → pX19_laysAll (sFI u 1900 a0 0) a0 x1 (fun (u_11 : Hp) => jl2 (bX19_fails_28 K a0 u_11) 0 0))))
/-! X1_changed -/
def pX1_changed (u : Hp) (a0 : Nat) (x1 : Int32) (x2 : Int32) (K : Int32 → Hp → Prop) : Prop :=
  (kd u a0 = 1) ∧ ∃ b_2 : Nat, FR u 103 a0 = some b_2 ∧ (kd u b_2 = 17) ∧ pX20_rows u b_2 (fun (r_5 : Int32) => pX20_tiltings u b_2 (fun (r_6 : Int32) => (¬ r_6 = 0) ∧ ∃ b_7 : Nat, FR u 115 a0 = some b_7 ∧ pX20_unrank u b_2 (x1 / r_6) r_5 b_7 (fun (u_9 : Hp) => (kd u_9 a0 = 1) ∧ ∃ b_11 : Nat, FR u_9 115 a0 = some b_11 ∧ (kd u_9 b_11 = 101) ∧ vp_in x2 (ln u_9 b_11) ∧ vp_in (x2 + 1) (ln u_9 b_11) ∧ vp_in x2 (ln u_9 b_11) ∧ vp_in (x2 + 1) (ln u_9 b_11) ∧ ∃ b_14 : Nat, FR u_9 103 a0 = some b_14 ∧ (kd u_9 b_14 = 17) ∧ pX20_tiltings (sAI (sAI u_9 b_11 (upd (AI u_9 b_11) (tn x2) (AI u_9 b_11 (tn (x2 + 1))))) b_11 (upd (AI (sAI u_9 b_11 (upd (AI u_9 b_11) (tn x2) (AI u_9 b_11 (tn (x2 + 1))))) b_11) (tn (x2 + 1)) (AI u_9 b_11 (tn x2)))) b_14 (fun (r_17 : Int32) => (¬ r_17 = 0) ∧ ∀ x6_18 : Int32, x6_18 = (jshl ((jshr (jrem x1 r_17) x2) &&& 1) 1) ||| ((jshr (jrem x1 r_17) (x2 + 1)) &&& 1) → pX20_rank (sAI (sAI u_9 b_11 (upd (AI u_9 b_11) (tn x2) (AI u_9 b_11 (tn (x2 + 1))))) b_11 (upd (AI (sAI u_9 b_11 (upd (AI u_9 b_11) (tn x2) (AI u_9 b_11 (tn (x2 + 1))))) b_11) (tn (x2 + 1)) (AI u_9 b_11 (tn x2)))) b_14 b_11 r_5 (fun (r_20 : Int32) => pX20_tiltings (sAI (sAI u_9 b_11 (upd (AI u_9 b_11) (tn x2) (AI u_9 b_11 (tn (x2 + 1))))) b_11 (upd (AI (sAI u_9 b_11 (upd (AI u_9 b_11) (tn x2) (AI u_9 b_11 (tn (x2 + 1))))) b_11) (tn (x2 + 1)) (AI u_9 b_11 (tn x2)))) b_14 (fun (r_21 : Int32) => K ((r_20 * r_21) + (((jrem x1 r_17) &&& ((jshl 3 x2) ^^^ (-1))) ||| (jshl x6_18 x2))) (sAI (sAI u_9 b_11 (upd (AI u_9 b_11) (tn x2) (AI u_9 b_11 (tn (x2 + 1))))) b_11 (upd (AI (sAI u_9 b_11 (upd (AI u_9 b_11) (tn x2) (AI u_9 b_11 (tn (x2 + 1))))) b_11) (tn (x2 + 1)) (AI u_9 b_11 (tn x2))))))))))
/-! X4_isMarked -/
def pX4_isMarked (u : Hp) (a0 : Nat) (x1 : Int32) (x2 : Int32) (K : Int32 → Prop) : Prop :=
  (kd u a0 = 4) ∧ ∃ b_2 : Nat, FR u 404 a0 = some b_2 ∧ (kd u b_2 = 101) ∧ vp_in x1 (ln u b_2) ∧ ((AI u b_2 (tn x1) = (FI u 411 a0) → ∃ b_5 : Nat, FR u 403 a0 = some b_5 ∧ (kd u b_5 = 101) ∧ vp_in x1 (ln u b_5) ∧ ((AI u b_5 (tn x1) = x2 → K 0) ∧ (¬ AI u b_5 (tn x1) = x2 → K 1))) ∧ (¬ AI u b_2 (tn x1) = (FI u 411 a0) → K 0))
/-! X1_keepApart -/
def bX1_keepApart_79 (K : Int32 → Hp → Prop) (J60 : Int32 → Hp → Prop) (a0 : Nat) (a1 : Nat) (x2 : Int32) (x3 : Int32) (x4 : Int32) (J79 : Int32 → Hp → Prop) (x5 : Int32) (u : Hp) : Prop :=
  (kd u a0 = 1) ∧ ∃ b_2 : Nat, FR u 103 a0 = some b_2 ∧ (kd u b_2 = 17) ∧ pX20_rows u b_2 (fun (r_5 : Int32) => ((r_5 ≤ (x5 + 1) → J60 (x3 + 1) u) ∧ (¬ r_5 ≤ (x5 + 1) → ((x4 = (-2) → J60 (x3 + 1) u) ∧ (¬ x4 = (-2) → pX1_changed u a0 x4 x5 (fun (r_6 : Int32) (u_7 : Hp) => (kd u_7 a0 = 1) ∧ ∃ b_9 : Nat, FR u_7 109 a0 = some b_9 ∧ (kd u_7 b_9 = 4) ∧ pX4_isMarked u_7 b_9 r_6 x4 (fun (r_12 : Int32) => ((r_12 = 0 → ((x2 = 0 → J79 (x5 + 1) u_7) ∧ (¬ x2 = 0 → pX4_mark u_7 b_9 r_6 x4 (fun (u_13 : Hp) => J79 (x5 + 1) u_13)))) ∧ (¬ r_12 = 0 → K 0 u_7)))))))))
def bX1_keepApart_60 (K : Int32 → Hp → Prop) (a0 : Nat) (a1 : Nat) (x2 : Int32) (J60 : Int32 → Hp → Prop) (x3 : Int32) (u : Hp) : Prop :=
  (kd u a0 = 1) ∧ ((FI u 108 a0 ≤ x3 → K 1 u) ∧ (¬ FI u 108 a0 ≤ x3 → (isRu (kd u a1)) ∧ ∃ b_20 : Nat, FR u 1702 a1 = some b_20 ∧ (kd u b_20 = 101) ∧ vp_in x3 (ln u b_20) ∧ jl2 (bX1_keepApart_79 K J60 a0 a1 x2 x3 (AI u b_20 (tn x3))) 0 u))
def bX1_keepApart_14 (K : Int32 → Hp → Prop) (a0 : Nat) (a1 : Nat) (x2 : Int32) (J14 : Int32 → Hp → Prop) (x3 : Int32) (u : Hp) : Prop :=
  (kd u a0 = 1) ∧ ((FI u 108 a0 ≤ x3 → jl2 (bX1_keepApart_60 K a0 a1 x2) 0 u) ∧ (¬ FI u 108 a0 ≤ x3 → (isRu (kd u a1)) ∧ ∃ b_26 : Nat, FR u 1702 a1 = some b_26 ∧ (kd u b_26 = 101) ∧ vp_in x3 (ln u b_26) ∧ ((AI u b_26 (tn x3) = (-2) → J14 (x3 + 1) u) ∧ (¬ AI u b_26 (tn x3) = (-2) → ∃ b_29 : Nat, FR u 109 a0 = some b_29 ∧ vp_in x3 (ln u b_26) ∧ vp_in x3 (ln u b_26) ∧ (kd u b_29 = 4) ∧ pX4_mark u b_29 (AI u b_26 (tn x3)) (AI u b_26 (tn x3)) (fun (u_32 : Hp) => J14 (x3 + 1) u_32)))))
def pX1_keepApart (u : Hp) (a0 : Nat) (a1 : Nat) (x2 : Int32) (K : Int32 → Hp → Prop) : Prop :=
  (kd u a0 = 1) ∧ pX1_lay u a0 a1 (fun (u_36 : Hp) => (kd u_36 a0 = 1) ∧ ∃ b_38 : Nat, FR u_36 109 a0 = some b_38 ∧ (kd u_36 b_38 = 4) ∧ pX4_begin u_36 b_38 (fun (u_41 : Hp) => jl2 (bX1_keepApart_14 K a0 a1 x2) 0 u_41))
/-! X1_seen -/
def pX1_seen (u : Hp) (a0 : Nat) (x1 : Int32) (K : Int32 → Hp → Prop) : Prop :=
  (kd u a0 = 1) ∧ pX1_anew u a0 (fun (u_2 : Hp) => (kd u_2 a0 = 1) ∧ pX1_isRule u_2 a0 x1 (fun (r_4 : Int32) => ((r_4 = 0 → pX1_no u_2 a0 1 (fun (r_5 : Int32) (u_6 : Hp) => K r_5 u_6)) ∧ (¬ r_4 = 0 → ∃ b_7 : Nat, FR u_2 103 a0 = some b_7 ∧ (kd u_2 b_7 = 17) ∧ ∃ b_10 : Nat, FR u_2 2000 b_7 = some b_10 ∧ (kd u_2 b_10 = 106 ∨ kd u_2 b_10 = 107) ∧ vp_in x1 (ln u_2 b_10) ∧ ∃ b_13 : Nat, AR u_2 b_10 (tn x1) = some b_13 ∧ pX1_keepApart u_2 a0 b_13 0 (fun (r_16 : Int32) (u_17 : Hp) => ((r_16 = 0 → K 0 u_17) ∧ (¬ r_16 = 0 → K 1 u_17)))))))
/-! X19_ownsLaid -/
def bX19_ownsLaid_6 (K : Hp → Prop) (a0 : Nat) (J6 : Int32 → Hp → Prop) (x1 : Int32) (u : Hp) : Prop :=
  (kd u a0 = 16) ∧ ((FI u 1917 a0 ≤ x1 → K u) ∧ (¬ FI u 1917 a0 ≤ x1 → ∃ b_2 : Nat, FR u 1925 a0 = some b_2 ∧ (kd u b_2 = 101) ∧ vp_in x1 (ln u b_2) ∧ ((AI u b_2 (tn x1) = (-2) → J6 (x1 + 1) u) ∧ (¬ AI u b_2 (tn x1) = (-2) → vp_in x1 (ln u b_2) ∧ vp_in x1 (ln u b_2) ∧ pX19_owns u a0 (AI u b_2 (tn x1)) (AI u b_2 (tn x1)) (fun (u_5 : Hp) => J6 (x1 + 1) u_5)))))
def pX19_ownsLaid (u : Hp) (a0 : Nat) (K : Hp → Prop) : Prop :=
  (kd u a0 = 16) ∧ pX19_clearOwners u a0 (fun (u_9 : Hp) => jl2 (bX19_ownsLaid_6 K a0) 0 u_9)
/-! X19_becomes -/
def bX19_becomes_83 (K : Int32 → Hp → Prop) (a0 : Nat) (x4 : Int32) (u : Hp) : Prop :=
  (kd u a0 = 16) ∧ ∃ b_2 : Nat, FR u 1926 a0 = some b_2 ∧ pX19_rowNumber u a0 b_2 0 (fun (r_4 : Int32) => ∃ b_5 : Nat, FR u 1903 a0 = some b_5 ∧ (kd u b_5 = 20) ∧ pX23_tilts u b_5 (fun (r_8 : Int32) => K ((r_4 * r_8) + x4) u))
def pX19_becomes (u : Hp) (a0 : Nat) (x1 : Int32) (x2 : Int32) (K : Int32 → Hp → Prop) : Prop :=
  (kd u a0 = 16) ∧ ∃ b_10 : Nat, FR u 1926 a0 = some b_10 ∧ pX19_rowCards u a0 x1 b_10 (fun (u_12 : Hp) => (kd u_12 a0 = 16) ∧ ∃ b_14 : Nat, FR u_12 1926 a0 = some b_14 ∧ (kd u_12 b_14 = 101) ∧ vp_in x2 (ln u_12 b_14) ∧ vp_in (x2 + 1) (ln u_12 b_14) ∧ vp_in x2 (ln u_12 b_14) ∧ vp_in (x2 + 1) (ln u_12 b_14) ∧ ∃ b_17 : Nat, FR u_12 1903 a0 = some b_17 ∧ (kd u_12 b_17 = 20) ∧ pX23_tilts (sAI (sAI u_12 b_14 (upd (AI u_12 b_14) (tn x2) (AI u_12 b_14 (tn (x2 + 1))))) b_14 (upd (AI (sAI u_12 b_14 (upd (AI u_12 b_14) (tn x2) (AI u_12 b_14 (tn (x2 + 1))))) b_14) (tn (x2 + 1)) (AI u_12 b_14 (tn x2)))) b_17 (fun (r_20 : Int32) => (¬ r_20 = 0) ∧ ∀ x6_21 : Int32, x6_21 = (jshr (jrem x1 r_20) (x2 + 1)) &&& 1 → (((jshr (jrem x1 r_20) x2) &&& 1 = x6_21 → bX19_becomes_83 K a0 (jrem x1 r_20) (sAI (sAI u_12 b_14 (upd (AI u_12 b_14) (tn x2) (AI u_12 b_14 (tn (x2 + 1))))) b_14 (upd (AI (sAI u_12 b_14 (upd (AI u_12 b_14) (tn x2) (AI u_12 b_14 (tn (x2 + 1))))) b_14) (tn (x2 + 1)) (AI u_12 b_14 (tn x2))))) ∧ (¬ (jshr (jrem x1 r_20) x2) &&& 1 = x6_21 → bX19_becomes_83 K a0 ((jrem x1 r_20) ^^^ (jshl 3 x2)) (sAI (sAI u_12 b_14 (upd (AI u_12 b_14) (tn x2) (AI u_12 b_14 (tn (x2 + 1))))) b_14 (upd (AI (sAI u_12 b_14 (upd (AI u_12 b_14) (tn x2) (AI u_12 b_14 (tn (x2 + 1))))) b_14) (tn (x2 + 1)) (AI u_12 b_14 (tn x2))))))))
/-! X19_isOwned -/
def pX19_isOwned (u : Hp) (a0 : Nat) (x1 : Int32) (K : Int32 → Prop) : Prop :=
  (kd u a0 = 16) ∧ ∃ b_2 : Nat, FR u 1927 a0 = some b_2 ∧ pX19_slot u a0 x1 (fun (r_4 : Int32) => (kd u b_2 = 101) ∧ vp_in r_4 (ln u b_2) ∧ ((AI u b_2 (tn r_4) = (-1) → K 0) ∧ (¬ AI u b_2 (tn r_4) = (-1) → K 1)))
/-! X19_isSeen -/
def bX19_isSeen_12 (K : Int32 → Hp → Prop) (J2 : Int32 → Hp → Prop) (a0 : Nat) (x1 : Int32) (J12 : Int32 → Hp → Prop) (x2 : Int32) (u : Hp) : Prop :=
  (kd u a0 = 16) ∧ ∃ b_2 : Nat, FR u 1903 a0 = some b_2 ∧ (kd u b_2 = 20) ∧ ((FI u 2304 b_2 ≤ (x2 + 1) → J2 (x1 + 1) u) ∧ (¬ FI u 2304 b_2 ≤ (x2 + 1) → ∃ b_5 : Nat, FR u 1925 a0 = some b_5 ∧ (kd u b_5 = 101) ∧ vp_in x1 (ln u b_5) ∧ ((AI u b_5 (tn x1) = (-2) → J12 (x2 + 1) u) ∧ (¬ AI u b_5 (tn x1) = (-2) → vp_in x1 (ln u b_5) ∧ pX19_becomes u a0 (AI u b_5 (tn x1)) x2 (fun (r_8 : Int32) (u_9 : Hp) => (kd u_9 a0 = 16) ∧ pX19_isOwned u_9 a0 r_8 (fun (r_11 : Int32) => ((r_11 = 0 → J12 (x2 + 1) u_9) ∧ (¬ r_11 = 0 → K 0 u_9))))))))
def bX19_isSeen_2 (K : Int32 → Hp → Prop) (a0 : Nat) (J2 : Int32 → Hp → Prop) (x1 : Int32) (u : Hp) : Prop :=
  (kd u a0 = 16) ∧ ((FI u 1917 a0 ≤ x1 → K 1 u) ∧ (¬ FI u 1917 a0 ≤ x1 → jl2 (bX19_isSeen_12 K J2 a0 x1) 0 u))
def pX19_isSeen (u : Hp) (a0 : Nat) (K : Int32 → Hp → Prop) : Prop :=
  jl2 (bX19_isSeen_2 K a0) 0 u
/-! X19_seen -/
def pX19_seen (u : Hp) (a0 : Nat) (x1 : Int32) (K : Int32 → Hp → Prop) : Prop :=
  (kd u a0 = 16) ∧ pX19_isRule (sFI u 1900 a0 0) a0 x1 (fun (r_2 : Int32) => ((r_2 = 0 → pX19_refused (sFI u 1900 a0 0) a0 1 (fun (r_16 : Int32) (u_17 : Hp) => K r_16 u_17)) ∧ (¬ r_2 = 0 → pX19_laysAll (sFI u 1900 a0 0) a0 x1 (fun (u_3 : Hp) => (kd u_3 a0 = 16) ∧ pX19_ownsLaid u_3 a0 (fun (u_5 : Hp) => (kd u_5 a0 = 16) ∧ pX19_isSeen u_5 a0 (fun (r_7 : Int32) (u_8 : Hp) => ((r_7 = 0 → (kd u_8 a0 = 16) ∧ pX19_good u_8 a0 0 (fun (r_10 : Int32) (u_11 : Hp) => K r_10 u_11)) ∧ (¬ r_7 = 0 → (kd u_8 a0 = 16) ∧ pX19_good u_8 a0 1 (fun (r_13 : Int32) (u_14 : Hp) => K r_13 u_14)))))))))
/-! X1_borne -/
def pX1_borne (u : Hp) (a0 : Nat) (x1 : Int32) (K : Int32 → Hp → Prop) : Prop :=
  (kd u a0 = 1) ∧ pX1_anew u a0 (fun (u_2 : Hp) => (kd u_2 a0 = 1) ∧ pX1_isRule u_2 a0 x1 (fun (r_4 : Int32) => ((r_4 = 0 → pX1_no u_2 a0 1 (fun (r_5 : Int32) (u_6 : Hp) => K r_5 u_6)) ∧ (¬ r_4 = 0 → ∃ b_7 : Nat, FR u_2 103 a0 = some b_7 ∧ (kd u_2 b_7 = 17) ∧ ∃ b_10 : Nat, FR u_2 2000 b_7 = some b_10 ∧ (kd u_2 b_10 = 106 ∨ kd u_2 b_10 = 107) ∧ vp_in x1 (ln u_2 b_10) ∧ ∃ b_13 : Nat, AR u_2 b_10 (tn x1) = some b_13 ∧ pX1_keepApart u_2 a0 b_13 1 (fun (r_16 : Int32) (u_17 : Hp) => ((r_16 = 0 → K 0 u_17) ∧ (¬ r_16 = 0 → K 1 u_17)))))))
/-! X19_isBorne -/
def bX19_isBorne_74 (K : Int32 → Hp → Prop) (J2 : Int32 → Hp → Prop) (J12 : Int32 → Hp → Prop) (a0 : Nat) (x1 : Int32) (x2 : Int32) (x3 : Int32) (u : Hp) : Prop :=
  (kd u a0 = 16) ∧ ∃ b_2 : Nat, FR u 1925 a0 = some b_2 ∧ (kd u b_2 = 101) ∧ vp_in x1 (ln u b_2) ∧ pX19_owns u a0 x3 (AI u b_2 (tn x1)) (fun (u_5 : Hp) => J12 (x2 + 1) u_5)
def bX19_isBorne_12 (K : Int32 → Hp → Prop) (J2 : Int32 → Hp → Prop) (a0 : Nat) (x1 : Int32) (J12 : Int32 → Hp → Prop) (x2 : Int32) (u : Hp) : Prop :=
  (kd u a0 = 16) ∧ ∃ b_7 : Nat, FR u 1903 a0 = some b_7 ∧ (kd u b_7 = 20) ∧ ((FI u 2304 b_7 ≤ (x2 + 1) → J2 (x1 + 1) u) ∧ (¬ FI u 2304 b_7 ≤ (x2 + 1) → ∃ b_10 : Nat, FR u 1925 a0 = some b_10 ∧ (kd u b_10 = 101) ∧ vp_in x1 (ln u b_10) ∧ ((AI u b_10 (tn x1) = (-2) → J2 (x1 + 1) u) ∧ (¬ AI u b_10 (tn x1) = (-2) → vp_in x1 (ln u b_10) ∧ pX19_becomes u a0 (AI u b_10 (tn x1)) x2 (fun (r_13 : Int32) (u_14 : Hp) => (kd u_14 a0 = 16) ∧ pX19_ownerOf u_14 a0 r_13 (fun (r_16 : Int32) => ((r_16 = (-1) → bX19_isBorne_74 K J2 J12 a0 x1 x2 r_13 u_14) ∧ (¬ r_16 = (-1) → ∃ b_17 : Nat, FR u_14 1925 a0 = some b_17 ∧ (kd u_14 b_17 = 101) ∧ vp_in x1 (ln u_14 b_17) ∧ ((r_16 = (AI u_14 b_17 (tn x1)) → bX19_isBorne_74 K J2 J12 a0 x1 x2 r_13 u_14) ∧ (¬ r_16 = (AI u_14 b_17 (tn x1)) → K 0 u_14))))))))))
def bX19_isBorne_2 (K : Int32 → Hp → Prop) (a0 : Nat) (J2 : Int32 → Hp → Prop) (x1 : Int32) (u : Hp) : Prop :=
  (kd u a0 = 16) ∧ ((FI u 1917 a0 ≤ x1 → K 1 u) ∧ (¬ FI u 1917 a0 ≤ x1 → jl2 (bX19_isBorne_12 K J2 a0 x1) 0 u))
def pX19_isBorne (u : Hp) (a0 : Nat) (K : Int32 → Hp → Prop) : Prop :=
  jl2 (bX19_isBorne_2 K a0) 0 u
/-! X19_borne -/
def pX19_borne (u : Hp) (a0 : Nat) (x1 : Int32) (K : Int32 → Hp → Prop) : Prop :=
  (kd u a0 = 16) ∧ pX19_isRule (sFI u 1900 a0 0) a0 x1 (fun (r_2 : Int32) => ((r_2 = 0 → pX19_refused (sFI u 1900 a0 0) a0 1 (fun (r_23 : Int32) (u_24 : Hp) => K r_23 u_24)) ∧ (¬ r_2 = 0 → pX19_laysAll (sFI u 1900 a0 0) a0 x1 (fun (u_3 : Hp) => (kd u_3 a0 = 16) ∧ pX19_ownsLaid u_3 a0 (fun (u_5 : Hp) => (kd u_5 a0 = 16) ∧ pX19_isSeen u_5 a0 (fun (r_7 : Int32) (u_8 : Hp) => ((r_7 = 0 → (kd u_8 a0 = 16) ∧ pX19_good u_8 a0 0 (fun (r_10 : Int32) (u_11 : Hp) => K r_10 u_11)) ∧ (¬ r_7 = 0 → (kd u_8 a0 = 16) ∧ pX19_isBorne u_8 a0 (fun (r_13 : Int32) (u_14 : Hp) => ((r_13 = 0 → (kd u_14 a0 = 16) ∧ pX19_good u_14 a0 0 (fun (r_16 : Int32) (u_17 : Hp) => K r_16 u_17)) ∧ (¬ r_13 = 0 → (kd u_14 a0 = 16) ∧ pX19_good u_14 a0 1 (fun (r_19 : Int32) (u_20 : Hp) => K r_19 u_20))))))))))))
/-! X1_wordsWork -/
def pX1_wordsWork (u : Hp) (a0 : Nat) (x1 : Int32) (K : Int32 → Hp → Prop) : Prop :=
  (kd u a0 = 1) ∧ pX1_anew u a0 (fun (u_2 : Hp) => (kd u_2 a0 = 1) ∧ ((FR u_2 103 a0 = none → pX1_no u_2 a0 1 (fun (r_6 : Int32) (u_7 : Hp) => K r_6 u_7)) ∧ (∀ b_4 : Nat, FR u_2 103 a0 = some b_4 → pX1_in x1 0 19 (fun (r_8 : Int32) => ((r_8 = 0 → pX1_no u_2 a0 2 (fun (r_9 : Int32) (u_10 : Hp) => K r_9 u_10)) ∧ (¬ r_8 = 0 → ∃ b_11 : Nat, FR u_2 110 a0 = some b_11 ∧ (kd u_2 b_11 = 106 ∨ kd u_2 b_11 = 107) ∧ vp_in x1 (ln u_2 b_11) ∧ ∃ b_14 : Nat, AR u_2 b_11 (tn x1) = some b_14 ∧ pX1_doesWork u_2 a0 b_14 (fun (r_17 : Int32) (u_18 : Hp) => ((r_17 = 0 → K 0 u_18) ∧ (¬ r_17 = 0 → K 1 u_18)))))))))
/-! X19_laysAllWords -/
def bX19_laysAllWords_2 (K : Hp → Prop) (a0 : Nat) (x1 : Int32) (J2 : Int32 → Hp → Prop) (x2 : Int32) (u : Hp) : Prop :=
  (kd u a0 = 16) ∧ ((FI u 1917 a0 ≤ x2 → K u) ∧ (¬ FI u 1917 a0 ≤ x2 → ∃ b_2 : Nat, FR u 1925 a0 = some b_2 ∧ pX19_laysWords u a0 x1 x2 (fun (r_4 : Int32) (u_5 : Hp) => (kd u_5 b_2 = 101) ∧ vp_in x2 (ln u_5 b_2) ∧ J2 (x2 + 1) (sAI u_5 b_2 (upd (AI u_5 b_2) (tn x2) r_4)))))
def pX19_laysAllWords (u : Hp) (a0 : Nat) (x1 : Int32) (K : Hp → Prop) : Prop :=
  jl2 (bX19_laysAllWords_2 K a0 x1) 0 u
/-! X19_wordsWork -/
def pX19_wordsWork (u : Hp) (a0 : Nat) (x1 : Int32) (K : Int32 → Hp → Prop) : Prop :=
  (kd u a0 = 16) ∧ ((FR u 1903 a0 = none → pX19_refused (sFI u 1900 a0 0) a0 1 (fun (r_4 : Int32) (u_5 : Hp) => K r_4 u_5)) ∧ (∀ b_2 : Nat, FR u 1903 a0 = some b_2 → pX19_in x1 0 19 (fun (r_6 : Int32) => ((r_6 = 0 → pX19_refused (sFI u 1900 a0 0) a0 2 (fun (r_15 : Int32) (u_16 : Hp) => K r_15 u_16)) ∧ (¬ r_6 = 0 → pX19_laysAllWords (sFI u 1900 a0 0) a0 x1 (fun (u_7 : Hp) => (kd u_7 a0 = 16) ∧ pX19_isWorking u_7 a0 (fun (r_9 : Int32) => ((r_9 = 0 → pX19_good u_7 a0 0 (fun (r_10 : Int32) (u_11 : Hp) => K r_10 u_11)) ∧ (¬ r_9 = 0 → pX19_good u_7 a0 1 (fun (r_12 : Int32) (u_13 : Hp) => K r_12 u_13))))))))))
/-! X1_shortest -/
def bX1_shortest_19 (K : Int32 → Hp → Prop) (a0 : Nat) (J19 : Int32 → Hp → Prop) (x1 : Int32) (u : Hp) : Prop :=
  ((20 ≤ x1 → K (-2) u) ∧ (¬ 20 ≤ x1 → (kd u a0 = 1) ∧ ∃ b_2 : Nat, FR u 110 a0 = some b_2 ∧ (kd u b_2 = 106 ∨ kd u b_2 = 107) ∧ vp_in x1 (ln u b_2) ∧ ∃ b_5 : Nat, AR u b_2 (tn x1) = some b_5 ∧ pX1_doesWork u a0 b_5 (fun (r_8 : Int32) (u_9 : Hp) => ((r_8 = 0 → J19 (x1 + 1) u_9) ∧ (¬ r_8 = 0 → K x1 u_9)))))
def pX1_shortest (u : Hp) (a0 : Nat) (K : Int32 → Hp → Prop) : Prop :=
  (kd u a0 = 1) ∧ pX1_anew u a0 (fun (u_13 : Hp) => (kd u_13 a0 = 1) ∧ ((FR u_13 103 a0 = none → pX1_no u_13 a0 1 (fun (r_17 : Int32) (u_18 : Hp) => K r_17 u_18)) ∧ (∀ b_15 : Nat, FR u_13 103 a0 = some b_15 → jl2 (bX1_shortest_19 K a0) 0 u_13)))
/-! X19_shortest -/
def bX19_shortest_20 (K : Int32 → Hp → Prop) (a0 : Nat) (J20 : Int32 → Hp → Prop) (x1 : Int32) (u : Hp) : Prop :=
  ((20 ≤ x1 → (kd u a0 = 16) ∧ pX19_good u a0 (-2) (fun (r_2 : Int32) (u_3 : Hp) => K r_2 u_3)) ∧ (¬ 20 ≤ x1 → (kd u a0 = 16) ∧ pX19_laysAllWords u a0 x1 (fun (u_5 : Hp) => (kd u_5 a0 = 16) ∧ pX19_isWorking u_5 a0 (fun (r_7 : Int32) => ((r_7 = 0 → J20 (x1 + 1) u_5) ∧ (¬ r_7 = 0 → pX19_good u_5 a0 x1 (fun (r_8 : Int32) (u_9 : Hp) => K r_8 u_9)))))))
def pX19_shortest (u : Hp) (a0 : Nat) (K : Int32 → Hp → Prop) : Prop :=
  (kd u a0 = 16) ∧ ((FR u 1903 a0 = none → pX19_refused (sFI u 1900 a0 0) a0 1 (fun (r_15 : Int32) (u_16 : Hp) => K r_15 u_16)) ∧ (∀ b_13 : Nat, FR u 1903 a0 = some b_13 → jl2 (bX19_shortest_20 K a0) 0 (sFI u 1900 a0 0)))
/-! X1_pairs -/
def pX1_pairs (u : Hp) (a0 : Nat) (K : Int32 → Hp → Prop) : Prop :=
  (kd u a0 = 1) ∧ pX1_anew u a0 (fun (u_2 : Hp) => (kd u_2 a0 = 1) ∧ ((FR u_2 103 a0 = none → pX1_no u_2 a0 1 (fun (r_6 : Int32) (u_7 : Hp) => K r_6 u_7)) ∧ (∀ b_4 : Nat, FR u_2 103 a0 = some b_4 → ∃ b_8 : Nat, FR u_2 109 a0 = some b_8 ∧ (kd u_2 b_8 = 4) ∧ pX4_pair u_2 b_8 (fun (u_11 : Hp) => (kd u_11 a0 = 1) ∧ ∃ b_13 : Nat, FR u_11 109 a0 = some b_13 ∧ (kd u_11 b_13 = 4) ∧ K (FI u_11 412 b_13) u_11))))
/-! X19_pairs -/
def pX19_pairs (u : Hp) (a0 : Nat) (K : Int32 → Hp → Prop) : Prop :=
  (kd u a0 = 16) ∧ ((FR u 1903 a0 = none → pX19_refused (sFI u 1900 a0 0) a0 1 (fun (r_4 : Int32) (u_5 : Hp) => K r_4 u_5)) ∧ (∀ b_2 : Nat, FR u 1903 a0 = some b_2 → pX19_pairsNow (sFI u 1900 a0 0) a0 (fun (r_6 : Int32) (u_7 : Hp) => (kd u_7 a0 = 16) ∧ pX19_good u_7 a0 r_6 (fun (r_9 : Int32) (u_10 : Hp) => K r_9 u_10))))
/-! X1_table -/
def pX1_table (u : Hp) (a0 : Nat) (x1 : Int32) (K : Int32 → Hp → Prop) : Prop :=
  (kd u a0 = 1) ∧ pX1_anew u a0 (fun (u_2 : Hp) => (kd u_2 a0 = 1) ∧ pX1_isHand u_2 a0 x1 (fun (r_4 : Int32) => ((r_4 = 0 → pX1_no u_2 a0 1 (fun (r_19 : Int32) (u_20 : Hp) => K r_19 u_20)) ∧ (¬ r_4 = 0 → ((FI u_2 108 a0 ≤ 300 → ∃ b_5 : Nat, FR u_2 109 a0 = some b_5 ∧ (kd u_2 b_5 = 4) ∧ pX4_least u_2 b_5 (fun (r_8 : Int32) (u_9 : Hp) => ((r_8 = 0 → K (-2) u_9) ∧ (¬ r_8 = 0 → (kd u_9 a0 = 1) ∧ ∃ b_11 : Nat, FR u_9 109 a0 = some b_11 ∧ (kd u_9 b_11 = 4) ∧ pX4_rowOf u_9 b_11 x1 (fun (r_14 : Int32) => K r_14 u_9))))) ∧ (¬ FI u_2 108 a0 ≤ 300 → pX1_no u_2 a0 3 (fun (r_16 : Int32) (u_17 : Hp) => K r_16 u_17)))))))
/-! X19_table -/
def pX19_table (u : Hp) (a0 : Nat) (x1 : Int32) (K : Int32 → Hp → Prop) : Prop :=
  (kd u a0 = 16) ∧ pX19_isHand (sFI u 1900 a0 0) a0 x1 (fun (r_2 : Int32) => ((r_2 = 0 → pX19_refused (sFI u 1900 a0 0) a0 1 (fun (r_16 : Int32) (u_17 : Hp) => K r_16 u_17)) ∧ (¬ r_2 = 0 → ((FI (sFI u 1900 a0 0) 1917 a0 ≤ 300 → pX19_knowsTable (sFI u 1900 a0 0) a0 (fun (u_3 : Hp) => (kd u_3 a0 = 16) ∧ ((FI u_3 1936 a0 = 0 → pX19_good u_3 a0 (-2) (fun (r_5 : Int32) (u_6 : Hp) => K r_5 u_6)) ∧ (¬ FI u_3 1936 a0 = 0 → ∃ b_7 : Nat, FR u_3 1933 a0 = some b_7 ∧ (kd u_3 b_7 = 101) ∧ vp_in x1 (ln u_3 b_7) ∧ pX19_good u_3 a0 (AI u_3 b_7 (tn x1)) (fun (r_10 : Int32) (u_11 : Hp) => K r_10 u_11))))) ∧ (¬ FI (sFI u 1900 a0 0) 1917 a0 ≤ 300 → pX19_refused (sFI u 1900 a0 0) a0 3 (fun (r_13 : Int32) (u_14 : Hp) => K r_13 u_14))))))
/-! X20_rowsOf -/
def pX20_rowsOf (u : Hp) (a0 : Nat) (x1 : Int32) (K : Int64 → Prop) : Prop :=
  (kd u a0 = 17) ∧ pX20_rows u a0 (fun (r_2 : Int32) => pX1_falling x1 r_2 (fun (r_3 : Int64) => ((FI u 2010 a0 = 0 → (¬ (1 : Int32).toInt64 = 0) ∧ pX20_tiltings u a0 (fun (r_4 : Int32) => K ((r_3 / ((1 : Int32).toInt64)) * (r_4.toInt64)))) ∧ (¬ FI u 2010 a0 = 0 → pX20_rows u a0 (fun (r_5 : Int32) => pX1_factorial r_5 (fun (r_6 : Int32) => (¬ r_6.toInt64 = 0) ∧ pX20_tiltings u a0 (fun (r_7 : Int32) => K ((r_3 / (r_6.toInt64)) * (r_7.toInt64)))))))))
/-! X1_count -/
def pX1_count (u : Hp) (a0 : Nat) (x1 : Int32) (x2 : Int32) (K : Int64 → Hp → Prop) : Prop :=
  (kd u a0 = 1) ∧ pX1_anew u a0 (fun (u_2 : Hp) => (kd u_2 a0 = 1) ∧ ((FR u_2 103 a0 = none → pX1_no u_2 a0 1 (fun (r_6 : Int32) (u_7 : Hp) => K (r_6.toInt64) u_7)) ∧ (∀ b_4 : Nat, FR u_2 103 a0 = some b_4 → ∃ b_8 : Nat, FR u_2 103 a0 = some b_8 ∧ (kd u_2 b_8 = 17) ∧ pX1_in x1 (FI u_2 2005 b_8) 200 (fun (r_11 : Int32) => ((r_11 = 0 → pX1_no u_2 a0 2 (fun (r_15 : Int32) (u_16 : Hp) => K (r_15.toInt64) u_16)) ∧ (¬ r_11 = 0 → ((x2 = 0 → pX20_hands u_2 b_8 x1 (fun (r_12 : Int64) => K r_12 u_2)) ∧ (¬ x2 = 0 → pX20_rowsOf u_2 b_8 x1 (fun (r_13 : Int64) => K r_13 u_2)))))))))
/-! X19_countOf -/
def pX19_countOf (u : Hp) (a0 : Nat) (x1 : Int32) (x2 : Int32) (K : Int64 → Prop) : Prop :=
  ((x2 = 0 → (kd u a0 = 16) ∧ ∃ b_11 : Nat, FR u 1903 a0 = some b_11 ∧ (kd u b_11 = 20) ∧ pX23_handsOf u b_11 x1 (fun (r_14 : Int64) => K r_14)) ∧ (¬ x2 = 0 → (kd u a0 = 16) ∧ ∃ b_2 : Nat, FR u 1903 a0 = some b_2 ∧ (kd u b_2 = 20) ∧ ((FI u 2308 b_2 = 0 → pX19_rowsOf x1 (FI u 2304 b_2) (fun (r_5 : Int64) => pX23_tilts u b_2 (fun (r_6 : Int32) => K (r_5 * (r_6.toInt64))))) ∧ (¬ FI u 2308 b_2 = 0 → pX19_setsOf x1 (FI u 2304 b_2) (fun (r_7 : Int64) => pX23_tilts u b_2 (fun (r_8 : Int32) => K (r_7 * (r_8.toInt64))))))))
/-! X19_count -/
def pX19_count (u : Hp) (a0 : Nat) (x1 : Int32) (x2 : Int32) (K : Int64 → Hp → Prop) : Prop :=
  (kd u a0 = 16) ∧ ((FR u 1903 a0 = none → pX19_refused (sFI u 1900 a0 0) a0 1 (fun (r_4 : Int32) (u_5 : Hp) => K (r_4.toInt64) u_5)) ∧ (∀ b_2 : Nat, FR u 1903 a0 = some b_2 → ∃ b_6 : Nat, FR u 1903 a0 = some b_6 ∧ (kd u b_6 = 20) ∧ pX19_in x1 (FI (sFI u 1900 a0 0) 2302 b_6) 200 (fun (r_9 : Int32) => ((r_9 = 0 → pX19_refused (sFI u 1900 a0 0) a0 2 (fun (r_14 : Int32) (u_15 : Hp) => K (r_14.toInt64) u_15)) ∧ (¬ r_9 = 0 → pX19_good (sFI u 1900 a0 0) a0 0 (fun (r_10 : Int32) (u_11 : Hp) => (kd u_11 a0 = 16) ∧ pX19_countOf u_11 a0 x1 x2 (fun (r_13 : Int64) => K r_13 u_11)))))))
/-! X1_most -/
def bX1_most_21 (K : Int32 → Hp → Prop) (a0 : Nat) (u : Hp) (J21 : Int32 → Prop) (x1 : Int32) : Prop :=
  (kd u a0 = 1) ∧ ∃ b_2 : Nat, FR u 103 a0 = some b_2 ∧ (kd u b_2 = 17) ∧ ((x1 < (FI u 2005 b_2) → ((FI u 2005 b_2 ≤ x1 → K x1 u) ∧ (¬ FI u 2005 b_2 ≤ x1 → K (-2) u))) ∧ (¬ x1 < (FI u 2005 b_2) → pX20_hands u b_2 x1 (fun (r_6 : Int64) => pX20_rowsOf u b_2 x1 (fun (r_7 : Int64) => ((lg_cmp r_6 r_7 ≤ 0 → ((FI u 2005 b_2 ≤ x1 → K x1 u) ∧ (¬ FI u 2005 b_2 ≤ x1 → K (-2) u))) ∧ (¬ lg_cmp r_6 r_7 ≤ 0 → J21 (x1 + (-1))))))))
def pX1_most (u : Hp) (a0 : Nat) (K : Int32 → Hp → Prop) : Prop :=
  (kd u a0 = 1) ∧ pX1_anew u a0 (fun (u_12 : Hp) => (kd u_12 a0 = 1) ∧ ((FR u_12 103 a0 = none → pX1_no u_12 a0 1 (fun (r_16 : Int32) (u_17 : Hp) => K r_16 u_17)) ∧ (∀ b_14 : Nat, FR u_12 103 a0 = some b_14 → jl1 (bX1_most_21 K a0 u_12) 200)))
/-! X19_most -/
def bX19_most_22 (K : Int32 → Hp → Prop) (a0 : Nat) (u : Hp) (J22 : Int32 → Prop) (x1 : Int32) : Prop :=
  (kd u a0 = 16) ∧ ∃ b_2 : Nat, FR u 1903 a0 = some b_2 ∧ (kd u b_2 = 20) ∧ ((x1 < (FI u 2302 b_2) → pX19_good u a0 (-2) (fun (r_5 : Int32) (u_6 : Hp) => K r_5 u_6)) ∧ (¬ x1 < (FI u 2302 b_2) → pX19_countOf u a0 x1 0 (fun (r_7 : Int64) => pX19_countOf u a0 x1 1 (fun (r_8 : Int64) => ((0 < (lg_cmp r_7 r_8) → J22 (x1 + (-1))) ∧ (¬ 0 < (lg_cmp r_7 r_8) → pX19_good u a0 x1 (fun (r_9 : Int32) (u_10 : Hp) => K r_9 u_10)))))))
def pX19_most (u : Hp) (a0 : Nat) (K : Int32 → Hp → Prop) : Prop :=
  (kd u a0 = 16) ∧ ((FR u 1903 a0 = none → pX19_refused (sFI u 1900 a0 0) a0 1 (fun (r_16 : Int32) (u_17 : Hp) => K r_16 u_17)) ∧ (∀ b_14 : Nat, FR u 1903 a0 = some b_14 → jl1 (bX19_most_22 K a0 (sFI u 1900 a0 0)) 200))
/-! X1_isEvening -/
def pX1_isEvening (u : Hp) (a0 : Nat) (x1 : Int32) (K : Int32 → Prop) : Prop :=
  (kd u a0 = 1) ∧ ((FR u 103 a0 = none → K 0) ∧ (∀ b_2 : Nat, FR u 103 a0 = some b_2 → ∃ b_4 : Nat, FR u 111 a0 = some b_4 ∧ (kd u b_4 = 5) ∧ pX1_in x1 0 ((FI u 502 b_4) - 1) (fun (r_7 : Int32) => ((r_7 = 0 → K 0) ∧ (¬ r_7 = 0 → K 1)))))
/-! X1_judge -/
def pX1_judge (u : Hp) (a0 : Nat) (x1 : Int32) (K : Int32 → Hp → Prop) : Prop :=
  (kd u a0 = 1) ∧ pX1_anew u a0 (fun (u_2 : Hp) => (kd u_2 a0 = 1) ∧ pX1_isEvening u_2 a0 x1 (fun (r_4 : Int32) => ((r_4 = 0 → pX1_no u_2 a0 1 (fun (r_5 : Int32) (u_6 : Hp) => K r_5 u_6)) ∧ (¬ r_4 = 0 → ∃ b_7 : Nat, FR u_2 109 a0 = some b_7 ∧ ∃ b_9 : Nat, FR u_2 111 a0 = some b_9 ∧ (kd u_2 b_9 = 5) ∧ ∃ b_12 : Nat, FR u_2 500 b_9 = some b_12 ∧ (kd u_2 b_12 = 101) ∧ vp_in x1 (ln u_2 b_12) ∧ ∃ b_15 : Nat, FR u_2 501 b_9 = some b_15 ∧ (kd u_2 b_15 = 101) ∧ vp_in x1 (ln u_2 b_15) ∧ (kd u_2 b_7 = 4) ∧ pX4_fits u_2 b_7 (AI u_2 b_12 (tn x1)) (AI u_2 b_15 (tn x1)) (fun (r_19 : Int32) => ((r_19 = 0 → K 0 u_2) ∧ (¬ r_19 = 0 → K 1 u_2)))))))
/-! X19_isEvening -/
def pX19_isEvening (u : Hp) (a0 : Nat) (x1 : Int32) (K : Int32 → Prop) : Prop :=
  (kd u a0 = 16) ∧ ((FR u 1903 a0 = none → K 0) ∧ (∀ b_2 : Nat, FR u 1903 a0 = some b_2 → ((x1 < 0 → K 0) ∧ (¬ x1 < 0 → ((FI u 1943 a0 ≤ x1 → K 0) ∧ (¬ FI u 1943 a0 ≤ x1 → K 1))))))
/-! X19_judge -/
def pX19_judge (u : Hp) (a0 : Nat) (x1 : Int32) (K : Int32 → Hp → Prop) : Prop :=
  (kd u a0 = 16) ∧ pX19_isEvening (sFI u 1900 a0 0) a0 x1 (fun (r_2 : Int32) => ((r_2 = 0 → pX19_refused (sFI u 1900 a0 0) a0 1 (fun (r_3 : Int32) (u_4 : Hp) => K r_3 u_4)) ∧ (¬ r_2 = 0 → ∃ b_5 : Nat, FR u 1937 a0 = some b_5 ∧ (kd u b_5 = 101) ∧ vp_in x1 (ln u b_5) ∧ ∃ b_8 : Nat, FR u 1938 a0 = some b_8 ∧ (kd u b_8 = 101) ∧ vp_in x1 (ln u b_8) ∧ pX19_rowFits (sFI u 1900 a0 0) a0 (AI u b_5 (tn x1)) (AI u b_8 (tn x1)) (fun (r_11 : Int32) (u_12 : Hp) => ((r_11 = 0 → (kd u_12 a0 = 16) ∧ pX19_good u_12 a0 0 (fun (r_14 : Int32) (u_15 : Hp) => K r_14 u_15)) ∧ (¬ r_11 = 0 → (kd u_12 a0 = 16) ∧ pX19_good u_12 a0 1 (fun (r_17 : Int32) (u_18 : Hp) => K r_17 u_18)))))))
/-! X1_evening -/
def pX1_evening (u : Hp) (a0 : Nat) (x1 : Int32) (x2 : Int32) (K : Int32 → Hp → Prop) : Prop :=
  (kd u a0 = 1) ∧ pX1_anew u a0 (fun (u_2 : Hp) => (kd u_2 a0 = 1) ∧ pX1_isEvening u_2 a0 x1 (fun (r_4 : Int32) => ((r_4 = 0 → pX1_no u_2 a0 1 (fun (r_5 : Int32) (u_6 : Hp) => K r_5 u_6)) ∧ (¬ r_4 = 0 → ((x2 = 0 → ∃ b_7 : Nat, FR u_2 111 a0 = some b_7 ∧ (kd u_2 b_7 = 5) ∧ ∃ b_10 : Nat, FR u_2 500 b_7 = some b_10 ∧ (kd u_2 b_10 = 101) ∧ vp_in x1 (ln u_2 b_10) ∧ K (AI u_2 b_10 (tn x1)) u_2) ∧ (¬ x2 = 0 → ∃ b_13 : Nat, FR u_2 111 a0 = some b_13 ∧ (kd u_2 b_13 = 5) ∧ ∃ b_16 : Nat, FR u_2 501 b_13 = some b_16 ∧ (kd u_2 b_16 = 101) ∧ vp_in x1 (ln u_2 b_16) ∧ K (AI u_2 b_16 (tn x1)) u_2))))))
/-! X19_evening -/
def pX19_evening (u : Hp) (a0 : Nat) (x1 : Int32) (x2 : Int32) (K : Int32 → Hp → Prop) : Prop :=
  (kd u a0 = 16) ∧ pX19_isEvening (sFI u 1900 a0 0) a0 x1 (fun (r_2 : Int32) => ((r_2 = 0 → pX19_refused (sFI u 1900 a0 0) a0 1 (fun (r_3 : Int32) (u_4 : Hp) => K r_3 u_4)) ∧ (¬ r_2 = 0 → ((x2 = 0 → ∃ b_5 : Nat, FR u 1937 a0 = some b_5 ∧ (kd u b_5 = 101) ∧ vp_in x1 (ln u b_5) ∧ pX19_good (sFI u 1900 a0 0) a0 (AI u b_5 (tn x1)) (fun (r_8 : Int32) (u_9 : Hp) => K r_8 u_9)) ∧ (¬ x2 = 0 → ∃ b_10 : Nat, FR u 1938 a0 = some b_10 ∧ (kd u b_10 = 101) ∧ vp_in x1 (ln u b_10) ∧ pX19_good (sFI u 1900 a0 0) a0 (AI u b_10 (tn x1)) (fun (r_13 : Int32) (u_14 : Hp) => K r_13 u_14))))))
/-! X1_doesAgree -/
def pX1_doesAgree (u : Hp) (a0 : Nat) (x1 : Int32) (x2 : Int32) (K : Int32 → Hp → Prop) : Prop :=
  (kd u a0 = 1) ∧ ∃ b_2 : Nat, FR u 111 a0 = some b_2 ∧ (kd u b_2 = 5) ∧ ∃ b_5 : Nat, FR u 500 b_2 = some b_5 ∧ (kd u b_5 = 101) ∧ vp_in x1 (ln u b_5) ∧ pX1_rowOf u a0 x2 (AI u b_5 (tn x1)) (fun (r_8 : Int32) (u_9 : Hp) => (kd u_9 a0 = 1) ∧ ∃ b_11 : Nat, FR u_9 111 a0 = some b_11 ∧ (kd u_9 b_11 = 5) ∧ ∃ b_14 : Nat, FR u_9 501 b_11 = some b_14 ∧ (kd u_9 b_14 = 101) ∧ vp_in x1 (ln u_9 b_14) ∧ ((r_8 = (AI u_9 b_14 (tn x1)) → K 1 u_9) ∧ (¬ r_8 = (AI u_9 b_14 (tn x1)) → K 0 u_9)))
/-! X1_agrees -/
def bX1_agrees_22 (K : Int32 → Hp → Prop) (a0 : Nat) (x1 : Int32) (J22 : Int32 → Int32 → Hp → Prop) (x2 : Int32) (x3 : Int32) (u : Hp) : Prop :=
  (kd u a0 = 1) ∧ ∃ b_2 : Nat, FR u 111 a0 = some b_2 ∧ (kd u b_2 = 5) ∧ ((FI u 502 b_2 ≤ x3 → K x2 u) ∧ (¬ FI u 502 b_2 ≤ x3 → pX1_doesAgree u a0 x3 x1 (fun (r_5 : Int32) (u_6 : Hp) => ((r_5 = 0 → J22 (x2 + 0) (x3 + 1) u_6) ∧ (¬ r_5 = 0 → J22 (x2 + 1) (x3 + 1) u_6)))))
def pX1_agrees (u : Hp) (a0 : Nat) (x1 : Int32) (K : Int32 → Hp → Prop) : Prop :=
  (kd u a0 = 1) ∧ pX1_anew u a0 (fun (u_10 : Hp) => (kd u_10 a0 = 1) ∧ pX1_isRule u_10 a0 x1 (fun (r_12 : Int32) => ((r_12 = 0 → pX1_no u_10 a0 1 (fun (r_13 : Int32) (u_14 : Hp) => K r_13 u_14)) ∧ (¬ r_12 = 0 → jl3 (bX1_agrees_22 K a0 x1) 0 0 u_10))))
/-! X19_agreesWith -/
def pX19_agreesWith (u : Hp) (a0 : Nat) (x1 : Int32) (x2 : Int32) (K : Int32 → Hp → Prop) : Prop :=
  (kd u a0 = 16) ∧ ∃ b_2 : Nat, FR u 1937 a0 = some b_2 ∧ (kd u b_2 = 101) ∧ vp_in x2 (ln u b_2) ∧ pX19_laysNow u a0 x1 (AI u b_2 (tn x2)) (fun (r_5 : Int32) (u_6 : Hp) => (kd u_6 a0 = 16) ∧ ∃ b_8 : Nat, FR u_6 1938 a0 = some b_8 ∧ (kd u_6 b_8 = 101) ∧ vp_in x2 (ln u_6 b_8) ∧ ((r_5 = (AI u_6 b_8 (tn x2)) → K 1 u_6) ∧ (¬ r_5 = (AI u_6 b_8 (tn x2)) → K 0 u_6)))
/-! X19_agrees -/
def bX19_agrees_23 (K : Int32 → Hp → Prop) (a0 : Nat) (x1 : Int32) (J23 : Int32 → Int32 → Hp → Prop) (x2 : Int32) (x3 : Int32) (u : Hp) : Prop :=
  (kd u a0 = 16) ∧ ((FI u 1943 a0 ≤ x3 → pX19_good u a0 x2 (fun (r_2 : Int32) (u_3 : Hp) => K r_2 u_3)) ∧ (¬ FI u 1943 a0 ≤ x3 → pX19_agreesWith u a0 x1 x3 (fun (r_4 : Int32) (u_5 : Hp) => ((r_4 = 0 → J23 (x2 + 0) (x3 + 1) u_5) ∧ (¬ r_4 = 0 → J23 (x2 + 1) (x3 + 1) u_5)))))
def pX19_agrees (u : Hp) (a0 : Nat) (x1 : Int32) (K : Int32 → Hp → Prop) : Prop :=
  (kd u a0 = 16) ∧ pX19_isRule (sFI u 1900 a0 0) a0 x1 (fun (r_9 : Int32) => ((r_9 = 0 → pX19_refused (sFI u 1900 a0 0) a0 1 (fun (r_10 : Int32) (u_11 : Hp) => K r_10 u_11)) ∧ (¬ r_9 = 0 → jl3 (bX19_agrees_23 K a0 x1) 0 0 (sFI u 1900 a0 0))))
/-! X1_firstWrong -/
def bX1_firstWrong_2 (K : Int32 → Hp → Prop) (a0 : Nat) (x1 : Int32) (J2 : Int32 → Hp → Prop) (x2 : Int32) (u : Hp) : Prop :=
  (kd u a0 = 1) ∧ ∃ b_2 : Nat, FR u 111 a0 = some b_2 ∧ (kd u b_2 = 5) ∧ ((FI u 502 b_2 ≤ x2 → K (-2) u) ∧ (¬ FI u 502 b_2 ≤ x2 → pX1_doesAgree u a0 x2 x1 (fun (r_5 : Int32) (u_6 : Hp) => ((r_5 = 0 → K x2 u_6) ∧ (¬ r_5 = 0 → J2 (x2 + 1) u_6)))))
def pX1_firstWrong (u : Hp) (a0 : Nat) (x1 : Int32) (K : Int32 → Hp → Prop) : Prop :=
  jl2 (bX1_firstWrong_2 K a0 x1) 0 u
/-! X1_wrong -/
def pX1_wrong (u : Hp) (a0 : Nat) (x1 : Int32) (K : Int32 → Hp → Prop) : Prop :=
  (kd u a0 = 1) ∧ pX1_anew u a0 (fun (u_2 : Hp) => (kd u_2 a0 = 1) ∧ pX1_isRule u_2 a0 x1 (fun (r_4 : Int32) => ((r_4 = 0 → pX1_no u_2 a0 1 (fun (r_5 : Int32) (u_6 : Hp) => K r_5 u_6)) ∧ (¬ r_4 = 0 → pX1_firstWrong u_2 a0 x1 (fun (r_7 : Int32) (u_8 : Hp) => K r_7 u_8)))))
/-! X19_firstWrong -/
def bX19_firstWrong_2 (K : Int32 → Hp → Prop) (a0 : Nat) (x1 : Int32) (J2 : Int32 → Hp → Prop) (x2 : Int32) (u : Hp) : Prop :=
  (kd u a0 = 16) ∧ ((FI u 1943 a0 ≤ x2 → K (-2) u) ∧ (¬ FI u 1943 a0 ≤ x2 → pX19_agreesWith u a0 x1 x2 (fun (r_2 : Int32) (u_3 : Hp) => ((r_2 = 0 → K x2 u_3) ∧ (¬ r_2 = 0 → J2 (x2 + 1) u_3)))))
def pX19_firstWrong (u : Hp) (a0 : Nat) (x1 : Int32) (K : Int32 → Hp → Prop) : Prop :=
  jl2 (bX19_firstWrong_2 K a0 x1) 0 u
/-! X19_wrong -/
def pX19_wrong (u : Hp) (a0 : Nat) (x1 : Int32) (K : Int32 → Hp → Prop) : Prop :=
  (kd u a0 = 16) ∧ pX19_isRule (sFI u 1900 a0 0) a0 x1 (fun (r_2 : Int32) => ((r_2 = 0 → pX19_refused (sFI u 1900 a0 0) a0 1 (fun (r_3 : Int32) (u_4 : Hp) => K r_3 u_4)) ∧ (¬ r_2 = 0 → pX19_firstWrong (sFI u 1900 a0 0) a0 x1 (fun (r_5 : Int32) (u_6 : Hp) => (kd u_6 a0 = 16) ∧ pX19_good u_6 a0 r_5 (fun (r_8 : Int32) (u_9 : Hp) => K r_8 u_9)))))
/-! X1_found -/
def bX1_found_21 (K : Int32 → Hp → Prop) (a0 : Nat) (J21 : Int32 → Int32 → Hp → Prop) (x1 : Int32) (x2 : Int32) (u : Hp) : Prop :=
  (kd u a0 = 1) ∧ ∃ b_2 : Nat, FR u 103 a0 = some b_2 ∧ (kd u b_2 = 17) ∧ ((FI u 2007 b_2 ≤ x2 → K x1 u) ∧ (¬ FI u 2007 b_2 ≤ x2 → pX1_firstWrong u a0 x2 (fun (r_5 : Int32) (u_6 : Hp) => ((r_5 = (-2) → J21 (x1 ||| (jshl 1 x2)) (x2 + 1) u_6) ∧ (¬ r_5 = (-2) → J21 (x1 ||| 0) (x2 + 1) u_6)))))
def pX1_found (u : Hp) (a0 : Nat) (K : Int32 → Hp → Prop) : Prop :=
  (kd u a0 = 1) ∧ pX1_anew u a0 (fun (u_10 : Hp) => (kd u_10 a0 = 1) ∧ ((FR u_10 103 a0 = none → pX1_no u_10 a0 1 (fun (r_14 : Int32) (u_15 : Hp) => K r_14 u_15)) ∧ (∀ b_12 : Nat, FR u_10 103 a0 = some b_12 → jl3 (bX1_found_21 K a0) 0 0 u_10)))
/-! X19_found -/
def bX19_found_22 (K : Int32 → Hp → Prop) (a0 : Nat) (J22 : Int32 → Int32 → Hp → Prop) (x1 : Int32) (x2 : Int32) (u : Hp) : Prop :=
  (kd u a0 = 16) ∧ ∃ b_2 : Nat, FR u 1903 a0 = some b_2 ∧ (kd u b_2 = 20) ∧ ((FI u 2305 b_2 ≤ x2 → pX19_good u a0 x1 (fun (r_5 : Int32) (u_6 : Hp) => K r_5 u_6)) ∧ (¬ FI u 2305 b_2 ≤ x2 → pX19_firstWrong u a0 x2 (fun (r_7 : Int32) (u_8 : Hp) => ((r_7 = (-2) → J22 (x1 ||| (jshl 1 x2)) (x2 + 1) u_8) ∧ (¬ r_7 = (-2) → J22 (x1 ||| 0) (x2 + 1) u_8)))))
def pX19_found (u : Hp) (a0 : Nat) (K : Int32 → Hp → Prop) : Prop :=
  (kd u a0 = 16) ∧ ((FR u 1903 a0 = none → pX19_refused (sFI u 1900 a0 0) a0 1 (fun (r_14 : Int32) (u_15 : Hp) => K r_14 u_15)) ∧ (∀ b_12 : Nat, FR u 1903 a0 = some b_12 → jl3 (bX19_found_22 K a0) 0 0 (sFI u 1900 a0 0)))
/-! X1_arePair -/
def pX1_arePair (u : Hp) (a0 : Nat) (x1 : Int32) (x2 : Int32) (K : Int32 → Prop) : Prop :=
  (kd u a0 = 1) ∧ pX1_isRule u a0 x1 (fun (r_2 : Int32) => ((r_2 = 0 → K 0) ∧ (¬ r_2 = 0 → pX1_isRule u a0 x2 (fun (r_3 : Int32) => ((r_3 = 0 → K 0) ∧ (¬ r_3 = 0 → ((x1 = x2 → K 0) ∧ (¬ x1 = x2 → K 1))))))))
/-! X1_apartOf -/
def bX1_apartOf_5 (K : Int32 → Hp → Prop) (a0 : Nat) (x1 : Int32) (x2 : Int32) (J5 : Int32 → Int32 → Hp → Prop) (x3 : Int32) (x4 : Int32) (u : Hp) : Prop :=
  (kd u a0 = 1) ∧ ((FI u 108 a0 ≤ x4 → K x3 u) ∧ (¬ FI u 108 a0 ≤ x4 → pX1_rowOf u a0 x1 x4 (fun (r_2 : Int32) (u_3 : Hp) => (kd u_3 a0 = 1) ∧ pX1_rowOf u_3 a0 x2 x4 (fun (r_5 : Int32) (u_6 : Hp) => ((r_2 = r_5 → J5 (x3 + 0) (x4 + 1) u_6) ∧ (¬ r_2 = r_5 → J5 (x3 + 1) (x4 + 1) u_6))))))
def pX1_apartOf (u : Hp) (a0 : Nat) (x1 : Int32) (x2 : Int32) (K : Int32 → Hp → Prop) : Prop :=
  jl3 (bX1_apartOf_5 K a0 x1 x2) 0 0 u
/-! X1_apart -/
def pX1_apart (u : Hp) (a0 : Nat) (x1 : Int32) (x2 : Int32) (K : Int32 → Hp → Prop) : Prop :=
  (kd u a0 = 1) ∧ pX1_anew u a0 (fun (u_2 : Hp) => (kd u_2 a0 = 1) ∧ pX1_arePair u_2 a0 x1 x2 (fun (r_4 : Int32) => ((r_4 = 0 → pX1_no u_2 a0 1 (fun (r_5 : Int32) (u_6 : Hp) => K r_5 u_6)) ∧ (¬ r_4 = 0 → pX1_apartOf u_2 a0 x1 x2 (fun (r_7 : Int32) (u_8 : Hp) => K r_7 u_8)))))
/-! X19_areRules -/
def pX19_areRules (u : Hp) (a0 : Nat) (x1 : Int32) (x2 : Int32) (K : Int32 → Prop) : Prop :=
  (kd u a0 = 16) ∧ pX19_isRule u a0 x1 (fun (r_2 : Int32) => ((r_2 = 0 → K 0) ∧ (¬ r_2 = 0 → pX19_isRule u a0 x2 (fun (r_3 : Int32) => ((r_3 = 0 → K 0) ∧ (¬ r_3 = 0 → ((x1 = x2 → K 0) ∧ (¬ x1 = x2 → K 1))))))))
/-! X19_apartNow -/
def bX19_apartNow_5 (K : Int32 → Hp → Prop) (a0 : Nat) (x1 : Int32) (x2 : Int32) (J5 : Int32 → Int32 → Hp → Prop) (x3 : Int32) (x4 : Int32) (u : Hp) : Prop :=
  (kd u a0 = 16) ∧ ((FI u 1917 a0 ≤ x4 → K x3 u) ∧ (¬ FI u 1917 a0 ≤ x4 → pX19_laysNow u a0 x1 x4 (fun (r_2 : Int32) (u_3 : Hp) => (kd u_3 a0 = 16) ∧ pX19_laysNow u_3 a0 x2 x4 (fun (r_5 : Int32) (u_6 : Hp) => ((r_2 = r_5 → J5 (x3 + 0) (x4 + 1) u_6) ∧ (¬ r_2 = r_5 → J5 (x3 + 1) (x4 + 1) u_6))))))
def pX19_apartNow (u : Hp) (a0 : Nat) (x1 : Int32) (x2 : Int32) (K : Int32 → Hp → Prop) : Prop :=
  jl3 (bX19_apartNow_5 K a0 x1 x2) 0 0 u
/-! X19_apart -/
def pX19_apart (u : Hp) (a0 : Nat) (x1 : Int32) (x2 : Int32) (K : Int32 → Hp → Prop) : Prop :=
  (kd u a0 = 16) ∧ pX19_areRules (sFI u 1900 a0 0) a0 x1 x2 (fun (r_2 : Int32) => ((r_2 = 0 → pX19_refused (sFI u 1900 a0 0) a0 1 (fun (r_3 : Int32) (u_4 : Hp) => K r_3 u_4)) ∧ (¬ r_2 = 0 → pX19_apartNow (sFI u 1900 a0 0) a0 x1 x2 (fun (r_5 : Int32) (u_6 : Hp) => (kd u_6 a0 = 16) ∧ pX19_good u_6 a0 r_5 (fun (r_8 : Int32) (u_9 : Hp) => K r_8 u_9)))))
/-! X1_common -/
def bX1_common_4 (K : Int32 → Prop) (J4 : Int32 → Int32 → Prop) (x2 : Int32) (x3 : Int32) : Prop :=
  ((x3 = 0 → K x2) ∧ (¬ x3 = 0 → (¬ x3 = 0) ∧ J4 x3 (jrem x2 x3)))
def pX1_common (x0 : Int32) (x1 : Int32) (K : Int32 → Prop) : Prop :=
  jl2 (bX1_common_4 K) x0 x1
/-! X1_mean -/
def pX1_mean (u : Hp) (a0 : Nat) (x1 : Int32) (x2 : Int32) (x3 : Int32) (K : Int32 → Hp → Prop) : Prop :=
  (kd u a0 = 1) ∧ pX1_anew u a0 (fun (u_2 : Hp) => (kd u_2 a0 = 1) ∧ pX1_arePair u_2 a0 x1 x2 (fun (r_4 : Int32) => ((r_4 = 0 → pX1_no u_2 a0 1 (fun (r_14 : Int32) (u_15 : Hp) => K r_14 u_15)) ∧ (¬ r_4 = 0 → pX1_apartOf u_2 a0 x1 x2 (fun (r_5 : Int32) (u_6 : Hp) => ((r_5 = 0 → (kd u_6 a0 = 1) ∧ pX1_no u_6 a0 6 (fun (r_11 : Int32) (u_12 : Hp) => K r_11 u_12)) ∧ (¬ r_5 = 0 → (kd u_6 a0 = 1) ∧ pX1_common (FI u_6 108 a0) r_5 (fun (r_8 : Int32) => ((x3 = 0 → (¬ r_8 = 0) ∧ K ((FI u_6 108 a0) / r_8) u_6) ∧ (¬ x3 = 0 → (¬ r_8 = 0) ∧ K (r_5 / r_8) u_6))))))))))
/-! X19_divisor -/
def bX19_divisor_4 (K : Int32 → Prop) (J4 : Int32 → Int32 → Prop) (x2 : Int32) (x3 : Int32) : Prop :=
  ((x3 = 0 → K x2) ∧ (¬ x3 = 0 → (¬ x3 = 0) ∧ J4 x3 (jrem x2 x3)))
def pX19_divisor (x0 : Int32) (x1 : Int32) (K : Int32 → Prop) : Prop :=
  jl2 (bX19_divisor_4 K) x0 x1
/-! X19_mean -/
def bX19_mean_54 (K : Int32 → Hp → Prop) (a0 : Nat) (x4 : Int32) (z0 : Int32) (z1 : Nat) (u : Hp) : Prop :=
  (kd u a0 = 16) ∧ pX19_divisor (FI u 1917 a0) x4 (fun (r_2 : Int32) => (¬ r_2 = 0) ∧ (kd u z1 = 16) ∧ pX19_good u z1 (z0 / r_2) (fun (r_4 : Int32) (u_5 : Hp) => K r_4 u_5))
def pX19_mean (u : Hp) (a0 : Nat) (x1 : Int32) (x2 : Int32) (x3 : Int32) (K : Int32 → Hp → Prop) : Prop :=
  (kd u a0 = 16) ∧ pX19_areRules (sFI u 1900 a0 0) a0 x1 x2 (fun (r_7 : Int32) => ((r_7 = 0 → pX19_refused (sFI u 1900 a0 0) a0 1 (fun (r_16 : Int32) (u_17 : Hp) => K r_16 u_17)) ∧ (¬ r_7 = 0 → pX19_apartNow (sFI u 1900 a0 0) a0 x1 x2 (fun (r_8 : Int32) (u_9 : Hp) => ((r_8 = 0 → (kd u_9 a0 = 16) ∧ pX19_refused u_9 a0 6 (fun (r_13 : Int32) (u_14 : Hp) => K r_13 u_14)) ∧ (¬ r_8 = 0 → ((x3 = 0 → (kd u_9 a0 = 16) ∧ bX19_mean_54 K a0 r_8 (FI u_9 1917 a0) a0 u_9) ∧ (¬ x3 = 0 → bX19_mean_54 K a0 r_8 r_8 a0 u_9))))))))
/-! X1_nearest -/
def bX1_nearest_6 (K : Int32 → Hp → Prop) (a0 : Nat) (x1 : Int32) (J6 : Int32 → Int32 → Hp → Prop) (x2 : Int32) (x3 : Int32) (u : Hp) : Prop :=
  (kd u a0 = 1) ∧ ∃ b_2 : Nat, FR u 103 a0 = some b_2 ∧ (kd u b_2 = 17) ∧ ((FI u 2007 b_2 ≤ x3 → K x2 u) ∧ (¬ FI u 2007 b_2 ≤ x3 → ((x3 = x1 → J6 x2 (x3 + 1) u) ∧ (¬ x3 = x1 → pX1_apartOf u a0 x1 x3 (fun (r_5 : Int32) (u_6 : Hp) => J6 (jmin x2 r_5) (x3 + 1) u_6)))))
def pX1_nearest (u : Hp) (a0 : Nat) (x1 : Int32) (K : Int32 → Hp → Prop) : Prop :=
  jl3 (bX1_nearest_6 K a0 x1) 2001 0 u
/-! X1_hardest -/
def bX1_hardest_39 (K : Int32 → Hp → Prop) (a0 : Nat) (J39 : Int32 → Int32 → Hp → Prop) (x1 : Int32) (x2 : Int32) (u : Hp) : Prop :=
  (kd u a0 = 1) ∧ ∃ b_2 : Nat, FR u 103 a0 = some b_2 ∧ (kd u b_2 = 17) ∧ ((FI u 2007 b_2 ≤ x2 → K x1 u) ∧ (¬ FI u 2007 b_2 ≤ x2 → pX1_nearest u a0 x2 (fun (r_5 : Int32) (u_6 : Hp) => (kd u_6 a0 = 1) ∧ pX1_nearest u_6 a0 x1 (fun (r_8 : Int32) (u_9 : Hp) => ((r_8 ≤ r_5 → J39 x1 (x2 + 1) u_9) ∧ (¬ r_8 ≤ r_5 → J39 x2 (x2 + 1) u_9))))))
def pX1_hardest (u : Hp) (a0 : Nat) (K : Int32 → Hp → Prop) : Prop :=
  (kd u a0 = 1) ∧ pX1_anew u a0 (fun (u_13 : Hp) => (kd u_13 a0 = 1) ∧ ((FR u_13 103 a0 = none → pX1_no u_13 a0 1 (fun (r_17 : Int32) (u_18 : Hp) => K r_17 u_18)) ∧ (∀ b_15 : Nat, FR u_13 103 a0 = some b_15 → ∃ b_19 : Nat, FR u_13 103 a0 = some b_19 ∧ (kd u_13 b_19 = 17) ∧ ((2 ≤ (FI u_13 2007 b_19) → jl3 (bX1_hardest_39 K a0) 0 1 u_13) ∧ (¬ 2 ≤ (FI u_13 2007 b_19) → pX1_no u_13 a0 6 (fun (r_22 : Int32) (u_23 : Hp) => K r_22 u_23))))))
/-! X19_hardest -/
def bX19_hardest_56 (K : Int32 → Hp → Prop) (J42 : Int32 → Int32 → Int32 → Hp → Prop) (a0 : Nat) (x3 : Int32) (J56 : Int32 → Int32 → Int32 → Hp → Prop) (x1 : Int32) (x2 : Int32) (x4 : Int32) (u : Hp) : Prop :=
  (kd u a0 = 16) ∧ ∃ b_2 : Nat, FR u 1903 a0 = some b_2 ∧ (kd u b_2 = 20) ∧ ((FI u 2305 b_2 ≤ x4 → J42 x1 x2 (x3 + 1) u) ∧ (¬ FI u 2305 b_2 ≤ x4 → ((x3 = x4 → J56 x1 x2 (x4 + 1) u) ∧ (¬ x3 = x4 → pX19_apartNow u a0 x3 x4 (fun (r_5 : Int32) (u_6 : Hp) => ((x1 = (-1) → J56 x3 r_5 (x4 + 1) u_6) ∧ (¬ x1 = (-1) → ((r_5 < x2 → J56 x3 r_5 (x4 + 1) u_6) ∧ (¬ r_5 < x2 → J56 x1 x2 (x4 + 1) u_6)))))))))
def bX19_hardest_42 (K : Int32 → Hp → Prop) (a0 : Nat) (J42 : Int32 → Int32 → Int32 → Hp → Prop) (x1 : Int32) (x2 : Int32) (x3 : Int32) (u : Hp) : Prop :=
  (kd u a0 = 16) ∧ ∃ b_12 : Nat, FR u 1903 a0 = some b_12 ∧ (kd u b_12 = 20) ∧ ((FI u 2305 b_12 ≤ x3 → pX19_good u a0 x1 (fun (r_15 : Int32) (u_16 : Hp) => K r_15 u_16)) ∧ (¬ FI u 2305 b_12 ≤ x3 → jl4 (bX19_hardest_56 K J42 a0 x3) x1 x2 0 u))
def pX19_hardest (u : Hp) (a0 : Nat) (K : Int32 → Hp → Prop) : Prop :=
  (kd u a0 = 16) ∧ ((FR u 1903 a0 = none → pX19_refused (sFI u 1900 a0 0) a0 1 (fun (r_21 : Int32) (u_22 : Hp) => K r_21 u_22)) ∧ (∀ b_19 : Nat, FR u 1903 a0 = some b_19 → ∃ b_23 : Nat, FR u 1903 a0 = some b_23 ∧ (kd u b_23 = 20) ∧ ((2 ≤ (FI (sFI u 1900 a0 0) 2305 b_23) → jl4 (bX19_hardest_42 K a0) (-1) 0 0 (sFI u 1900 a0 0)) ∧ (¬ 2 ≤ (FI (sFI u 1900 a0 0) 2305 b_23) → pX19_refused (sFI u 1900 a0 0) a0 6 (fun (r_26 : Int32) (u_27 : Hp) => K r_26 u_27)))))
/-! X1_shows -/
def pX1_shows (u : Hp) (a0 : Nat) (x1 : Int32) (x2 : Int32) (K : Int32 → Hp → Prop) : Prop :=
  (kd u a0 = 1) ∧ pX1_anew u a0 (fun (u_2 : Hp) => (kd u_2 a0 = 1) ∧ pX1_isRule u_2 a0 x1 (fun (r_4 : Int32) => ((r_4 = 0 → pX1_no u_2 a0 1 (fun (r_5 : Int32) (u_6 : Hp) => K r_5 u_6)) ∧ (¬ r_4 = 0 → pX1_isHand u_2 a0 x2 (fun (r_7 : Int32) => ((r_7 = 0 → pX1_no u_2 a0 1 (fun (r_26 : Int32) (u_27 : Hp) => K r_26 u_27)) ∧ (¬ r_7 = 0 → pX1_rowOf u_2 a0 x1 x2 (fun (r_8 : Int32) (u_9 : Hp) => ((r_8 = (-2) → (kd u_9 a0 = 1) ∧ pX1_no u_9 a0 6 (fun (r_23 : Int32) (u_24 : Hp) => K r_23 u_24)) ∧ (¬ r_8 = (-2) → (kd u_9 a0 = 1) ∧ ∃ b_11 : Nat, FR u_9 111 a0 = some b_11 ∧ (kd u_9 b_11 = 5) ∧ ((FI u_9 502 b_11 = 20 → pX1_no u_9 a0 3 (fun (r_19 : Int32) (u_20 : Hp) => K r_19 u_20)) ∧ (¬ FI u_9 502 b_11 = 20 → pX5_add u_9 b_11 x2 r_8 (fun (u_14 : Hp) => (kd u_14 a0 = 1) ∧ ∃ b_16 : Nat, FR u_14 111 a0 = some b_16 ∧ (kd u_14 b_16 = 5) ∧ K ((FI u_14 502 b_16) - 1) u_14)))))))))))))
/-! X19_shows -/
def pX19_shows (u : Hp) (a0 : Nat) (x1 : Int32) (x2 : Int32) (K : Int32 → Hp → Prop) : Prop :=
  (kd u a0 = 16) ∧ pX19_isRule (sFI u 1900 a0 0) a0 x1 (fun (r_2 : Int32) => ((r_2 = 0 → pX19_refused (sFI u 1900 a0 0) a0 1 (fun (r_3 : Int32) (u_4 : Hp) => K r_3 u_4)) ∧ (¬ r_2 = 0 → pX19_isHand (sFI u 1900 a0 0) a0 x2 (fun (r_5 : Int32) => ((r_5 = 0 → pX19_refused (sFI u 1900 a0 0) a0 1 (fun (r_24 : Int32) (u_25 : Hp) => K r_24 u_25)) ∧ (¬ r_5 = 0 → pX19_laysNow (sFI u 1900 a0 0) a0 x1 x2 (fun (r_6 : Int32) (u_7 : Hp) => ((r_6 = (-2) → (kd u_7 a0 = 16) ∧ pX19_refused u_7 a0 6 (fun (r_21 : Int32) (u_22 : Hp) => K r_21 u_22)) ∧ (¬ r_6 = (-2) → (kd u_7 a0 = 16) ∧ ((FI u_7 1943 a0 = 20 → pX19_refused u_7 a0 3 (fun (r_17 : Int32) (u_18 : Hp) => K r_17 u_18)) ∧ (¬ FI u_7 1943 a0 = 20 → ∃ b_9 : Nat, FR u_7 1937 a0 = some b_9 ∧ (kd u_7 b_9 = 101) ∧ vp_in (FI u_7 1943 a0) (ln u_7 b_9) ∧ ∃ b_12 : Nat, FR u_7 1938 a0 = some b_12 ∧ (kd u_7 b_12 = 101) ∧ vp_in (FI u_7 1943 a0) (ln u_7 b_12) ∧ pX19_good (sFI (sAI (sAI u_7 b_9 (upd (AI u_7 b_9) (tn (FI u_7 1943 a0)) x2)) b_12 (upd (AI (sAI u_7 b_9 (upd (AI u_7 b_9) (tn (FI u_7 1943 a0)) x2)) b_12) (tn (FI u_7 1943 a0)) r_6)) 1943 a0 ((FI u_7 1943 a0) + 1)) a0 ((FI (sFI (sAI (sAI u_7 b_9 (upd (AI u_7 b_9) (tn (FI u_7 1943 a0)) x2)) b_12 (upd (AI (sAI u_7 b_9 (upd (AI u_7 b_9) (tn (FI u_7 1943 a0)) x2)) b_12) (tn (FI u_7 1943 a0)) r_6)) 1943 a0 ((FI u_7 1943 a0) + 1)) 1943 a0) - 1) (fun (r_15 : Int32) (u_16 : Hp) => K r_15 u_16))))))))))))
/-! X1_yes -/
def pX1_yes (u : Hp) (a0 : Nat) (x1 : Int32) (K : Int32 → Hp → Prop) : Prop :=
  (kd u a0 = 1) ∧ pX1_anew u a0 (fun (u_2 : Hp) => (kd u_2 a0 = 1) ∧ ((x1 = 0 → K 1 (sFI u_2 104 a0 x1)) ∧ (¬ x1 = 0 → K 0 (sFI u_2 104 a0 x1))))
/-! X1_seed -/
def bX1_seed_28 (K : Int32 → Hp → Prop) (a0 : Nat) (x1 : Int32) (z0 : Int32) (z1 : Nat) (u : Hp) : Prop :=
  (kd u z1 = 1) ∧ pX1_yes u z1 z0 (fun (r_2 : Int32) (u_3 : Hp) => ((r_2 = 0 → K 0 u_3) ∧ (¬ r_2 = 0 → (kd u_3 a0 = 1) ∧ ∃ b_5 : Nat, FR u_3 111 a0 = some b_5 ∧ (kd u_3 b_5 = 5) ∧ K 1 (sFI u_3 503 b_5 x1))))
def pX1_seed (u : Hp) (a0 : Nat) (x1 : Int32) (K : Int32 → Hp → Prop) : Prop :=
  (kd u a0 = 1) ∧ ((FR u 103 a0 = none → bX1_seed_28 K a0 x1 1 a0 u) ∧ (∀ b_10 : Nat, FR u 103 a0 = some b_10 → pX1_in x1 0 65536 (fun (r_12 : Int32) => ((r_12 = 0 → bX1_seed_28 K a0 x1 2 a0 u) ∧ (¬ r_12 = 0 → bX1_seed_28 K a0 x1 0 a0 u)))))
/-! X19_denied -/
def pX19_denied (u : Hp) (a0 : Nat) (x1 : Int32) (K : Int32 → Hp → Prop) : Prop :=
  (kd u a0 = 16) ∧ pX19_refused u a0 x1 (fun (r_2 : Int32) (u_3 : Hp) => K 0 u_3)
/-! X19_granted -/
def pX19_granted (u : Hp) (a0 : Nat) (K : Int32 → Hp → Prop) : Prop :=
  (kd u a0 = 16) ∧ pX19_good u a0 0 (fun (r_2 : Int32) (u_3 : Hp) => K 1 u_3)
/-! X19_seed -/
def pX19_seed (u : Hp) (a0 : Nat) (x1 : Int32) (K : Int32 → Hp → Prop) : Prop :=
  (kd u a0 = 16) ∧ ((FR u 1903 a0 = none → pX19_denied (sFI u 1900 a0 0) a0 1 (fun (r_4 : Int32) (u_5 : Hp) => narrow .boolean (.int r_4) = .int r_4 ∧ K r_4 u_5)) ∧ (∀ b_2 : Nat, FR u 1903 a0 = some b_2 → pX19_in x1 0 65536 (fun (r_6 : Int32) => ((r_6 = 0 → pX19_denied (sFI u 1900 a0 0) a0 2 (fun (r_9 : Int32) (u_10 : Hp) => narrow .boolean (.int r_9) = .int r_9 ∧ K r_9 u_10)) ∧ (¬ r_6 = 0 → pX19_granted (sFI (sFI u 1900 a0 0) 1945 a0 x1) a0 (fun (r_7 : Int32) (u_8 : Hp) => narrow .boolean (.int r_7) = .int r_7 ∧ K r_7 u_8))))))
/-! X1_draw -/
def pX1_draw (u : Hp) (a0 : Nat) (K : Int32 → Hp → Prop) : Prop :=
  (kd u a0 = 1) ∧ pX1_anew u a0 (fun (u_2 : Hp) => (kd u_2 a0 = 1) ∧ ((FR u_2 103 a0 = none → pX1_no u_2 a0 1 (fun (r_6 : Int32) (u_7 : Hp) => K r_6 u_7)) ∧ (∀ b_4 : Nat, FR u_2 103 a0 = some b_4 → ∃ b_8 : Nat, FR u_2 111 a0 = some b_8 ∧ (kd u_2 b_8 = 5) ∧ (¬ FI (sFI u_2 503 b_8 (jrem ((75 * (FI u_2 503 b_8)) + 74) 65537)) 108 a0 = 0) ∧ K (jrem (FI (sFI u_2 503 b_8 (jrem ((75 * (FI u_2 503 b_8)) + 74) 65537)) 503 b_8) (FI (sFI u_2 503 b_8 (jrem ((75 * (FI u_2 503 b_8)) + 74) 65537)) 108 a0)) (sFI u_2 503 b_8 (jrem ((75 * (FI u_2 503 b_8)) + 74) 65537)))))
/-! X19_draw -/
def pX19_draw (u : Hp) (a0 : Nat) (K : Int32 → Hp → Prop) : Prop :=
  (kd u a0 = 16) ∧ ((FR u 1903 a0 = none → pX19_refused (sFI u 1900 a0 0) a0 1 (fun (r_4 : Int32) (u_5 : Hp) => K r_4 u_5)) ∧ (∀ b_2 : Nat, FR u 1903 a0 = some b_2 → (¬ FI (sFI (sFI u 1900 a0 0) 1945 a0 ((jremL ((75 * ((FI (sFI u 1900 a0 0) 1945 a0).toInt64)) + 74) 65537).toInt32)) 1917 a0 = 0) ∧ pX19_good (sFI (sFI u 1900 a0 0) 1945 a0 ((jremL ((75 * ((FI (sFI u 1900 a0 0) 1945 a0).toInt64)) + 74) 65537).toInt32)) a0 (jrem (FI (sFI (sFI u 1900 a0 0) 1945 a0 ((jremL ((75 * ((FI (sFI u 1900 a0 0) 1945 a0).toInt64)) + 74) 65537).toInt32)) 1945 a0) (FI (sFI (sFI u 1900 a0 0) 1945 a0 ((jremL ((75 * ((FI (sFI u 1900 a0 0) 1945 a0).toInt64)) + 74) 65537).toInt32)) 1917 a0)) (fun (r_6 : Int32) (u_7 : Hp) => K r_6 u_7)))
/-! X1_strike -/
def bX1_strike_17 (K : Int32 → Hp → Prop) (a0 : Nat) (z0 : Int32) (z1 : Nat) (u : Hp) : Prop :=
  (kd u z1 = 1) ∧ pX1_yes u z1 z0 (fun (r_2 : Int32) (u_3 : Hp) => ((r_2 = 0 → K 0 u_3) ∧ (¬ r_2 = 0 → (kd u_3 a0 = 1) ∧ ∃ b_5 : Nat, FR u_3 111 a0 = some b_5 ∧ (kd u_3 b_5 = 5) ∧ K 1 (sFI u_3 502 b_5 ((FI u_3 502 b_5) - 1)))))
def pX1_strike (u : Hp) (a0 : Nat) (K : Int32 → Hp → Prop) : Prop :=
  (kd u a0 = 1) ∧ ∃ b_10 : Nat, FR u 111 a0 = some b_10 ∧ (kd u b_10 = 5) ∧ ((FI u 502 b_10 = 0 → bX1_strike_17 K a0 6 a0 u) ∧ (¬ FI u 502 b_10 = 0 → bX1_strike_17 K a0 0 a0 u))
/-! X19_strike -/
def pX19_strike (u : Hp) (a0 : Nat) (K : Int32 → Hp → Prop) : Prop :=
  (kd u a0 = 16) ∧ ((FR u 1903 a0 = none → pX19_denied (sFI u 1900 a0 0) a0 6 (fun (r_4 : Int32) (u_5 : Hp) => narrow .boolean (.int r_4) = .int r_4 ∧ K r_4 u_5)) ∧ (∀ b_2 : Nat, FR u 1903 a0 = some b_2 → ((FI (sFI u 1900 a0 0) 1943 a0 = 0 → pX19_denied (sFI u 1900 a0 0) a0 6 (fun (r_8 : Int32) (u_9 : Hp) => narrow .boolean (.int r_8) = .int r_8 ∧ K r_8 u_9)) ∧ (¬ FI (sFI u 1900 a0 0) 1943 a0 = 0 → pX19_granted (sFI (sFI u 1900 a0 0) 1943 a0 ((FI (sFI u 1900 a0 0) 1943 a0) - 1)) a0 (fun (r_6 : Int32) (u_7 : Hp) => narrow .boolean (.int r_6) = .int r_6 ∧ K r_6 u_7)))))
/-! X5_become -/
def pX5_become (u : Hp) (a0 : Nat) (a1 : Nat) (K : Hp → Prop) : Prop :=
  (kd u a1 = 5) ∧ (kd u a0 = 5) ∧ ∃ b_3 : Nat, FR u 500 a1 = some b_3 ∧ ∃ b_5 : Nat, FR u 500 a0 = some b_5 ∧ (kd u b_3 = 101) ∧ (kd u b_5 = 101) ∧ (¬ (0 : Int32) < 0 ∧ ¬ (0 : Int32) < 0 ∧ ¬ (20 : Int32) < 0 ∧ tn 0 + tn 20 ≤ ln u b_3 ∧ tn 0 + tn 20 ≤ ln u b_5) ∧ ∃ b_10 : Nat, FR u 501 a1 = some b_10 ∧ ∃ b_12 : Nat, FR u 501 a0 = some b_12 ∧ ∀ u_14 : Hp, u_14 = (sAI (sFI (sFI u 502 a0 (FI u 502 a1)) 503 a0 (FI (sFI u 502 a0 (FI u 502 a1)) 503 a1)) b_5 (va_cpy (AI u b_3) (AI u b_5) (tn 0) (tn 0) (tn 20))) → (kd u_14 b_10 = 101) ∧ (kd u_14 b_12 = 101) ∧ (¬ (0 : Int32) < 0 ∧ ¬ (0 : Int32) < 0 ∧ ¬ (20 : Int32) < 0 ∧ tn 0 + tn 20 ≤ ln u_14 b_10 ∧ tn 0 + tn 20 ≤ ln u_14 b_12) ∧ K (sAI u_14 b_12 (va_cpy (AI u_14 b_10) (AI u_14 b_12) (tn 0) (tn 0) (tn 20)))
/-! X1_image -/
def pX1_image (u : Hp) (a0 : Nat) (K : Int32 → Hp → Prop) : Prop :=
  (kd u a0 = 1) ∧ pX1_anew u a0 (fun (u_2 : Hp) => (kd u_2 a0 = 1) ∧ ((FR u_2 103 a0 = none → pX1_no u_2 a0 1 (fun (r_6 : Int32) (u_7 : Hp) => K r_6 u_7)) ∧ (∀ b_4 : Nat, FR u_2 103 a0 = some b_4 → ((FI u_2 107 a0 = 3 → pX1_no u_2 a0 3 (fun (r_19 : Int32) (u_20 : Hp) => K r_19 u_20)) ∧ (¬ FI u_2 107 a0 = 3 → ∃ b_8 : Nat, FR u_2 112 a0 = some b_8 ∧ (kd u_2 b_8 = 106 ∨ kd u_2 b_8 = 107) ∧ vp_in (FI u_2 107 a0) (ln u_2 b_8) ∧ ∃ b_11 : Nat, AR u_2 b_8 (tn (FI u_2 107 a0)) = some b_11 ∧ ∃ b_14 : Nat, FR u_2 111 a0 = some b_14 ∧ (kd u_2 b_11 = 5) ∧ pX5_become u_2 b_11 b_14 (fun (u_17 : Hp) => (kd u_17 a0 = 1) ∧ K ((FI (sFI u_17 107 a0 ((FI u_17 107 a0) + 1)) 107 a0) - 1) (sFI u_17 107 a0 ((FI u_17 107 a0) + 1))))))))
/-! X19_image -/
def bX19_image_34 (K : Int32 → Hp → Prop) (a0 : Nat) (J34 : Int32 → Hp → Prop) (x1 : Int32) (u : Hp) : Prop :=
  (kd u a0 = 16) ∧ ((FI u 1943 a0 ≤ x1 → ∃ b_2 : Nat, FR u 1941 a0 = some b_2 ∧ (kd u b_2 = 101) ∧ vp_in (FI u 1944 a0) (ln u b_2) ∧ ∃ b_5 : Nat, FR u 1942 a0 = some b_5 ∧ (kd u b_5 = 101) ∧ vp_in (FI u 1944 a0) (ln u b_5) ∧ pX19_good (sFI (sAI (sAI u b_2 (upd (AI u b_2) (tn (FI u 1944 a0)) (FI u 1943 a0))) b_5 (upd (AI (sAI u b_2 (upd (AI u b_2) (tn (FI u 1944 a0)) (FI u 1943 a0))) b_5) (tn (FI u 1944 a0)) (FI u 1945 a0))) 1944 a0 ((FI u 1944 a0) + 1)) a0 ((FI (sFI (sAI (sAI u b_2 (upd (AI u b_2) (tn (FI u 1944 a0)) (FI u 1943 a0))) b_5 (upd (AI (sAI u b_2 (upd (AI u b_2) (tn (FI u 1944 a0)) (FI u 1943 a0))) b_5) (tn (FI u 1944 a0)) (FI u 1945 a0))) 1944 a0 ((FI u 1944 a0) + 1)) 1944 a0) - 1) (fun (r_8 : Int32) (u_9 : Hp) => K r_8 u_9)) ∧ (¬ FI u 1943 a0 ≤ x1 → ∃ b_10 : Nat, FR u 1939 a0 = some b_10 ∧ ∃ b_12 : Nat, FR u 1937 a0 = some b_12 ∧ (kd u b_12 = 101) ∧ vp_in x1 (ln u b_12) ∧ (kd u b_10 = 101) ∧ vp_in ((20 * (FI u 1944 a0)) + x1) (ln u b_10) ∧ ∃ b_16 : Nat, FR u 1940 a0 = some b_16 ∧ ∃ b_18 : Nat, FR u 1938 a0 = some b_18 ∧ (kd u b_18 = 101) ∧ vp_in x1 (ln u b_18) ∧ (kd u b_16 = 101) ∧ vp_in ((20 * (FI u 1944 a0)) + x1) (ln u b_16) ∧ J34 (x1 + 1) (sAI (sAI u b_10 (upd (AI u b_10) (tn ((20 * (FI u 1944 a0)) + x1)) (AI u b_12 (tn x1)))) b_16 (upd (AI (sAI u b_10 (upd (AI u b_10) (tn ((20 * (FI u 1944 a0)) + x1)) (AI u b_12 (tn x1)))) b_16) (tn ((20 * (FI u 1944 a0)) + x1)) (AI (sAI u b_10 (upd (AI u b_10) (tn ((20 * (FI u 1944 a0)) + x1)) (AI u b_12 (tn x1)))) b_18 (tn x1))))))
def pX19_image (u : Hp) (a0 : Nat) (K : Int32 → Hp → Prop) : Prop :=
  (kd u a0 = 16) ∧ ((FR u 1903 a0 = none → pX19_refused (sFI u 1900 a0 0) a0 1 (fun (r_26 : Int32) (u_27 : Hp) => K r_26 u_27)) ∧ (∀ b_24 : Nat, FR u 1903 a0 = some b_24 → ((FI (sFI u 1900 a0 0) 1944 a0 = 3 → pX19_refused (sFI u 1900 a0 0) a0 3 (fun (r_28 : Int32) (u_29 : Hp) => K r_28 u_29)) ∧ (¬ FI (sFI u 1900 a0 0) 1944 a0 = 3 → jl2 (bX19_image_34 K a0) 0 (sFI u 1900 a0 0)))))
/-! X1_back -/
def bX1_back_20 (K : Int32 → Hp → Prop) (a0 : Nat) (x1 : Int32) (z0 : Int32) (z1 : Nat) (u : Hp) : Prop :=
  (kd u z1 = 1) ∧ pX1_yes u z1 z0 (fun (r_2 : Int32) (u_3 : Hp) => ((r_2 = 0 → K 0 u_3) ∧ (¬ r_2 = 0 → (kd u_3 a0 = 1) ∧ ∃ b_5 : Nat, FR u_3 111 a0 = some b_5 ∧ ∃ b_7 : Nat, FR u_3 112 a0 = some b_7 ∧ (kd u_3 b_7 = 106 ∨ kd u_3 b_7 = 107) ∧ vp_in x1 (ln u_3 b_7) ∧ ∃ b_10 : Nat, AR u_3 b_7 (tn x1) = some b_10 ∧ (kd u_3 b_5 = 5) ∧ pX5_become u_3 b_5 b_10 (fun (u_14 : Hp) => K 1 u_14))))
def pX1_back (u : Hp) (a0 : Nat) (x1 : Int32) (K : Int32 → Hp → Prop) : Prop :=
  (kd u a0 = 1) ∧ pX1_in x1 0 ((FI u 107 a0) - 1) (fun (r_17 : Int32) => ((r_17 = 0 → bX1_back_20 K a0 x1 1 a0 u) ∧ (¬ r_17 = 0 → bX1_back_20 K a0 x1 0 a0 u)))
/-! X19_back -/
def bX19_back_52 (K : Int32 → Hp → Prop) (a0 : Nat) (x1 : Int32) (J52 : Int32 → Hp → Prop) (x2 : Int32) (u : Hp) : Prop :=
  (kd u a0 = 16) ∧ ((FI u 1943 a0 ≤ x2 → pX19_granted u a0 (fun (r_2 : Int32) (u_3 : Hp) => narrow .boolean (.int r_2) = .int r_2 ∧ K r_2 u_3)) ∧ (¬ FI u 1943 a0 ≤ x2 → ∃ b_4 : Nat, FR u 1937 a0 = some b_4 ∧ ∃ b_6 : Nat, FR u 1939 a0 = some b_6 ∧ (kd u b_6 = 101) ∧ vp_in ((20 * x1) + x2) (ln u b_6) ∧ (kd u b_4 = 101) ∧ vp_in x2 (ln u b_4) ∧ ∃ b_10 : Nat, FR u 1938 a0 = some b_10 ∧ ∃ b_12 : Nat, FR u 1940 a0 = some b_12 ∧ (kd u b_12 = 101) ∧ vp_in ((20 * x1) + x2) (ln u b_12) ∧ (kd u b_10 = 101) ∧ vp_in x2 (ln u b_10) ∧ J52 (x2 + 1) (sAI (sAI u b_4 (upd (AI u b_4) (tn x2) (AI u b_6 (tn ((20 * x1) + x2))))) b_10 (upd (AI (sAI u b_4 (upd (AI u b_4) (tn x2) (AI u b_6 (tn ((20 * x1) + x2))))) b_10) (tn x2) (AI (sAI u b_4 (upd (AI u b_4) (tn x2) (AI u b_6 (tn ((20 * x1) + x2))))) b_12 (tn ((20 * x1) + x2)))))))
def pX19_back (u : Hp) (a0 : Nat) (x1 : Int32) (K : Int32 → Hp → Prop) : Prop :=
  (kd u a0 = 16) ∧ ((FR u 1903 a0 = none → pX19_denied (sFI u 1900 a0 0) a0 1 (fun (r_20 : Int32) (u_21 : Hp) => narrow .boolean (.int r_20) = .int r_20 ∧ K r_20 u_21)) ∧ (∀ b_18 : Nat, FR u 1903 a0 = some b_18 → ((x1 < 0 → pX19_denied (sFI u 1900 a0 0) a0 1 (fun (r_22 : Int32) (u_23 : Hp) => narrow .boolean (.int r_22) = .int r_22 ∧ K r_22 u_23)) ∧ (¬ x1 < 0 → ((x1 < (FI (sFI u 1900 a0 0) 1944 a0) → ∃ b_24 : Nat, FR u 1941 a0 = some b_24 ∧ (kd u b_24 = 101) ∧ vp_in x1 (ln u b_24) ∧ ∃ b_27 : Nat, FR u 1942 a0 = some b_27 ∧ (kd u b_27 = 101) ∧ vp_in x1 (ln u b_27) ∧ jl2 (bX19_back_52 K a0 x1) 0 (sFI (sFI (sFI u 1900 a0 0) 1943 a0 (AI u b_24 (tn x1))) 1945 a0 (AI u b_27 (tn x1)))) ∧ (¬ x1 < (FI (sFI u 1900 a0 0) 1944 a0) → pX19_denied (sFI u 1900 a0 0) a0 1 (fun (r_30 : Int32) (u_31 : Hp) => narrow .boolean (.int r_30) = .int r_30 ∧ K r_30 u_31)))))))
/-! X19_led -/
def bX19_led_10 (K : Int32 → Hp → Prop) (a0 : Nat) (x1 : Int32) (x2 : Int32) (J10 : Int32 → Int32 → Hp → Prop) (x3 : Int32) (x4 : Int32) (u : Hp) : Prop :=
  (kd u a0 = 16) ∧ pX19_isRule u a0 x1 (fun (r_2 : Int32) => ((r_2 = 0 → K 0 (sFI u 1900 a0 1)) ∧ (¬ r_2 = 0 → ((FI u 1917 a0 ≤ x4 → K 0 (sFI u 1900 a0 1)) ∧ (¬ FI u 1917 a0 ≤ x4 → pX19_laysNow u a0 x1 x4 (fun (r_3 : Int32) (u_4 : Hp) => ((r_3 = (-2) → ((x3 = x2 → K x4 u_4) ∧ (¬ x3 = x2 → J10 (x3 + 1) (x4 + 1) u_4))) ∧ (¬ r_3 = (-2) → J10 x3 (x4 + 1) u_4))))))))
def pX19_led (u : Hp) (a0 : Nat) (x1 : Int32) (x2 : Int32) (K : Int32 → Hp → Prop) : Prop :=
  (kd u a0 = 16) ∧ jl3 (bX19_led_10 K a0 x1 x2) 0 0 (sFI u 1900 a0 0)
/-! X19_thrown -/
def pX19_thrown (u : Hp) (a0 : Nat) (K : Int32 → Prop) : Prop :=
  (kd u a0 = 16) ∧ K (FI u 1900 a0)
/-! X1_size -/
def pX1_size (u : Hp) (a0 : Nat) (x1 : Int32) (K : Int32 → Prop) : Prop :=
  ((x1 = 11 → (kd u a0 = 1) ∧ K (FI u 101 a0)) ∧ (¬ x1 = 11 → (kd u a0 = 1) ∧ ((FR u 103 a0 = none → pX1_in x1 0 10 (fun (r_4 : Int32) => ((r_4 = 0 → K (-1)) ∧ (¬ r_4 = 0 → K 0)))) ∧ (∀ b_2 : Nat, FR u 103 a0 = some b_2 → ((x1 = 0 → ∃ b_6 : Nat, FR u 103 a0 = some b_6 ∧ (kd u b_6 = 17) ∧ K (FI u 2003 b_6)) ∧ (x1 = 1 → ∃ b_10 : Nat, FR u 103 a0 = some b_10 ∧ (kd u b_10 = 17) ∧ K (FI u 2004 b_10)) ∧ (x1 = 2 → ∃ b_14 : Nat, FR u 103 a0 = some b_14 ∧ (kd u b_14 = 17) ∧ K (FI u 2005 b_14)) ∧ (x1 = 3 → ∃ b_18 : Nat, FR u 103 a0 = some b_18 ∧ (kd u b_18 = 17) ∧ K (FI u 2006 b_18)) ∧ (x1 = 4 → ∃ b_22 : Nat, FR u 103 a0 = some b_22 ∧ (kd u b_22 = 17) ∧ ((FI u 2009 b_22 = 0 → K 0) ∧ (¬ FI u 2009 b_22 = 0 → K 1))) ∧ (x1 = 5 → ∃ b_27 : Nat, FR u 103 a0 = some b_27 ∧ (kd u b_27 = 17) ∧ ((FI u 2010 b_27 = 0 → K 0) ∧ (¬ FI u 2010 b_27 = 0 → K 1))) ∧ (x1 = 6 → ∃ b_32 : Nat, FR u 103 a0 = some b_32 ∧ (kd u b_32 = 17) ∧ ((FI u 2011 b_32 = 0 → K 0) ∧ (¬ FI u 2011 b_32 = 0 → K 1))) ∧ (x1 = 7 → ∃ b_37 : Nat, FR u 103 a0 = some b_37 ∧ (kd u b_37 = 17) ∧ K (FI u 2007 b_37)) ∧ (x1 = 8 → ∃ b_41 : Nat, FR u 111 a0 = some b_41 ∧ (kd u b_41 = 5) ∧ K (FI u 502 b_41)) ∧ (x1 = 9 → ∃ b_45 : Nat, FR u 111 a0 = some b_45 ∧ (kd u b_45 = 5) ∧ K (FI u 503 b_45)) ∧ (x1 = 10 → K (FI u 107 a0)) ∧ (¬ x1 = 0 ∧ ¬ x1 = 1 ∧ ¬ x1 = 2 ∧ ¬ x1 = 3 ∧ ¬ x1 = 4 ∧ ¬ x1 = 5 ∧ ¬ x1 = 6 ∧ ¬ x1 = 7 ∧ ¬ x1 = 8 ∧ ¬ x1 = 9 ∧ ¬ x1 = 10 → K (-1)))))))
/-! X19_size -/
def pX19_size (u : Hp) (a0 : Nat) (x1 : Int32) (K : Int32 → Hp → Prop) : Prop :=
  (kd u a0 = 16) ∧ ((x1 = 11 → K (FI (sFI u 1900 a0 0) 1906 a0) (sFI u 1900 a0 0)) ∧ (¬ x1 = 11 → pX19_in x1 0 10 (fun (r_2 : Int32) => ((r_2 = 0 → K (-1) (sFI u 1900 a0 0)) ∧ (¬ r_2 = 0 → ((FR u 1903 a0 = none → K 0 (sFI u 1900 a0 0)) ∧ (∀ b_3 : Nat, FR u 1903 a0 = some b_3 → ((x1 = 0 → ∃ b_5 : Nat, FR u 1903 a0 = some b_5 ∧ (kd u b_5 = 20) ∧ K (FI (sFI u 1900 a0 0) 2300 b_5) (sFI u 1900 a0 0)) ∧ (x1 = 1 → ∃ b_9 : Nat, FR u 1903 a0 = some b_9 ∧ (kd u b_9 = 20) ∧ K (FI (sFI u 1900 a0 0) 2301 b_9) (sFI u 1900 a0 0)) ∧ (x1 = 2 → ∃ b_13 : Nat, FR u 1903 a0 = some b_13 ∧ (kd u b_13 = 20) ∧ K (FI (sFI u 1900 a0 0) 2302 b_13) (sFI u 1900 a0 0)) ∧ (x1 = 3 → ∃ b_17 : Nat, FR u 1903 a0 = some b_17 ∧ (kd u b_17 = 20) ∧ K (FI (sFI u 1900 a0 0) 2303 b_17) (sFI u 1900 a0 0)) ∧ (x1 = 4 → ∃ b_21 : Nat, FR u 1903 a0 = some b_21 ∧ (kd u b_21 = 20) ∧ ((FI (sFI u 1900 a0 0) 2307 b_21 = 0 → K 0 (sFI u 1900 a0 0)) ∧ (¬ FI (sFI u 1900 a0 0) 2307 b_21 = 0 → K 1 (sFI u 1900 a0 0)))) ∧ (x1 = 5 → ∃ b_26 : Nat, FR u 1903 a0 = some b_26 ∧ (kd u b_26 = 20) ∧ ((FI (sFI u 1900 a0 0) 2308 b_26 = 0 → K 0 (sFI u 1900 a0 0)) ∧ (¬ FI (sFI u 1900 a0 0) 2308 b_26 = 0 → K 1 (sFI u 1900 a0 0)))) ∧ (x1 = 6 → ∃ b_31 : Nat, FR u 1903 a0 = some b_31 ∧ (kd u b_31 = 20) ∧ ((FI (sFI u 1900 a0 0) 2309 b_31 = 0 → K 0 (sFI u 1900 a0 0)) ∧ (¬ FI (sFI u 1900 a0 0) 2309 b_31 = 0 → K 1 (sFI u 1900 a0 0)))) ∧ (x1 = 7 → ∃ b_36 : Nat, FR u 1903 a0 = some b_36 ∧ (kd u b_36 = 20) ∧ K (FI (sFI u 1900 a0 0) 2305 b_36) (sFI u 1900 a0 0)) ∧ (x1 = 8 → K (FI (sFI u 1900 a0 0) 1943 a0) (sFI u 1900 a0 0)) ∧ (x1 = 9 → K (FI (sFI u 1900 a0 0) 1945 a0) (sFI u 1900 a0 0)) ∧ (¬ x1 = 0 ∧ ¬ x1 = 1 ∧ ¬ x1 = 2 ∧ ¬ x1 = 3 ∧ ¬ x1 = 4 ∧ ¬ x1 = 5 ∧ ¬ x1 = 6 ∧ ¬ x1 = 7 ∧ ¬ x1 = 8 ∧ ¬ x1 = 9 → K (FI (sFI u 1900 a0 0) 1944 a0) (sFI u 1900 a0 0))))))))))
/-! X18_words -/
def pX18_words (u : Hp) (a0 : Nat) (K : Int32 → Prop) : Prop :=
  (kd u a0 = 15) ∧ K (FI u 1806 a0)
/-! X21_words -/
def pX21_words (a0 : Nat) (K : Int32 → Prop) : Prop :=
  K 20
/-! X22_words -/
def pX22_words (a0 : Nat) (K : Int32 → Prop) : Prop :=
  K 21
/-! X1_words -/
def bX1_words_20 (K : Int32 → Prop) (u : Hp) (z0 : Int32) : Prop :=
  K z0
def pX1_words (u : Hp) (a0 : Nat) (x1 : Int32) (K : Int32 → Prop) : Prop :=
  (kd u a0 = 1) ∧ pX1_isRule u a0 x1 (fun (r_2 : Int32) => ((r_2 = 0 → K (-1)) ∧ (¬ r_2 = 0 → ∃ b_3 : Nat, FR u 103 a0 = some b_3 ∧ (kd u b_3 = 17) ∧ ∃ b_6 : Nat, FR u 2000 b_3 = some b_6 ∧ (kd u b_6 = 106 ∨ kd u b_6 = 107) ∧ vp_in x1 (ln u b_6) ∧ ∃ b_9 : Nat, AR u b_6 (tn x1) = some b_9 ∧ ((kd u b_9 = 15 ∨ kd u b_9 = 18 ∨ kd u b_9 = 19) ∧ (kd u b_9 = 15 → pX18_words u b_9 (fun (r_13 : Int32) => bX1_words_20 K u r_13)) ∧ (kd u b_9 = 18 → pX21_words b_9 (fun (r_15 : Int32) => bX1_words_20 K u r_15)) ∧ (kd u b_9 = 19 → pX22_words b_9 (fun (r_17 : Int32) => bX1_words_20 K u r_17))))))
/-! X19_words -/
def pX19_words (u : Hp) (a0 : Nat) (x1 : Int32) (K : Int32 → Hp → Prop) : Prop :=
  (kd u a0 = 16) ∧ pX19_isRule (sFI u 1900 a0 0) a0 x1 (fun (r_2 : Int32) => ((r_2 = 0 → K (-1) (sFI u 1900 a0 0)) ∧ (¬ r_2 = 0 → ∃ b_3 : Nat, FR u 1903 a0 = some b_3 ∧ (kd u b_3 = 20) ∧ ∃ b_6 : Nat, FR u 2310 b_3 = some b_6 ∧ (kd u b_6 = 101) ∧ vp_in x1 (ln u b_6) ∧ K (AI u b_6 (tn x1)) (sFI u 1900 a0 0))))
/-! X1_trouble -/
def pX1_trouble (u : Hp) (a0 : Nat) (K : Int32 → Prop) : Prop :=
  (kd u a0 = 1) ∧ K (FI u 104 a0)
/-! X19_trouble -/
def pX19_trouble (u : Hp) (a0 : Nat) (K : Int32 → Hp → Prop) : Prop :=
  (kd u a0 = 16) ∧ K (FI (sFI u 1900 a0 0) 1901 a0) (sFI u 1900 a0 0)
/-! X2_must -/
def pX2_must (L : Nat → Nat) (u : Hp) (a0 : Nat) (a1 : Nat) (mc ms : Nat) (K : Hp → Prop) (E : Nat → Hp → Prop) : Prop :=
  (kd u a0 = 2) ∧ ∃ q_1 q_2 : Nat, q_1 ≤ mc ∧ q_2 ≤ ms ∧ pX2_takes L u a0 a1 q_1 q_2 (fun (r_6 : Int32) (u_7 : Hp) => ((r_6 = 0 → (kd u_7 a0 = 2) ∧ pX2_fail u_7 a0 1 (fun (o_9 : Option Nat) (u_10 : Hp) => ∃ b_11 : Nat, o_9 = some b_11 ∧ (kd u_10 b_11 = 3) ∧ E b_11 u_10)) ∧ (¬ r_6 = 0 → K u_7)))
/-! X2_numberHere -/
def pX2_numberHere (u : Hp) (a0 : Nat) (x1 : Int32) (x2 : Int32) (K : Int32 → Hp → Prop) (E : Nat → Hp → Prop) : Prop :=
  (kd u a0 = 2) ∧ ((FI u 206 a0 = 3 → pX1_in (FI u 208 a0) x1 x2 (fun (r_2 : Int32) => ((r_2 = 0 → pX2_fail u a0 4 (fun (o_3 : Option Nat) (u_4 : Hp) => ∃ b_5 : Nat, o_3 = some b_5 ∧ (kd u_4 b_5 = 3) ∧ E b_5 u_4)) ∧ (¬ r_2 = 0 → K (FI u 208 a0) u)))) ∧ (¬ FI u 206 a0 = 3 → pX2_fail u a0 1 (fun (o_9 : Option Nat) (u_10 : Hp) => ∃ b_11 : Nat, o_9 = some b_11 ∧ (kd u_10 b_11 = 3) ∧ E b_11 u_10)))
/-! X2_after -/
def pX2_after (L : Nat → Nat) (u : Hp) (a0 : Nat) (a1 : Nat) (x2 : Int32) (x3 : Int32) (mc ms : Nat) (K : Int32 → Hp → Prop) (E : Nat → Hp → Prop) : Prop :=
  (kd u a0 = 2) ∧ ∃ q_1 q_2 : Nat, q_1 ≤ mc ∧ q_2 ≤ ms ∧ pX2_must L u a0 a1 q_1 q_2 (fun (u_6 : Hp) => (kd u_6 a0 = 2) ∧ pX2_numberHere u_6 a0 x2 x3 (fun (r_8 : Int32) (u_9 : Hp) => (kd u_9 a0 = 2) ∧ ∃ q_10 q_11 : Nat, q_10 ≤ (mc - q_1) ∧ q_11 ≤ (ms - q_2) ∧ pX2_next L u_9 a0 q_10 q_11 (fun (u_15 : Hp) => K r_8 u_15)) E) E
/-! X2_trickLine -/
def bX2_trickLine_206 (K : Hp → Prop) (E : Nat → Hp → Prop) (L : Nat → Nat) (a0 : Nat) (x1 : Int32) (u : Hp) (mc : Nat) (ms : Nat) : Prop :=
  (kd u a0 = 2) ∧ ∃ b_2 : Nat, FR u 210 a0 = some b_2 ∧ ∃ q_4 q_5 : Nat, q_4 ≤ mc ∧ q_5 ≤ ms ∧ pX2_takes L u a0 (L 12) q_4 q_5 (fun (r_8 : Int32) (u_9 : Hp) => (kd u_9 b_2 = 17) ∧ okf .boolean r_8 ∧ (kd u_9 a0 = 2) ∧ ∃ b_13 : Nat, FR u_9 210 a0 = some b_13 ∧ (kd u_9 b_13 = 17) ∧ K (sFI (sFI u_9 2011 b_2 r_8) 2003 b_13 x1))
def bX2_trickLine_153 (K : Hp → Prop) (E : Nat → Hp → Prop) (L : Nat → Nat) (a0 : Nat) (x1 : Int32) (x3 : Int32) (u : Hp) (mc : Nat) (ms : Nat) : Prop :=
  (kd u a0 = 2) ∧ ∃ b_17 : Nat, FR u 210 a0 = some b_17 ∧ (kd u b_17 = 17) ∧ pX20_hands u b_17 x1 (fun (r_20 : Int64) => ((lg_cmp r_20 2000 ≤ 0 → ∃ q_21 q_22 : Nat, q_21 ≤ mc ∧ q_22 ≤ ms ∧ pX2_next L u a0 q_21 q_22 (fun (u_25 : Hp) => (kd u_25 a0 = 2) ∧ ∃ b_27 : Nat, FR u_25 210 a0 = some b_27 ∧ (kd u_25 b_27 = 17) ∧ ((FI u_25 2009 b_27 = 0 → ∃ q_30 q_31 : Nat, q_30 ≤ (mc - q_21) ∧ q_31 ≤ (ms - q_22) ∧ pX2_takes L u_25 a0 (L 11) q_30 q_31 (fun (r_34 : Int32) (u_35 : Hp) => (kd u_35 b_27 = 17) ∧ okf .boolean r_34 ∧ bX2_trickLine_206 K E L a0 x1 (sFI u_35 2010 b_27 r_34) ((mc - q_21) - q_30) ((ms - q_22) - q_31))) ∧ (¬ FI u_25 2009 b_27 = 0 → bX2_trickLine_206 K E L a0 x1 u_25 (mc - q_21) (ms - q_22))))) ∧ (¬ lg_cmp r_20 2000 ≤ 0 → ∃ b_39 : Nat, FR u 200 a0 = some b_39 ∧ (kd u b_39 = 3) ∧ pX3_at u b_39 7 x3 (fun (o_42 : Option Nat) (u_43 : Hp) => ∃ b_44 : Nat, o_42 = some b_44 ∧ (kd u_43 b_44 = 3) ∧ E b_44 u_43))))
def pX2_trickLine (L : Nat → Nat) (u : Hp) (a0 : Nat) (mc ms : Nat) (K : Hp → Prop) (E : Nat → Hp → Prop) : Prop :=
  (kd u a0 = 2) ∧ ∃ b_49 : Nat, FR u 210 a0 = some b_49 ∧ (kd u b_49 = 17) ∧ ((FI u 2003 b_49 ≤ 0 → ∃ q_52 q_53 : Nat, q_52 ≤ mc ∧ q_53 ≤ ms ∧ pX2_next L u a0 q_52 q_53 (fun (u_56 : Hp) => (kd u_56 a0 = 2) ∧ ∃ q_57 q_58 : Nat, q_57 ≤ (mc - q_52) ∧ q_58 ≤ (ms - q_53) ∧ pX2_after L u_56 a0 (L 5) 4 12 q_57 q_58 (fun (r_62 : Int32) (u_63 : Hp) => (kd u_63 a0 = 2) ∧ ∃ q_64 q_65 : Nat, q_64 ≤ ((mc - q_52) - q_57) ∧ q_65 ≤ ((ms - q_53) - q_58) ∧ pX2_must L u_63 a0 (L 6) q_64 q_65 (fun (u_69 : Hp) => (kd u_69 a0 = 2) ∧ pX2_numberHere u_69 a0 1 4 (fun (r_71 : Int32) (u_72 : Hp) => (¬ r_71 = 0) ∧ ((jrem r_62 r_71 = 0 → (kd u_72 a0 = 2) ∧ ∃ q_73 q_74 : Nat, q_73 ≤ (((mc - q_52) - q_57) - q_64) ∧ q_74 ≤ (((ms - q_53) - q_58) - q_65) ∧ pX2_next L u_72 a0 q_73 q_74 (fun (u_78 : Hp) => (kd u_78 a0 = 2) ∧ ∃ b_80 : Nat, FR u_78 210 a0 = some b_80 ∧ (kd u_78 b_80 = 17) ∧ ∃ q_83 q_84 : Nat, q_83 ≤ ((((mc - q_52) - q_57) - q_64) - q_73) ∧ q_84 ≤ ((((ms - q_53) - q_58) - q_65) - q_74) ∧ pX2_after L (sFI u_78 2004 b_80 r_71) a0 (L 7) 2 (jmin 5 r_62) q_83 q_84 (fun (r_87 : Int32) (u_88 : Hp) => (kd u_88 b_80 = 17) ∧ (kd u_88 a0 = 2) ∧ ∃ b_91 : Nat, FR u_88 210 a0 = some b_91 ∧ (kd u_88 b_91 = 17) ∧ ∃ q_94 q_95 : Nat, q_94 ≤ (((((mc - q_52) - q_57) - q_64) - q_73) - q_83) ∧ q_95 ≤ (((((ms - q_53) - q_58) - q_65) - q_74) - q_84) ∧ pX2_after L (sFI u_88 2005 b_80 r_87) a0 (L 8) 1 (jmin 2 ((FI (sFI u_88 2005 b_80 r_87) 2005 b_91) - 1)) q_94 q_95 (fun (r_98 : Int32) (u_99 : Hp) => (kd u_99 b_91 = 17) ∧ (kd u_99 a0 = 2) ∧ ∀ x3_102 : Int32, x3_102 = FI (sFI u_99 2006 b_91 r_98) 207 a0 → pX2_isWord (sFI u_99 2006 b_91 r_98) a0 (L 9) (fun (r_104 : Int32) => ((r_104 = 0 → pX2_isWord (sFI u_99 2006 b_91 r_98) a0 (L 10) (fun (r_105 : Int32) => ((r_105 = 0 → pX2_fail (sFI u_99 2006 b_91 r_98) a0 1 (fun (o_106 : Option Nat) (u_107 : Hp) => ∃ b_108 : Nat, o_106 = some b_108 ∧ (kd u_107 b_108 = 3) ∧ E b_108 u_107)) ∧ (¬ r_105 = 0 → bX2_trickLine_153 K E L a0 r_62 x3_102 (sFI u_99 2006 b_91 r_98) ((((((mc - q_52) - q_57) - q_64) - q_73) - q_83) - q_94) ((((((ms - q_53) - q_58) - q_65) - q_74) - q_84) - q_95))))) ∧ (¬ r_104 = 0 → ∃ b_112 : Nat, FR u_99 210 a0 = some b_112 ∧ (kd u_99 b_112 = 17) ∧ bX2_trickLine_153 K E L a0 r_62 x3_102 (sFI (sFI u_99 2006 b_91 r_98) 2009 b_112 1) ((((((mc - q_52) - q_57) - q_64) - q_73) - q_83) - q_94) ((((((ms - q_53) - q_58) - q_65) - q_74) - q_84) - q_95))))) E) E)) ∧ (¬ jrem r_62 r_71 = 0 → (kd u_72 a0 = 2) ∧ pX2_fail u_72 a0 4 (fun (o_117 : Option Nat) (u_118 : Hp) => ∃ b_119 : Nat, o_117 = some b_119 ∧ (kd u_118 b_119 = 3) ∧ E b_119 u_118)))) E) E) E)) ∧ (¬ FI u 2003 b_49 ≤ 0 → pX2_fail u a0 3 (fun (o_123 : Option Nat) (u_124 : Hp) => ∃ b_125 : Nat, o_123 = some b_125 ∧ (kd u_124 b_125 = 3) ∧ E b_125 u_124)))
/-! X2_begins -/
def pX2_begins (L : Nat → Nat) (u : Hp) (a0 : Nat) (x1 : Int32) (mc ms : Nat) (K : Hp → Prop) (E : Nat → Hp → Prop) : Prop :=
  ((x1 = 0 → (kd u a0 = 2) ∧ pX2_fail u a0 5 (fun (o_17 : Option Nat) (u_18 : Hp) => ∃ b_19 : Nat, o_17 = some b_19 ∧ (kd u_18 b_19 = 3) ∧ E b_19 u_18)) ∧ (¬ x1 = 0 → (kd u a0 = 2) ∧ ∃ b_2 : Nat, FR u 210 a0 = some b_2 ∧ (kd u b_2 = 17) ∧ ((FI u 2003 b_2 = 0 → pX2_fail u a0 6 (fun (o_10 : Option Nat) (u_11 : Hp) => ∃ b_12 : Nat, o_10 = some b_12 ∧ (kd u_11 b_12 = 3) ∧ E b_12 u_11)) ∧ (¬ FI u 2003 b_2 = 0 → ∃ q_5 q_6 : Nat, q_5 ≤ mc ∧ q_6 ≤ ms ∧ pX2_next L u a0 q_5 q_6 (fun (u_9 : Hp) => K u_9)))))
/-! X2_newName -/
def bX2_newName_143 (K : Option Nat → Hp → Prop) (E : Nat → Hp → Prop) (L : Nat → Nat) (a0 : Nat) (x2 : Int32) (u : Hp) (mc : Nat) (ms : Nat) : Prop :=
  ((x2 = 0 → (kd u a0 = 2) ∧ pX2_fail u a0 1 (fun (o_2 : Option Nat) (u_3 : Hp) => ∃ b_4 : Nat, o_2 = some b_4 ∧ (kd u_3 b_4 = 3) ∧ E b_4 u_3)) ∧ (x2 = 1 → (kd u a0 = 2) ∧ pX2_fail u a0 1 (fun (o_9 : Option Nat) (u_10 : Hp) => ∃ b_11 : Nat, o_9 = some b_11 ∧ (kd u_10 b_11 = 3) ∧ E b_11 u_10)) ∧ (x2 = 2 → (kd u a0 = 2) ∧ pX2_fail u a0 1 (fun (o_16 : Option Nat) (u_17 : Hp) => ∃ b_18 : Nat, o_16 = some b_18 ∧ (kd u_17 b_18 = 3) ∧ E b_18 u_17)) ∧ (x2 = 3 → (kd u a0 = 2) ∧ pX2_fail u a0 1 (fun (o_23 : Option Nat) (u_24 : Hp) => ∃ b_25 : Nat, o_23 = some b_25 ∧ (kd u_24 b_25 = 3) ∧ E b_25 u_24)) ∧ (x2 = 4 → (kd u a0 = 2) ∧ pX2_fail u a0 1 (fun (o_30 : Option Nat) (u_31 : Hp) => ∃ b_32 : Nat, o_30 = some b_32 ∧ (kd u_31 b_32 = 3) ∧ E b_32 u_31)) ∧ (¬ x2 = 0 ∧ ¬ x2 = 1 ∧ ¬ x2 = 2 ∧ ¬ x2 = 3 ∧ ¬ x2 = 4 → (kd u a0 = 2) ∧ ∃ b_37 : Nat, FR u 210 a0 = some b_37 ∧ ∃ b_39 : Nat, FR u 209 a0 = some b_39 ∧ (kd u b_37 = 17) ∧ pX20_isTold u b_37 b_39 (fun (r_42 : Int32) => ((r_42 = 0 → ∃ q_43 q_44 : Nat, q_43 ≤ mc ∧ q_44 ≤ ms ∧ pX2_next L u a0 q_43 q_44 (fun (u_47 : Hp) => K (some b_39) u_47)) ∧ (¬ r_42 = 0 → pX2_fail u a0 3 (fun (o_48 : Option Nat) (u_49 : Hp) => ∃ b_50 : Nat, o_48 = some b_50 ∧ (kd u_49 b_50 = 3) ∧ E b_50 u_49))))))
def pX2_newName (L : Nat → Nat) (u : Hp) (a0 : Nat) (mc ms : Nat) (K : Option Nat → Hp → Prop) (E : Nat → Hp → Prop) : Prop :=
  (kd u a0 = 2) ∧ ((FI u 206 a0 = 2 → ∃ b_55 : Nat, FR u 209 a0 = some b_55 ∧ (kd u b_55 = 21 ∨ kd u b_55 = 201) ∧ pJ3_hashCode u b_55 (fun (r_58 : Int32) (u_59 : Hp) => ((r_58 = (-1376511864) → (kd u_59 b_55 = 21 ∨ kd u_59 b_55 = 201) ∧ pJ3_equals u_59 b_55 (L 4) (fun (r_61 : Int32) => ((r_61 = 0 → bX2_newName_143 K E L a0 (-1) u_59 mc ms) ∧ (¬ r_61 = 0 → bX2_newName_143 K E L a0 2 u_59 mc ms)))) ∧ (r_58 = (-873683940) → (kd u_59 b_55 = 21 ∨ kd u_59 b_55 = 201) ∧ pJ3_equals u_59 b_55 (L 14) (fun (r_65 : Int32) => ((r_65 = 0 → bX2_newName_143 K E L a0 (-1) u_59 mc ms) ∧ (¬ r_65 = 0 → bX2_newName_143 K E L a0 4 u_59 mc ms)))) ∧ (r_58 = 3512060 → (kd u_59 b_55 = 21 ∨ kd u_59 b_55 = 201) ∧ pJ3_equals u_59 b_55 (L 3) (fun (r_69 : Int32) => ((r_69 = 0 → bX2_newName_143 K E L a0 (-1) u_59 mc ms) ∧ (¬ r_69 = 0 → bX2_newName_143 K E L a0 1 u_59 mc ms)))) ∧ (r_58 = 109413654 → (kd u_59 b_55 = 21 ∨ kd u_59 b_55 = 201) ∧ pJ3_equals u_59 b_55 (L 13) (fun (r_73 : Int32) => ((r_73 = 0 → bX2_newName_143 K E L a0 (-1) u_59 mc ms) ∧ (¬ r_73 = 0 → bX2_newName_143 K E L a0 3 u_59 mc ms)))) ∧ (r_58 = 110628691 → (kd u_59 b_55 = 21 ∨ kd u_59 b_55 = 201) ∧ pJ3_equals u_59 b_55 (L 2) (fun (r_77 : Int32) => ((r_77 = 0 → bX2_newName_143 K E L a0 (-1) u_59 mc ms) ∧ (¬ r_77 = 0 → bX2_newName_143 K E L a0 0 u_59 mc ms)))) ∧ (¬ r_58 = (-1376511864) ∧ ¬ r_58 = (-873683940) ∧ ¬ r_58 = 3512060 ∧ ¬ r_58 = 109413654 ∧ ¬ r_58 = 110628691 → bX2_newName_143 K E L a0 (-1) u_59 mc ms)))) ∧ (¬ FI u 206 a0 = 2 → pX2_fail u a0 1 (fun (o_80 : Option Nat) (u_81 : Hp) => ∃ b_82 : Nat, o_80 = some b_82 ∧ (kd u_81 b_82 = 3) ∧ E b_82 u_81)))
/-! X2_ruleOf -/
def pX2_ruleOf (L : Nat → Nat) (u : Hp) (a0 : Nat) (a1 : Nat) (x2 : Int32) (mc ms : Nat) (K : Option Nat → Hp → Prop) (E : Nat → Hp → Prop) : Prop :=
  (kd u a0 = 2) ∧ ∃ q_1 q_2 : Nat, q_1 ≤ mc ∧ q_2 ≤ ms ∧ pX2_takes L u a0 (L 23) q_1 q_2 (fun (r_6 : Int32) (u_7 : Hp) => ((r_6 = 0 → (kd u_7 a0 = 2) ∧ ∃ q_8 q_9 : Nat, q_8 ≤ (mc - q_1) ∧ q_9 ≤ (ms - q_2) ∧ pX2_takes L u_7 a0 (L 24) q_8 q_9 (fun (r_13 : Int32) (u_14 : Hp) => ((r_13 = 0 → (kd u_14 a0 = 2) ∧ ∃ q_15 q_16 : Nat, q_15 ≤ ((mc - q_1) - q_8) ∧ q_16 ≤ ((ms - q_2) - q_9) ∧ pX2_must L u_14 a0 (L 25) q_15 q_16 (fun (u_20 : Hp) => (kd u_20 a0 = 2) ∧ pX2_keepHere L u_20 a0 (fun (r_22 : Int32) => ((r_22 = (-1) → pX2_fail u_20 a0 1 (fun (o_55 : Option Nat) (u_56 : Hp) => ∃ b_57 : Nat, o_55 = some b_57 ∧ (kd u_56 b_57 = 3) ∧ E b_57 u_56)) ∧ (¬ r_22 = (-1) → ∃ q_23 q_24 : Nat, q_23 ≤ (((mc - q_1) - q_8) - q_15) ∧ q_24 ≤ (((ms - q_2) - q_9) - q_16) ∧ pX2_next L u_20 a0 q_23 q_24 (fun (u_27 : Hp) => (kd u_27 a0 = 2) ∧ ∃ q_28 q_29 : Nat, q_28 ≤ ((((mc - q_1) - q_8) - q_15) - q_23) ∧ q_29 ≤ ((((ms - q_2) - q_9) - q_16) - q_24) ∧ pX2_must L u_27 a0 (L 26) q_28 q_29 (fun (u_33 : Hp) => (kd u_33 a0 = 2) ∧ pX2_tellHere L u_33 a0 (fun (r_35 : Int32) => ((r_35 = (-1) → pX2_fail u_33 a0 1 (fun (o_49 : Option Nat) (u_50 : Hp) => ∃ b_51 : Nat, o_49 = some b_51 ∧ (kd u_50 b_51 = 3) ∧ E b_51 u_50)) ∧ (¬ r_35 = (-1) → ∃ q_36 q_37 : Nat, q_36 ≤ (((((mc - q_1) - q_8) - q_15) - q_23) - q_28) ∧ q_37 ≤ (((((ms - q_2) - q_9) - q_16) - q_24) - q_29) ∧ pX2_next L u_33 a0 q_36 q_37 (fun (u_40 : Hp) => ∃ q_41 q_42 : Nat, q_41 ≤ ((((((mc - q_1) - q_8) - q_15) - q_23) - q_28) - q_36) ∧ q_42 ≤ ((((((ms - q_2) - q_9) - q_16) - q_24) - q_29) - q_37) ∧ pX1_spoken u_40 a1 x2 ((5 * r_22) + r_35) q_41 q_42 (fun (o_45 : Option Nat) (u_46 : Hp) => K o_45 u_46)))))) E))))) E) ∧ (¬ r_13 = 0 → 1 ≤ ((mc - q_1) - q_8) ∧ 4 ≤ ((ms - q_2) - q_9) ∧ ∀ q_61 : Nat, kd u_14 q_61 = 0 → ∃ q_66 q_67 : Nat, q_66 ≤ (((mc - q_1) - q_8) - 1) ∧ q_67 ≤ (((ms - q_2) - q_9) - 4) ∧ pX22_init (mkC u_14 q_61 19 0) q_61 a1 x2 q_66 q_67 (fun (u_70 : Hp) => K (some q_61) u_70))))) ∧ (¬ r_6 = 0 → 1 ≤ (mc - q_1) ∧ 6 ≤ (ms - q_2) ∧ ∀ q_72 : Nat, kd u_7 q_72 = 0 → ∃ q_77 q_78 : Nat, q_77 ≤ ((mc - q_1) - 1) ∧ q_78 ≤ ((ms - q_2) - 6) ∧ pX21_init (mkC u_7 q_72 18 0) q_72 a1 x2 q_77 q_78 (fun (u_81 : Hp) => K (some q_72) u_81))))
/-! X2_rule -/
def bX2_rule_17 (K : Hp → Prop) (E : Nat → Hp → Prop) (L : Nat → Nat) (a0 : Nat) (z0 : Int32) (z1 : Nat) (u : Hp) (mc : Nat) (ms : Nat) : Prop :=
  (kd u z1 = 2) ∧ ∃ q_1 q_2 : Nat, q_1 ≤ mc ∧ q_2 ≤ ms ∧ pX2_begins L u z1 z0 q_1 q_2 (fun (u_6 : Hp) => (kd u_6 a0 = 2) ∧ ∃ b_8 : Nat, FR u_6 210 a0 = some b_8 ∧ (kd u_6 b_8 = 17) ∧ ∃ b_11 : Nat, FR u_6 2000 b_8 = some b_11 ∧ ∃ q_13 q_14 : Nat, q_13 ≤ (mc - q_1) ∧ q_14 ≤ (ms - q_2) ∧ pX2_newName L u_6 a0 q_13 q_14 (fun (o_17 : Option Nat) (u_18 : Hp) => ∃ b_19 : Nat, o_17 = some b_19 ∧ (kd u_18 a0 = 2) ∧ ∃ b_22 : Nat, FR u_18 210 a0 = some b_22 ∧ (kd u_18 b_22 = 17) ∧ ∃ q_25 q_26 : Nat, q_25 ≤ ((mc - q_1) - q_13) ∧ q_26 ≤ ((ms - q_2) - q_14) ∧ pX2_ruleOf L u_18 a0 b_19 (FI u_18 2007 b_22) q_25 q_26 (fun (o_29 : Option Nat) (u_30 : Hp) => ∃ b_31 : Nat, o_29 = some b_31 ∧ (kd u_30 b_11 = 106) ∧ (isRu (kd u_30 b_31)) ∧ vp_in (FI u_6 2007 b_8) (ln u_30 b_11) ∧ (kd u_30 a0 = 2) ∧ ∃ b_37 : Nat, FR u_30 210 a0 = some b_37 ∧ (kd u_30 b_37 = 17) ∧ K (sFI (sAR u_30 b_11 (va_up (AR u_30 b_11) (tn (FI u_6 2007 b_8)) (some b_31))) 2007 b_37 ((FI u_30 2007 b_37) + 1))) E) E) E
def pX2_rule (L : Nat → Nat) (u : Hp) (a0 : Nat) (mc ms : Nat) (K : Hp → Prop) (E : Nat → Hp → Prop) : Prop :=
  (kd u a0 = 2) ∧ ∃ b_41 : Nat, FR u 210 a0 = some b_41 ∧ (kd u b_41 = 17) ∧ ((4 ≤ (FI u 2007 b_41) → bX2_rule_17 K E L a0 0 a0 u mc ms) ∧ (¬ 4 ≤ (FI u 2007 b_41) → bX2_rule_17 K E L a0 1 a0 u mc ms))
/-! X2_numbers -/
def bX2_numbers_120 (K : Int32 → Hp → Prop) (E : Nat → Hp → Prop) (L : Nat → Nat) (J9 : Int32 → Int32 → Int32 → Hp → Nat → Nat → Prop) (a0 : Nat) (x1 : Int32) (x2 : Int32) (x3 : Int32) (x4 : Int32) (x5 : Int32) (u : Hp) (mc : Nat) (ms : Nat) : Prop :=
  J9 x4 x5 0 u mc ms
def bX2_numbers_116 (K : Int32 → Hp → Prop) (E : Nat → Hp → Prop) (L : Nat → Nat) (J9 : Int32 → Int32 → Int32 → Hp → Nat → Nat → Prop) (a0 : Nat) (x1 : Int32) (x2 : Int32) (x3 : Int32) (x4 : Int32) (x5 : Int32) (u : Hp) (mc : Nat) (ms : Nat) : Prop :=
  (kd u a0 = 2) ∧ ∃ q_2 q_3 : Nat, q_2 ≤ mc ∧ q_3 ≤ ms ∧ pX2_next L u a0 q_2 q_3 (fun (u_7 : Hp) => J9 x4 x5 1 u_7 (mc - q_2) (ms - q_3))
def bX2_numbers_74 (K : Int32 → Hp → Prop) (E : Nat → Hp → Prop) (L : Nat → Nat) (J9 : Int32 → Int32 → Int32 → Hp → Nat → Nat → Prop) (a0 : Nat) (x1 : Int32) (x2 : Int32) (x3 : Int32) (x4 : Int32) (x5 : Int32) (z0 : Int32) (u : Hp) (mc : Nat) (ms : Nat) : Prop :=
  ((z0 = 0 → ((z0 = 0 → ((x2 ≤ x5 → bX2_numbers_120 K E L J9 a0 x1 x2 x3 x4 x5 u mc ms) ∧ (¬ x2 ≤ x5 → (kd u a0 = 2) ∧ ((FI u 206 a0 = 44 → bX2_numbers_116 K E L J9 a0 x1 x2 x3 x4 x5 u mc ms) ∧ (¬ FI u 206 a0 = 44 → bX2_numbers_120 K E L J9 a0 x1 x2 x3 x4 x5 u mc ms))))) ∧ (¬ z0 = 0 → bX2_numbers_116 K E L J9 a0 x1 x2 x3 x4 x5 u mc ms))) ∧ (¬ z0 = 0 → (kd u a0 = 2) ∧ ((FI u 206 a0 = 44 → ((z0 = 0 → ((x2 ≤ x5 → bX2_numbers_120 K E L J9 a0 x1 x2 x3 x4 x5 u mc ms) ∧ (¬ x2 ≤ x5 → ((FI u 206 a0 = 44 → bX2_numbers_116 K E L J9 a0 x1 x2 x3 x4 x5 u mc ms) ∧ (¬ FI u 206 a0 = 44 → bX2_numbers_120 K E L J9 a0 x1 x2 x3 x4 x5 u mc ms))))) ∧ (¬ z0 = 0 → bX2_numbers_116 K E L J9 a0 x1 x2 x3 x4 x5 u mc ms))) ∧ (¬ FI u 206 a0 = 44 → pX2_fail u a0 1 (fun (o_17 : Option Nat) (u_18 : Hp) => ∃ b_19 : Nat, o_17 = some b_19 ∧ (kd u_18 b_19 = 3) ∧ E b_19 u_18)))))
def bX2_numbers_9 (K : Int32 → Hp → Prop) (E : Nat → Hp → Prop) (L : Nat → Nat) (a0 : Nat) (x1 : Int32) (x2 : Int32) (x3 : Int32) (J9 : Int32 → Int32 → Int32 → Hp → Nat → Nat → Prop) (x4 : Int32) (x5 : Int32) (x6 : Int32) (u : Hp) (mc : Nat) (ms : Nat) : Prop :=
  ((x6 = 0 → K x4 u) ∧ (¬ x6 = 0 → (kd u a0 = 2) ∧ pX2_numberHere u a0 0 x3 (fun (r_25 : Int32) (u_26 : Hp) => pX1_has x4 r_25 (fun (r_27 : Int32) => ((r_27 = 0 → (kd u_26 a0 = 2) ∧ ∃ q_28 q_29 : Nat, q_28 ≤ mc ∧ q_29 ≤ ms ∧ pX2_next L u_26 a0 q_28 q_29 (fun (u_33 : Hp) => (kd u_33 a0 = 2) ∧ ∃ b_35 : Nat, FR u_33 203 a0 = some b_35 ∧ (kd u_33 b_35 = 101) ∧ vp_in x5 (ln u_33 b_35) ∧ ((x1 ≤ (x5 + 1) → bX2_numbers_74 K E L J9 a0 x1 x2 x3 (x4 ||| (jshl 1 r_25)) (x5 + 1) 0 (sAI u_33 b_35 (upd (AI u_33 b_35) (tn x5) r_25)) (mc - q_28) (ms - q_29)) ∧ (¬ x1 ≤ (x5 + 1) → bX2_numbers_74 K E L J9 a0 x1 x2 x3 (x4 ||| (jshl 1 r_25)) (x5 + 1) 1 (sAI u_33 b_35 (upd (AI u_33 b_35) (tn x5) r_25)) (mc - q_28) (ms - q_29))))) ∧ (¬ r_27 = 0 → (kd u_26 a0 = 2) ∧ pX2_fail u_26 a0 3 (fun (o_40 : Option Nat) (u_41 : Hp) => ∃ b_42 : Nat, o_40 = some b_42 ∧ (kd u_41 b_42 = 3) ∧ E b_42 u_41))))) E))
def pX2_numbers (L : Nat → Nat) (u : Hp) (a0 : Nat) (x1 : Int32) (x2 : Int32) (x3 : Int32) (mc ms : Nat) (K : Int32 → Hp → Prop) (E : Nat → Hp → Prop) : Prop :=
  jl6 (bX2_numbers_9 K E L a0 x1 x2 x3) 0 0 1 u mc ms
/-! X2_evening -/
def bX2_evening_173 (K : Hp → Prop) (E : Nat → Hp → Prop) (L : Nat → Nat) (a0 : Nat) (x1 : Int32) (x3 : Int32) (z0 : Int32) (z1 : Int32) (z2 : Nat) (u : Hp) (mc : Nat) (ms : Nat) : Prop :=
  (kd u z2 = 101) ∧ vp_in z1 (ln u z2) ∧ (kd u a0 = 2) ∧ ∃ b_3 : Nat, FR u 210 a0 = some b_3 ∧ (kd u b_3 = 17) ∧ ((FI u 2011 b_3 = 0 → K (sFI (sAI u z2 (upd (AI u z2) (tn z1) z0)) 2008 b_3 ((FI u 2008 b_3) + 1))) ∧ (¬ FI u 2011 b_3 = 0 → ∃ q_6 q_7 : Nat, q_6 ≤ mc ∧ q_7 ≤ ms ∧ pX2_takes L (sAI u z2 (upd (AI u z2) (tn z1) z0)) a0 (L 14) q_6 q_7 (fun (r_10 : Int32) (u_11 : Hp) => ((r_10 = 0 → (kd u_11 a0 = 2) ∧ ∃ b_13 : Nat, FR u_11 210 a0 = some b_13 ∧ (kd u_11 b_13 = 17) ∧ K (sFI u_11 2008 b_13 ((FI u_11 2008 b_13) + 1))) ∧ (¬ r_10 = 0 → (kd u_11 a0 = 2) ∧ ∃ b_17 : Nat, FR u_11 210 a0 = some b_17 ∧ (kd u_11 b_17 = 17) ∧ ∃ b_20 : Nat, FR u_11 2002 b_17 = some b_20 ∧ (kd u_11 b_20 = 101) ∧ vp_in x1 (ln u_11 b_20) ∧ ∃ q_23 q_24 : Nat, q_23 ≤ (mc - q_6) ∧ q_24 ≤ (ms - q_7) ∧ pX2_numbers L u_11 a0 1 6 (x3 - 1) q_23 q_24 (fun (r_27 : Int32) (u_28 : Hp) => (kd u_28 b_20 = 101) ∧ vp_in x1 (ln u_28 b_20) ∧ (kd u_28 a0 = 2) ∧ ∃ b_31 : Nat, FR u_28 210 a0 = some b_31 ∧ (kd u_28 b_31 = 17) ∧ K (sFI (sAI u_28 b_20 (upd (AI u_28 b_20) (tn x1) ((AI u_11 b_20 (tn x1)) + r_27))) 2008 b_31 ((FI u_28 2008 b_31) + 1))) E)))))
def bX2_evening_104 (K : Hp → Prop) (E : Nat → Hp → Prop) (L : Nat → Nat) (a0 : Nat) (x1 : Int32) (z0 : Int32) (z1 : Int32) (z2 : Nat) (u : Hp) (mc : Nat) (ms : Nat) : Prop :=
  (kd u z2 = 101) ∧ vp_in z1 (ln u z2) ∧ (kd u a0 = 2) ∧ ∃ q_37 q_38 : Nat, q_37 ≤ mc ∧ q_38 ≤ ms ∧ pX2_must L (sAI u z2 (upd (AI u z2) (tn z1) z0)) a0 (L 13) q_37 q_38 (fun (u_42 : Hp) => (kd u_42 a0 = 2) ∧ ∃ b_44 : Nat, FR u_42 210 a0 = some b_44 ∧ (kd u_42 b_44 = 17) ∧ pX20_rows u_42 b_44 (fun (r_47 : Int32) => ∃ q_48 q_49 : Nat, q_48 ≤ (mc - q_37) ∧ q_49 ≤ (ms - q_38) ∧ pX2_numbers L u_42 a0 r_47 r_47 ((FI u_42 2003 b_44) - 1) q_48 q_49 (fun (r_52 : Int32) (u_53 : Hp) => (kd u_53 a0 = 2) ∧ ∃ b_55 : Nat, FR u_53 210 a0 = some b_55 ∧ (kd u_53 b_55 = 17) ∧ ∃ b_58 : Nat, FR u_53 2002 b_55 = some b_58 ∧ ((r_52 = 0 → bX2_evening_173 K E L a0 x1 r_47 0 x1 b_58 u_53 ((mc - q_37) - q_48) ((ms - q_38) - q_49)) ∧ (¬ r_52 = 0 → ∃ b_60 : Nat, FR u_53 203 a0 = some b_60 ∧ pX20_rank u_53 b_55 b_60 r_47 (fun (r_62 : Int32) => pX20_tiltings u_53 b_55 (fun (r_63 : Int32) => bX2_evening_173 K E L a0 x1 r_47 (r_62 * r_63) x1 b_58 u_53 ((mc - q_37) - q_48) ((ms - q_38) - q_49)))))) E)) E
def bX2_evening_18 (K : Hp → Prop) (E : Nat → Hp → Prop) (L : Nat → Nat) (a0 : Nat) (z0 : Int32) (z1 : Nat) (u : Hp) (mc : Nat) (ms : Nat) : Prop :=
  (kd u z1 = 2) ∧ ∃ q_65 q_66 : Nat, q_65 ≤ mc ∧ q_66 ≤ ms ∧ pX2_begins L u z1 z0 q_65 q_66 (fun (u_70 : Hp) => (kd u_70 a0 = 2) ∧ ∃ b_72 : Nat, FR u_70 210 a0 = some b_72 ∧ (kd u_70 b_72 = 17) ∧ ∃ q_75 q_76 : Nat, q_75 ≤ (mc - q_65) ∧ q_76 ≤ (ms - q_66) ∧ pX2_numbers L u_70 a0 (FI u_70 2005 b_72) (FI u_70 2005 b_72) ((FI u_70 2003 b_72) - 1) q_75 q_76 (fun (r_79 : Int32) (u_80 : Hp) => (kd u_80 a0 = 2) ∧ ∃ b_82 : Nat, FR u_80 210 a0 = some b_82 ∧ (kd u_80 b_82 = 17) ∧ ∃ b_85 : Nat, FR u_80 2001 b_82 = some b_85 ∧ ((FI u_80 2009 b_82 = 0 → pX20_rankSet u_80 b_82 r_79 (fun (r_87 : Int32) => bX2_evening_104 K E L a0 (FI u_70 2008 b_72) r_87 (FI u_70 2008 b_72) b_85 u_80 ((mc - q_65) - q_75) ((ms - q_66) - q_76))) ∧ (¬ FI u_80 2009 b_82 = 0 → ∃ b_88 : Nat, FR u_80 203 a0 = some b_88 ∧ pX20_rank u_80 b_82 b_88 (FI u_80 2005 b_82) (fun (r_90 : Int32) => bX2_evening_104 K E L a0 (FI u_70 2008 b_72) r_90 (FI u_70 2008 b_72) b_85 u_80 ((mc - q_65) - q_75) ((ms - q_66) - q_76))))) E) E
def pX2_evening (L : Nat → Nat) (u : Hp) (a0 : Nat) (mc ms : Nat) (K : Hp → Prop) (E : Nat → Hp → Prop) : Prop :=
  (kd u a0 = 2) ∧ ∃ b_93 : Nat, FR u 210 a0 = some b_93 ∧ (kd u b_93 = 17) ∧ ((9 ≤ (FI u 2008 b_93) → bX2_evening_18 K E L a0 0 a0 u mc ms) ∧ (¬ 9 ≤ (FI u 2008 b_93) → bX2_evening_18 K E L a0 1 a0 u mc ms))
/-! X2_line -/
def bX2_line_99 (K : Hp → Prop) (E : Nat → Hp → Prop) (L : Nat → Nat) (a0 : Nat) (x2 : Int32) (u : Hp) (mc : Nat) (ms : Nat) : Prop :=
  ((x2 = 0 → (kd u a0 = 2) ∧ ∃ q_1 q_2 : Nat, q_1 ≤ mc ∧ q_2 ≤ ms ∧ pX2_trickLine L u a0 q_1 q_2 (fun (u_6 : Hp) => K u_6) E) ∧ (x2 = 1 → (kd u a0 = 2) ∧ ∃ q_8 q_9 : Nat, q_8 ≤ mc ∧ q_9 ≤ ms ∧ pX2_rule L u a0 q_8 q_9 (fun (u_13 : Hp) => K u_13) E) ∧ (x2 = 2 → (kd u a0 = 2) ∧ ∃ q_15 q_16 : Nat, q_15 ≤ mc ∧ q_16 ≤ ms ∧ pX2_evening L u a0 q_15 q_16 (fun (u_20 : Hp) => K u_20) E) ∧ (¬ x2 = 0 ∧ ¬ x2 = 1 ∧ ¬ x2 = 2 → (kd u a0 = 2) ∧ pX2_fail u a0 1 (fun (o_23 : Option Nat) (u_24 : Hp) => ∃ b_25 : Nat, o_23 = some b_25 ∧ (kd u_24 b_25 = 3) ∧ E b_25 u_24)))
def pX2_line (L : Nat → Nat) (u : Hp) (a0 : Nat) (mc ms : Nat) (K : Hp → Prop) (E : Nat → Hp → Prop) : Prop :=
  (kd u a0 = 2) ∧ ((FI u 206 a0 = 2 → ∃ b_29 : Nat, FR u 209 a0 = some b_29 ∧ (kd u b_29 = 21 ∨ kd u b_29 = 201) ∧ pJ3_hashCode u b_29 (fun (r_32 : Int32) (u_33 : Hp) => ((r_32 = (-1376511864) → (kd u_33 b_29 = 21 ∨ kd u_33 b_29 = 201) ∧ pJ3_equals u_33 b_29 (L 4) (fun (r_35 : Int32) => ((r_35 = 0 → bX2_line_99 K E L a0 (-1) u_33 mc ms) ∧ (¬ r_35 = 0 → bX2_line_99 K E L a0 2 u_33 mc ms)))) ∧ (r_32 = 3512060 → (kd u_33 b_29 = 21 ∨ kd u_33 b_29 = 201) ∧ pJ3_equals u_33 b_29 (L 3) (fun (r_39 : Int32) => ((r_39 = 0 → bX2_line_99 K E L a0 (-1) u_33 mc ms) ∧ (¬ r_39 = 0 → bX2_line_99 K E L a0 1 u_33 mc ms)))) ∧ (r_32 = 110628691 → (kd u_33 b_29 = 21 ∨ kd u_33 b_29 = 201) ∧ pJ3_equals u_33 b_29 (L 2) (fun (r_43 : Int32) => ((r_43 = 0 → bX2_line_99 K E L a0 (-1) u_33 mc ms) ∧ (¬ r_43 = 0 → bX2_line_99 K E L a0 0 u_33 mc ms)))) ∧ (¬ r_32 = (-1376511864) ∧ ¬ r_32 = 3512060 ∧ ¬ r_32 = 110628691 → bX2_line_99 K E L a0 (-1) u_33 mc ms)))) ∧ (¬ FI u 206 a0 = 2 → pX2_fail u a0 1 (fun (o_46 : Option Nat) (u_47 : Hp) => ∃ b_48 : Nat, o_46 = some b_48 ∧ (kd u_47 b_48 = 3) ∧ E b_48 u_47)))
/-! X2_read -/
def bX2_read_29 (K : Option Nat → Hp → Prop) (E : Nat → Hp → Prop) (L : Nat → Nat) (a0 : Nat) (J29 : Hp → Nat → Nat → Prop) (u : Hp) (mc : Nat) (ms : Nat) : Prop :=
  (kd u a0 = 2) ∧ ((FI u 206 a0 = 59 → ∃ q_8 q_9 : Nat, q_8 ≤ mc ∧ q_9 ≤ ms ∧ pX2_next L u a0 q_8 q_9 (fun (u_12 : Hp) => (kd u_12 a0 = 2) ∧ ∃ q_13 q_14 : Nat, q_13 ≤ (mc - q_8) ∧ q_14 ≤ (ms - q_9) ∧ pX2_line L u_12 a0 q_13 q_14 (fun (u_18 : Hp) => J29 u_18 ((mc - q_8) - q_13) ((ms - q_9) - q_14)) E)) ∧ (¬ FI u 206 a0 = 59 → ((FI u 206 a0 = 0 → K (FR u 210 a0) u) ∧ (¬ FI u 206 a0 = 0 → pX2_fail u a0 1 (fun (o_2 : Option Nat) (u_3 : Hp) => ∃ b_4 : Nat, o_2 = some b_4 ∧ (kd u_3 b_4 = 3) ∧ E b_4 u_3)))))
def pX2_read (L : Nat → Nat) (u : Hp) (a0 : Nat) (x1 : Int32) (mc ms : Nat) (K : Option Nat → Hp → Prop) (E : Nat → Hp → Prop) : Prop :=
  (kd u a0 = 2) ∧ 1 ≤ mc ∧ 13 ≤ ms ∧ ∀ q_21 : Nat, kd u q_21 = 0 → ∃ q_27 q_28 : Nat, q_27 ≤ (mc - 1) ∧ q_28 ≤ (ms - 13) ∧ pX20_init (mkC (sFI (sFI u 204 a0 x1) 205 a0 0) q_21 17 0) q_21 q_27 q_28 (fun (u_31 : Hp) => (kd u_31 a0 = 2) ∧ ∃ q_33 q_34 : Nat, q_33 ≤ ((mc - 1) - q_27) ∧ q_34 ≤ ((ms - 13) - q_28) ∧ pX2_next L (sFR u_31 210 a0 (some q_21)) a0 q_33 q_34 (fun (u_37 : Hp) => (kd u_37 a0 = 2) ∧ ∃ q_38 q_39 : Nat, q_38 ≤ (((mc - 1) - q_27) - q_33) ∧ q_39 ≤ (((ms - 13) - q_28) - q_34) ∧ pX2_line L u_37 a0 q_38 q_39 (fun (u_43 : Hp) => jl3 (bX2_read_29 K E L a0) u_43 ((((mc - 1) - q_27) - q_33) - q_38) ((((ms - 13) - q_28) - q_34) - q_39)) E))
/-! X1_trick -/
def bX1_trick_142 (K : Int32 → Hp → Prop) (L : Nat → Nat) (a0 : Nat) (mc : Nat) (ms : Nat) (J142 : Int32 → Hp → Prop) (x2 : Int32) (u : Hp) : Prop :=
  (kd u a0 = 1) ∧ ∃ b_2 : Nat, FR u 103 a0 = some b_2 ∧ (kd u b_2 = 17) ∧ ((FI u 2008 b_2 ≤ x2 → K (FI (sFI u 107 a0 0) 2007 b_2) (sFI u 107 a0 0)) ∧ (¬ FI u 2008 b_2 ≤ x2 → ∃ b_5 : Nat, FR u 111 a0 = some b_5 ∧ ∃ b_7 : Nat, FR u 2001 b_2 = some b_7 ∧ (kd u b_7 = 101) ∧ vp_in x2 (ln u b_7) ∧ ∃ b_10 : Nat, FR u 2002 b_2 = some b_10 ∧ (kd u b_10 = 101) ∧ vp_in x2 (ln u b_10) ∧ (kd u b_5 = 5) ∧ pX5_add u b_5 (AI u b_7 (tn x2)) (AI u b_10 (tn x2)) (fun (u_14 : Hp) => J142 (x2 + 1) u_14)))
def bX1_trick_102 (K : Int32 → Hp → Prop) (L : Nat → Nat) (a0 : Nat) (mc : Nat) (ms : Nat) (J102 : Int32 → Hp → Prop) (x2 : Int32) (u : Hp) : Prop :=
  ((20 ≤ x2 → (kd u a0 = 1) ∧ ∃ b_17 : Nat, FR u 111 a0 = some b_17 ∧ (kd u b_17 = 5) ∧ jl2 (bX1_trick_142 K L a0 mc ms) 0 (sFI (sFI u 502 b_17 0) 503 b_17 0)) ∧ (¬ 20 ≤ x2 → (kd u a0 = 1) ∧ ∃ b_21 : Nat, FR u 110 a0 = some b_21 ∧ (kd u b_21 = 106 ∨ kd u b_21 = 107) ∧ vp_in x2 (ln u b_21) ∧ ∃ b_24 : Nat, AR u b_21 (tn x2) = some b_24 ∧ (isRu (kd u b_24)) ∧ J102 (x2 + 1) (sFI u 1703 b_24 0)))
def pX1_trick (L : Nat → Nat) (u : Hp) (a0 : Nat) (x1 : Int32) (mc ms : Nat) (K : Int32 → Hp → Prop) : Prop :=
  (kd u a0 = 1) ∧ pX1_anew u a0 (fun (u_30 : Hp) => (kd u_30 a0 = 1) ∧ pX1_in x1 0 (FI u_30 101 a0) (fun (r_32 : Int32) => ((r_32 = 0 → pX1_no u_30 a0 2 (fun (r_57 : Int32) (u_58 : Hp) => K r_57 u_58)) ∧ (¬ r_32 = 0 → ∃ b_33 : Nat, FR u_30 102 a0 = some b_33 ∧ (kd u_30 b_33 = 2) ∧ ∃ q_35 q_36 : Nat, q_35 ≤ mc ∧ q_36 ≤ ms ∧ pX2_read L (sFI (sFI u_30 101 a0 0) 105 a0 0) b_33 x1 q_35 q_36 (fun (o_40 : Option Nat) (u_41 : Hp) => ∃ b_42 : Nat, o_40 = some b_42 ∧ (kd u_41 a0 = 1) ∧ (kd u_41 b_42 = 17) ∧ pX20_hands (sFR u_41 103 a0 (some b_42)) b_42 (FI u_41 2003 b_42) (fun (r_46 : Int64) => ∃ b_47 : Nat, FR (sFR u_41 103 a0 (some b_42)) 109 a0 = some b_47 ∧ (kd u_41 b_47 = 4) ∧ pX4_lay (sFI (sFR u_41 103 a0 (some b_42)) 108 a0 (r_46.toInt32)) b_47 b_42 (fun (u_50 : Hp) => jl2 (bX1_trick_102 K L a0 (mc - q_35) (ms - q_36)) 0 u_50))) (fun (q_51 : Nat) (u_52 : Hp) => (kd u_52 q_51 = 3) ∧ (kd u_52 a0 = 1) ∧ pX1_no (sFI (sFI u_52 105 a0 (FI u_52 306 q_51)) 106 a0 (FI (sFI u_52 105 a0 (FI u_52 306 q_51)) 307 q_51)) a0 4 (fun (r_55 : Int32) (u_56 : Hp) => K r_55 u_56))))))
/-! X1_led -/
def bX1_led_5 (K : Int32 → Hp → Prop) (E : Nat → Hp → Prop) (a0 : Nat) (x1 : Int32) (x2 : Int32) (mc : Nat) (ms : Nat) (J5 : Int32 → Int32 → Hp → Prop) (x3 : Int32) (x4 : Int32) (u : Hp) : Prop :=
  (kd u a0 = 1) ∧ pX1_isRule u a0 x1 (fun (r_2 : Int32) => ((r_2 = 0 → 1 ≤ mc ∧ 6 ≤ ms ∧ ∀ q : Nat, E q u) ∧ (¬ r_2 = 0 → ((FI u 108 a0 ≤ x4 → 1 ≤ mc ∧ 6 ≤ ms ∧ ∀ q : Nat, E q u) ∧ (¬ FI u 108 a0 ≤ x4 → pX1_rowOf u a0 x1 x4 (fun (r_11 : Int32) (u_12 : Hp) => ((r_11 = (-2) → ((x3 = x2 → K x4 u_12) ∧ (¬ x3 = x2 → J5 (x3 + 1) (x4 + 1) u_12))) ∧ (¬ r_11 = (-2) → J5 x3 (x4 + 1) u_12))))))))
def pX1_led (u : Hp) (a0 : Nat) (x1 : Int32) (x2 : Int32) (mc ms : Nat) (K : Int32 → Hp → Prop) (E : Nat → Hp → Prop) : Prop :=
  jl3 (bX1_led_5 K E a0 x1 x2 mc ms) 0 0 u
/-! X0_led -/
def pX0_led (u : Hp) (a0 : Nat) (x1 : Int32) (x2 : Int32) (a3 : Nat) (mc ms : Nat) (K : Int32 → Hp → Prop) : Prop :=
  (kd u a0 = 1) ∧ ∃ q_1 q_2 : Nat, q_1 ≤ mc ∧ q_2 ≤ ms ∧ pX1_led u a0 x1 x2 q_1 q_2 (fun (r_6 : Int32) (u_7 : Hp) => (kd u_7 a3 = 105) ∧ vp_in 0 (ln u_7 a3) ∧ K 0 (sAJ u_7 a3 (vp_updL (AJ u_7 a3) (tn 0) (r_6.toInt64)))) (fun (q_9 : Nat) (u_10 : Hp) => K 1 u_10)
/-! L_law -/
def bL_law_1552 (K : Int32 → Hp → Prop) (L : Nat → Nat) (J23 : Int32 → Hp → Nat → Nat → Prop) (a0 : Nat) (a1 : Nat) (a2 : Nat) (a3 : Nat) (x4 : Int32) (u : Hp) (mc : Nat) (ms : Nat) : Prop :=
  (kd u a1 = 1) ∧ pX1_trouble u a1 (fun (r_2 : Int32) => (kd u a2 = 16) ∧ pX19_trouble u a2 (fun (r_4 : Int32) (u_5 : Hp) => ((r_2 = r_4 → J23 (x4 + 6) u_5 mc ms) ∧ (¬ r_2 = r_4 → K 0 u_5))))
def bL_law_1527 (K : Int32 → Hp → Prop) (L : Nat → Nat) (J23 : Int32 → Hp → Nat → Nat → Prop) (a0 : Nat) (a1 : Nat) (a2 : Nat) (a3 : Nat) (x4 : Int32) (u : Hp) (mc : Nat) (ms : Nat) : Prop :=
  (kd u a0 = 203) ∧ vp_in (x4 + 1) (ln u a0) ∧ (kd u a1 = 1) ∧ pX1_words u a1 (AI u a0 (tn (x4 + 1))) (fun (r_9 : Int32) => vp_in (x4 + 1) (ln u a0) ∧ (kd u a2 = 16) ∧ pX19_words u a2 (AI u a0 (tn (x4 + 1))) (fun (r_11 : Int32) (u_12 : Hp) => ((r_9 = r_11 → J23 (x4 + 6) u_12 mc ms) ∧ (¬ r_9 = r_11 → K 0 u_12))))
def bL_law_1502 (K : Int32 → Hp → Prop) (L : Nat → Nat) (J23 : Int32 → Hp → Nat → Nat → Prop) (a0 : Nat) (a1 : Nat) (a2 : Nat) (a3 : Nat) (x4 : Int32) (u : Hp) (mc : Nat) (ms : Nat) : Prop :=
  (kd u a0 = 203) ∧ vp_in (x4 + 1) (ln u a0) ∧ (kd u a1 = 1) ∧ pX1_size u a1 (AI u a0 (tn (x4 + 1))) (fun (r_16 : Int32) => vp_in (x4 + 1) (ln u a0) ∧ (kd u a2 = 16) ∧ pX19_size u a2 (AI u a0 (tn (x4 + 1))) (fun (r_18 : Int32) (u_19 : Hp) => ((r_16 = r_18 → J23 (x4 + 6) u_19 mc ms) ∧ (¬ r_16 = r_18 → K 0 u_19))))
def bL_law_1434 (K : Int32 → Hp → Prop) (L : Nat → Nat) (J23 : Int32 → Hp → Nat → Nat → Prop) (a0 : Nat) (a1 : Nat) (a2 : Nat) (a3 : Nat) (x4 : Int32) (u : Hp) (mc : Nat) (ms : Nat) : Prop :=
  (kd u a0 = 203) ∧ vp_in (x4 + 1) (ln u a0) ∧ vp_in (x4 + 2) (ln u a0) ∧ ∃ q_22 q_23 : Nat, q_22 ≤ mc ∧ q_23 ≤ ms ∧ pX0_led u a1 (AI u a0 (tn (x4 + 1))) (AI u a0 (tn (x4 + 2))) a3 q_22 q_23 (fun (r_26 : Int32) (u_27 : Hp) => (kd u_27 a0 = 203) ∧ vp_in (x4 + 1) (ln u_27 a0) ∧ vp_in (x4 + 2) (ln u_27 a0) ∧ (kd u_27 a2 = 16) ∧ pX19_led u_27 a2 (AI u_27 a0 (tn (x4 + 1))) (AI u_27 a0 (tn (x4 + 2))) (fun (r_30 : Int32) (u_31 : Hp) => (kd u_31 a2 = 16) ∧ pX19_thrown u_31 a2 (fun (r_33 : Int32) => ((r_33 = r_26 → ((r_26 = 0 → (kd u_31 a3 = 105) ∧ vp_in 0 (ln u_31 a3) ∧ ((lg_cmp (AJ u_31 a3 (tn 0)) (r_30.toInt64) = 0 → J23 (x4 + 6) u_31 (mc - q_22) (ms - q_23)) ∧ (¬ lg_cmp (AJ u_31 a3 (tn 0)) (r_30.toInt64) = 0 → K 0 u_31))) ∧ (¬ r_26 = 0 → J23 (x4 + 6) u_31 (mc - q_22) (ms - q_23)))) ∧ (¬ r_33 = r_26 → K 0 u_31)))))
def bL_law_1409 (K : Int32 → Hp → Prop) (L : Nat → Nat) (J23 : Int32 → Hp → Nat → Nat → Prop) (a0 : Nat) (a1 : Nat) (a2 : Nat) (a3 : Nat) (x4 : Int32) (u : Hp) (mc : Nat) (ms : Nat) : Prop :=
  (kd u a0 = 203) ∧ vp_in (x4 + 1) (ln u a0) ∧ (kd u a1 = 1) ∧ pX1_back u a1 (AI u a0 (tn (x4 + 1))) (fun (r_40 : Int32) (u_41 : Hp) => (kd u_41 a0 = 203) ∧ vp_in (x4 + 1) (ln u_41 a0) ∧ (kd u_41 a2 = 16) ∧ pX19_back u_41 a2 (AI u_41 a0 (tn (x4 + 1))) (fun (r_44 : Int32) (u_45 : Hp) => ((r_40 = r_44 → J23 (x4 + 6) u_45 mc ms) ∧ (¬ r_40 = r_44 → K 0 u_45))))
def bL_law_1396 (K : Int32 → Hp → Prop) (L : Nat → Nat) (J23 : Int32 → Hp → Nat → Nat → Prop) (a0 : Nat) (a1 : Nat) (a2 : Nat) (a3 : Nat) (x4 : Int32) (u : Hp) (mc : Nat) (ms : Nat) : Prop :=
  (kd u a1 = 1) ∧ pX1_image u a1 (fun (r_48 : Int32) (u_49 : Hp) => (kd u_49 a2 = 16) ∧ pX19_image u_49 a2 (fun (r_51 : Int32) (u_52 : Hp) => ((r_48 = r_51 → J23 (x4 + 6) u_52 mc ms) ∧ (¬ r_48 = r_51 → K 0 u_52))))
def bL_law_1383 (K : Int32 → Hp → Prop) (L : Nat → Nat) (J23 : Int32 → Hp → Nat → Nat → Prop) (a0 : Nat) (a1 : Nat) (a2 : Nat) (a3 : Nat) (x4 : Int32) (u : Hp) (mc : Nat) (ms : Nat) : Prop :=
  (kd u a1 = 1) ∧ pX1_strike u a1 (fun (r_55 : Int32) (u_56 : Hp) => (kd u_56 a2 = 16) ∧ pX19_strike u_56 a2 (fun (r_58 : Int32) (u_59 : Hp) => ((r_55 = r_58 → J23 (x4 + 6) u_59 mc ms) ∧ (¬ r_55 = r_58 → K 0 u_59))))
def bL_law_1370 (K : Int32 → Hp → Prop) (L : Nat → Nat) (J23 : Int32 → Hp → Nat → Nat → Prop) (a0 : Nat) (a1 : Nat) (a2 : Nat) (a3 : Nat) (x4 : Int32) (u : Hp) (mc : Nat) (ms : Nat) : Prop :=
  (kd u a1 = 1) ∧ pX1_draw u a1 (fun (r_62 : Int32) (u_63 : Hp) => (kd u_63 a2 = 16) ∧ pX19_draw u_63 a2 (fun (r_65 : Int32) (u_66 : Hp) => ((r_62 = r_65 → J23 (x4 + 6) u_66 mc ms) ∧ (¬ r_62 = r_65 → K 0 u_66))))
def bL_law_1345 (K : Int32 → Hp → Prop) (L : Nat → Nat) (J23 : Int32 → Hp → Nat → Nat → Prop) (a0 : Nat) (a1 : Nat) (a2 : Nat) (a3 : Nat) (x4 : Int32) (u : Hp) (mc : Nat) (ms : Nat) : Prop :=
  (kd u a0 = 203) ∧ vp_in (x4 + 1) (ln u a0) ∧ (kd u a1 = 1) ∧ pX1_seed u a1 (AI u a0 (tn (x4 + 1))) (fun (r_70 : Int32) (u_71 : Hp) => (kd u_71 a0 = 203) ∧ vp_in (x4 + 1) (ln u_71 a0) ∧ (kd u_71 a2 = 16) ∧ pX19_seed u_71 a2 (AI u_71 a0 (tn (x4 + 1))) (fun (r_74 : Int32) (u_75 : Hp) => ((r_70 = r_74 → J23 (x4 + 6) u_75 mc ms) ∧ (¬ r_70 = r_74 → K 0 u_75))))
def bL_law_1308 (K : Int32 → Hp → Prop) (L : Nat → Nat) (J23 : Int32 → Hp → Nat → Nat → Prop) (a0 : Nat) (a1 : Nat) (a2 : Nat) (a3 : Nat) (x4 : Int32) (u : Hp) (mc : Nat) (ms : Nat) : Prop :=
  (kd u a0 = 203) ∧ vp_in (x4 + 1) (ln u a0) ∧ vp_in (x4 + 2) (ln u a0) ∧ (kd u a1 = 1) ∧ pX1_shows u a1 (AI u a0 (tn (x4 + 1))) (AI u a0 (tn (x4 + 2))) (fun (r_79 : Int32) (u_80 : Hp) => (kd u_80 a0 = 203) ∧ vp_in (x4 + 1) (ln u_80 a0) ∧ vp_in (x4 + 2) (ln u_80 a0) ∧ (kd u_80 a2 = 16) ∧ pX19_shows u_80 a2 (AI u_80 a0 (tn (x4 + 1))) (AI u_80 a0 (tn (x4 + 2))) (fun (r_83 : Int32) (u_84 : Hp) => ((r_79 = r_83 → J23 (x4 + 6) u_84 mc ms) ∧ (¬ r_79 = r_83 → K 0 u_84))))
def bL_law_1295 (K : Int32 → Hp → Prop) (L : Nat → Nat) (J23 : Int32 → Hp → Nat → Nat → Prop) (a0 : Nat) (a1 : Nat) (a2 : Nat) (a3 : Nat) (x4 : Int32) (u : Hp) (mc : Nat) (ms : Nat) : Prop :=
  (kd u a1 = 1) ∧ pX1_hardest u a1 (fun (r_87 : Int32) (u_88 : Hp) => (kd u_88 a2 = 16) ∧ pX19_hardest u_88 a2 (fun (r_90 : Int32) (u_91 : Hp) => ((r_87 = r_90 → J23 (x4 + 6) u_91 mc ms) ∧ (¬ r_87 = r_90 → K 0 u_91))))
def bL_law_1257 (K : Int32 → Hp → Prop) (L : Nat → Nat) (J23 : Int32 → Hp → Nat → Nat → Prop) (a0 : Nat) (a1 : Nat) (a2 : Nat) (a3 : Nat) (x4 : Int32) (z0 : Int32) (z1 : Int32) (z2 : Int32) (z3 : Nat) (u : Hp) (mc : Nat) (ms : Nat) : Prop :=
  (kd u z3 = 1) ∧ pX1_mean u z3 z2 z1 z0 (fun (r_94 : Int32) (u_95 : Hp) => (kd u_95 a0 = 203) ∧ vp_in (x4 + 1) (ln u_95 a0) ∧ vp_in (x4 + 2) (ln u_95 a0) ∧ vp_in (x4 + 3) (ln u_95 a0) ∧ ((AI u_95 a0 (tn (x4 + 3)) = 0 → (kd u_95 a2 = 16) ∧ pX19_mean u_95 a2 (AI u_95 a0 (tn (x4 + 1))) (AI u_95 a0 (tn (x4 + 2))) 0 (fun (r_98 : Int32) (u_99 : Hp) => ((r_94 = r_98 → J23 (x4 + 6) u_99 mc ms) ∧ (¬ r_94 = r_98 → K 0 u_99)))) ∧ (¬ AI u_95 a0 (tn (x4 + 3)) = 0 → (kd u_95 a2 = 16) ∧ pX19_mean u_95 a2 (AI u_95 a0 (tn (x4 + 1))) (AI u_95 a0 (tn (x4 + 2))) 1 (fun (r_102 : Int32) (u_103 : Hp) => ((r_94 = r_102 → J23 (x4 + 6) u_103 mc ms) ∧ (¬ r_94 = r_102 → K 0 u_103))))))
def bL_law_1230 (K : Int32 → Hp → Prop) (L : Nat → Nat) (J23 : Int32 → Hp → Nat → Nat → Prop) (a0 : Nat) (a1 : Nat) (a2 : Nat) (a3 : Nat) (x4 : Int32) (u : Hp) (mc : Nat) (ms : Nat) : Prop :=
  (kd u a0 = 203) ∧ vp_in (x4 + 1) (ln u a0) ∧ vp_in (x4 + 2) (ln u a0) ∧ vp_in (x4 + 3) (ln u a0) ∧ ((AI u a0 (tn (x4 + 3)) = 0 → bL_law_1257 K L J23 a0 a1 a2 a3 x4 0 (AI u a0 (tn (x4 + 2))) (AI u a0 (tn (x4 + 1))) a1 u mc ms) ∧ (¬ AI u a0 (tn (x4 + 3)) = 0 → bL_law_1257 K L J23 a0 a1 a2 a3 x4 1 (AI u a0 (tn (x4 + 2))) (AI u a0 (tn (x4 + 1))) a1 u mc ms))
def bL_law_1193 (K : Int32 → Hp → Prop) (L : Nat → Nat) (J23 : Int32 → Hp → Nat → Nat → Prop) (a0 : Nat) (a1 : Nat) (a2 : Nat) (a3 : Nat) (x4 : Int32) (u : Hp) (mc : Nat) (ms : Nat) : Prop :=
  (kd u a0 = 203) ∧ vp_in (x4 + 1) (ln u a0) ∧ vp_in (x4 + 2) (ln u a0) ∧ (kd u a1 = 1) ∧ pX1_apart u a1 (AI u a0 (tn (x4 + 1))) (AI u a0 (tn (x4 + 2))) (fun (r_110 : Int32) (u_111 : Hp) => (kd u_111 a0 = 203) ∧ vp_in (x4 + 1) (ln u_111 a0) ∧ vp_in (x4 + 2) (ln u_111 a0) ∧ (kd u_111 a2 = 16) ∧ pX19_apart u_111 a2 (AI u_111 a0 (tn (x4 + 1))) (AI u_111 a0 (tn (x4 + 2))) (fun (r_114 : Int32) (u_115 : Hp) => ((r_110 = r_114 → J23 (x4 + 6) u_115 mc ms) ∧ (¬ r_110 = r_114 → K 0 u_115))))
def bL_law_1180 (K : Int32 → Hp → Prop) (L : Nat → Nat) (J23 : Int32 → Hp → Nat → Nat → Prop) (a0 : Nat) (a1 : Nat) (a2 : Nat) (a3 : Nat) (x4 : Int32) (u : Hp) (mc : Nat) (ms : Nat) : Prop :=
  (kd u a1 = 1) ∧ pX1_found u a1 (fun (r_118 : Int32) (u_119 : Hp) => (kd u_119 a2 = 16) ∧ pX19_found u_119 a2 (fun (r_121 : Int32) (u_122 : Hp) => ((r_118 = r_121 → J23 (x4 + 6) u_122 mc ms) ∧ (¬ r_118 = r_121 → K 0 u_122))))
def bL_law_1155 (K : Int32 → Hp → Prop) (L : Nat → Nat) (J23 : Int32 → Hp → Nat → Nat → Prop) (a0 : Nat) (a1 : Nat) (a2 : Nat) (a3 : Nat) (x4 : Int32) (u : Hp) (mc : Nat) (ms : Nat) : Prop :=
  (kd u a0 = 203) ∧ vp_in (x4 + 1) (ln u a0) ∧ (kd u a1 = 1) ∧ pX1_wrong u a1 (AI u a0 (tn (x4 + 1))) (fun (r_126 : Int32) (u_127 : Hp) => (kd u_127 a0 = 203) ∧ vp_in (x4 + 1) (ln u_127 a0) ∧ (kd u_127 a2 = 16) ∧ pX19_wrong u_127 a2 (AI u_127 a0 (tn (x4 + 1))) (fun (r_130 : Int32) (u_131 : Hp) => ((r_126 = r_130 → J23 (x4 + 6) u_131 mc ms) ∧ (¬ r_126 = r_130 → K 0 u_131))))
def bL_law_1130 (K : Int32 → Hp → Prop) (L : Nat → Nat) (J23 : Int32 → Hp → Nat → Nat → Prop) (a0 : Nat) (a1 : Nat) (a2 : Nat) (a3 : Nat) (x4 : Int32) (u : Hp) (mc : Nat) (ms : Nat) : Prop :=
  (kd u a0 = 203) ∧ vp_in (x4 + 1) (ln u a0) ∧ (kd u a1 = 1) ∧ pX1_agrees u a1 (AI u a0 (tn (x4 + 1))) (fun (r_135 : Int32) (u_136 : Hp) => (kd u_136 a0 = 203) ∧ vp_in (x4 + 1) (ln u_136 a0) ∧ (kd u_136 a2 = 16) ∧ pX19_agrees u_136 a2 (AI u_136 a0 (tn (x4 + 1))) (fun (r_139 : Int32) (u_140 : Hp) => ((r_135 = r_139 → J23 (x4 + 6) u_140 mc ms) ∧ (¬ r_135 = r_139 → K 0 u_140))))
def bL_law_1098 (K : Int32 → Hp → Prop) (L : Nat → Nat) (J23 : Int32 → Hp → Nat → Nat → Prop) (a0 : Nat) (a1 : Nat) (a2 : Nat) (a3 : Nat) (x4 : Int32) (z0 : Int32) (z1 : Int32) (z2 : Nat) (u : Hp) (mc : Nat) (ms : Nat) : Prop :=
  (kd u z2 = 1) ∧ pX1_evening u z2 z1 z0 (fun (r_143 : Int32) (u_144 : Hp) => (kd u_144 a0 = 203) ∧ vp_in (x4 + 1) (ln u_144 a0) ∧ vp_in (x4 + 2) (ln u_144 a0) ∧ ((AI u_144 a0 (tn (x4 + 2)) = 0 → (kd u_144 a2 = 16) ∧ pX19_evening u_144 a2 (AI u_144 a0 (tn (x4 + 1))) 0 (fun (r_147 : Int32) (u_148 : Hp) => ((r_143 = r_147 → J23 (x4 + 6) u_148 mc ms) ∧ (¬ r_143 = r_147 → K 0 u_148)))) ∧ (¬ AI u_144 a0 (tn (x4 + 2)) = 0 → (kd u_144 a2 = 16) ∧ pX19_evening u_144 a2 (AI u_144 a0 (tn (x4 + 1))) 1 (fun (r_151 : Int32) (u_152 : Hp) => ((r_143 = r_151 → J23 (x4 + 6) u_152 mc ms) ∧ (¬ r_143 = r_151 → K 0 u_152))))))
def bL_law_1077 (K : Int32 → Hp → Prop) (L : Nat → Nat) (J23 : Int32 → Hp → Nat → Nat → Prop) (a0 : Nat) (a1 : Nat) (a2 : Nat) (a3 : Nat) (x4 : Int32) (u : Hp) (mc : Nat) (ms : Nat) : Prop :=
  (kd u a0 = 203) ∧ vp_in (x4 + 1) (ln u a0) ∧ vp_in (x4 + 2) (ln u a0) ∧ ((AI u a0 (tn (x4 + 2)) = 0 → bL_law_1098 K L J23 a0 a1 a2 a3 x4 0 (AI u a0 (tn (x4 + 1))) a1 u mc ms) ∧ (¬ AI u a0 (tn (x4 + 2)) = 0 → bL_law_1098 K L J23 a0 a1 a2 a3 x4 1 (AI u a0 (tn (x4 + 1))) a1 u mc ms))
def bL_law_1052 (K : Int32 → Hp → Prop) (L : Nat → Nat) (J23 : Int32 → Hp → Nat → Nat → Prop) (a0 : Nat) (a1 : Nat) (a2 : Nat) (a3 : Nat) (x4 : Int32) (u : Hp) (mc : Nat) (ms : Nat) : Prop :=
  (kd u a0 = 203) ∧ vp_in (x4 + 1) (ln u a0) ∧ (kd u a1 = 1) ∧ pX1_judge u a1 (AI u a0 (tn (x4 + 1))) (fun (r_159 : Int32) (u_160 : Hp) => (kd u_160 a0 = 203) ∧ vp_in (x4 + 1) (ln u_160 a0) ∧ (kd u_160 a2 = 16) ∧ pX19_judge u_160 a2 (AI u_160 a0 (tn (x4 + 1))) (fun (r_163 : Int32) (u_164 : Hp) => ((r_159 = r_163 → J23 (x4 + 6) u_164 mc ms) ∧ (¬ r_159 = r_163 → K 0 u_164))))
def bL_law_1039 (K : Int32 → Hp → Prop) (L : Nat → Nat) (J23 : Int32 → Hp → Nat → Nat → Prop) (a0 : Nat) (a1 : Nat) (a2 : Nat) (a3 : Nat) (x4 : Int32) (u : Hp) (mc : Nat) (ms : Nat) : Prop :=
  (kd u a1 = 1) ∧ pX1_most u a1 (fun (r_167 : Int32) (u_168 : Hp) => (kd u_168 a2 = 16) ∧ pX19_most u_168 a2 (fun (r_170 : Int32) (u_171 : Hp) => ((r_167 = r_170 → J23 (x4 + 6) u_171 mc ms) ∧ (¬ r_167 = r_170 → K 0 u_171))))
def bL_law_1006 (K : Int32 → Hp → Prop) (L : Nat → Nat) (J23 : Int32 → Hp → Nat → Nat → Prop) (a0 : Nat) (a1 : Nat) (a2 : Nat) (a3 : Nat) (x4 : Int32) (z0 : Int32) (z1 : Int32) (z2 : Nat) (u : Hp) (mc : Nat) (ms : Nat) : Prop :=
  (kd u z2 = 1) ∧ pX1_count u z2 z1 z0 (fun (r_174 : Int64) (u_175 : Hp) => (kd u_175 a0 = 203) ∧ vp_in (x4 + 1) (ln u_175 a0) ∧ vp_in (x4 + 2) (ln u_175 a0) ∧ ((AI u_175 a0 (tn (x4 + 2)) = 0 → (kd u_175 a2 = 16) ∧ pX19_count u_175 a2 (AI u_175 a0 (tn (x4 + 1))) 0 (fun (r_178 : Int64) (u_179 : Hp) => ((lg_cmp r_174 r_178 = 0 → J23 (x4 + 6) u_179 mc ms) ∧ (¬ lg_cmp r_174 r_178 = 0 → K 0 u_179)))) ∧ (¬ AI u_175 a0 (tn (x4 + 2)) = 0 → (kd u_175 a2 = 16) ∧ pX19_count u_175 a2 (AI u_175 a0 (tn (x4 + 1))) 1 (fun (r_182 : Int64) (u_183 : Hp) => ((lg_cmp r_174 r_182 = 0 → J23 (x4 + 6) u_183 mc ms) ∧ (¬ lg_cmp r_174 r_182 = 0 → K 0 u_183))))))
def bL_law_985 (K : Int32 → Hp → Prop) (L : Nat → Nat) (J23 : Int32 → Hp → Nat → Nat → Prop) (a0 : Nat) (a1 : Nat) (a2 : Nat) (a3 : Nat) (x4 : Int32) (u : Hp) (mc : Nat) (ms : Nat) : Prop :=
  (kd u a0 = 203) ∧ vp_in (x4 + 1) (ln u a0) ∧ vp_in (x4 + 2) (ln u a0) ∧ ((AI u a0 (tn (x4 + 2)) = 0 → bL_law_1006 K L J23 a0 a1 a2 a3 x4 0 (AI u a0 (tn (x4 + 1))) a1 u mc ms) ∧ (¬ AI u a0 (tn (x4 + 2)) = 0 → bL_law_1006 K L J23 a0 a1 a2 a3 x4 1 (AI u a0 (tn (x4 + 1))) a1 u mc ms))
def bL_law_960 (K : Int32 → Hp → Prop) (L : Nat → Nat) (J23 : Int32 → Hp → Nat → Nat → Prop) (a0 : Nat) (a1 : Nat) (a2 : Nat) (a3 : Nat) (x4 : Int32) (u : Hp) (mc : Nat) (ms : Nat) : Prop :=
  (kd u a0 = 203) ∧ vp_in (x4 + 1) (ln u a0) ∧ (kd u a1 = 1) ∧ pX1_table u a1 (AI u a0 (tn (x4 + 1))) (fun (r_190 : Int32) (u_191 : Hp) => (kd u_191 a0 = 203) ∧ vp_in (x4 + 1) (ln u_191 a0) ∧ (kd u_191 a2 = 16) ∧ pX19_table u_191 a2 (AI u_191 a0 (tn (x4 + 1))) (fun (r_194 : Int32) (u_195 : Hp) => ((r_190 = r_194 → J23 (x4 + 6) u_195 mc ms) ∧ (¬ r_190 = r_194 → K 0 u_195))))
def bL_law_947 (K : Int32 → Hp → Prop) (L : Nat → Nat) (J23 : Int32 → Hp → Nat → Nat → Prop) (a0 : Nat) (a1 : Nat) (a2 : Nat) (a3 : Nat) (x4 : Int32) (u : Hp) (mc : Nat) (ms : Nat) : Prop :=
  (kd u a1 = 1) ∧ pX1_pairs u a1 (fun (r_198 : Int32) (u_199 : Hp) => (kd u_199 a2 = 16) ∧ pX19_pairs u_199 a2 (fun (r_201 : Int32) (u_202 : Hp) => ((r_198 = r_201 → J23 (x4 + 6) u_202 mc ms) ∧ (¬ r_198 = r_201 → K 0 u_202))))
def bL_law_934 (K : Int32 → Hp → Prop) (L : Nat → Nat) (J23 : Int32 → Hp → Nat → Nat → Prop) (a0 : Nat) (a1 : Nat) (a2 : Nat) (a3 : Nat) (x4 : Int32) (u : Hp) (mc : Nat) (ms : Nat) : Prop :=
  (kd u a1 = 1) ∧ pX1_shortest u a1 (fun (r_205 : Int32) (u_206 : Hp) => (kd u_206 a2 = 16) ∧ pX19_shortest u_206 a2 (fun (r_208 : Int32) (u_209 : Hp) => ((r_205 = r_208 → J23 (x4 + 6) u_209 mc ms) ∧ (¬ r_205 = r_208 → K 0 u_209))))
def bL_law_909 (K : Int32 → Hp → Prop) (L : Nat → Nat) (J23 : Int32 → Hp → Nat → Nat → Prop) (a0 : Nat) (a1 : Nat) (a2 : Nat) (a3 : Nat) (x4 : Int32) (u : Hp) (mc : Nat) (ms : Nat) : Prop :=
  (kd u a0 = 203) ∧ vp_in (x4 + 1) (ln u a0) ∧ (kd u a1 = 1) ∧ pX1_wordsWork u a1 (AI u a0 (tn (x4 + 1))) (fun (r_213 : Int32) (u_214 : Hp) => (kd u_214 a0 = 203) ∧ vp_in (x4 + 1) (ln u_214 a0) ∧ (kd u_214 a2 = 16) ∧ pX19_wordsWork u_214 a2 (AI u_214 a0 (tn (x4 + 1))) (fun (r_217 : Int32) (u_218 : Hp) => ((r_213 = r_217 → J23 (x4 + 6) u_218 mc ms) ∧ (¬ r_213 = r_217 → K 0 u_218))))
def bL_law_884 (K : Int32 → Hp → Prop) (L : Nat → Nat) (J23 : Int32 → Hp → Nat → Nat → Prop) (a0 : Nat) (a1 : Nat) (a2 : Nat) (a3 : Nat) (x4 : Int32) (u : Hp) (mc : Nat) (ms : Nat) : Prop :=
  (kd u a0 = 203) ∧ vp_in (x4 + 1) (ln u a0) ∧ (kd u a1 = 1) ∧ pX1_borne u a1 (AI u a0 (tn (x4 + 1))) (fun (r_222 : Int32) (u_223 : Hp) => (kd u_223 a0 = 203) ∧ vp_in (x4 + 1) (ln u_223 a0) ∧ (kd u_223 a2 = 16) ∧ pX19_borne u_223 a2 (AI u_223 a0 (tn (x4 + 1))) (fun (r_226 : Int32) (u_227 : Hp) => ((r_222 = r_226 → J23 (x4 + 6) u_227 mc ms) ∧ (¬ r_222 = r_226 → K 0 u_227))))
def bL_law_859 (K : Int32 → Hp → Prop) (L : Nat → Nat) (J23 : Int32 → Hp → Nat → Nat → Prop) (a0 : Nat) (a1 : Nat) (a2 : Nat) (a3 : Nat) (x4 : Int32) (u : Hp) (mc : Nat) (ms : Nat) : Prop :=
  (kd u a0 = 203) ∧ vp_in (x4 + 1) (ln u a0) ∧ (kd u a1 = 1) ∧ pX1_seen u a1 (AI u a0 (tn (x4 + 1))) (fun (r_231 : Int32) (u_232 : Hp) => (kd u_232 a0 = 203) ∧ vp_in (x4 + 1) (ln u_232 a0) ∧ (kd u_232 a2 = 16) ∧ pX19_seen u_232 a2 (AI u_232 a0 (tn (x4 + 1))) (fun (r_235 : Int32) (u_236 : Hp) => ((r_231 = r_235 → J23 (x4 + 6) u_236 mc ms) ∧ (¬ r_231 = r_235 → K 0 u_236))))
def bL_law_834 (K : Int32 → Hp → Prop) (L : Nat → Nat) (J23 : Int32 → Hp → Nat → Nat → Prop) (a0 : Nat) (a1 : Nat) (a2 : Nat) (a3 : Nat) (x4 : Int32) (u : Hp) (mc : Nat) (ms : Nat) : Prop :=
  (kd u a0 = 203) ∧ vp_in (x4 + 1) (ln u a0) ∧ (kd u a1 = 1) ∧ pX1_fails u a1 (AI u a0 (tn (x4 + 1))) (fun (r_240 : Int32) (u_241 : Hp) => (kd u_241 a0 = 203) ∧ vp_in (x4 + 1) (ln u_241 a0) ∧ (kd u_241 a2 = 16) ∧ pX19_fails u_241 a2 (AI u_241 a0 (tn (x4 + 1))) (fun (r_244 : Int32) (u_245 : Hp) => ((r_240 = r_244 → J23 (x4 + 6) u_245 mc ms) ∧ (¬ r_240 = r_244 → K 0 u_245))))
def bL_law_809 (K : Int32 → Hp → Prop) (L : Nat → Nat) (J23 : Int32 → Hp → Nat → Nat → Prop) (a0 : Nat) (a1 : Nat) (a2 : Nat) (a3 : Nat) (x4 : Int32) (u : Hp) (mc : Nat) (ms : Nat) : Prop :=
  (kd u a0 = 203) ∧ vp_in (x4 + 1) (ln u a0) ∧ (kd u a1 = 1) ∧ pX1_laid u a1 (AI u a0 (tn (x4 + 1))) (fun (r_249 : Int32) (u_250 : Hp) => (kd u_250 a0 = 203) ∧ vp_in (x4 + 1) (ln u_250 a0) ∧ (kd u_250 a2 = 16) ∧ pX19_laid u_250 a2 (AI u_250 a0 (tn (x4 + 1))) (fun (r_253 : Int32) (u_254 : Hp) => ((r_249 = r_253 → J23 (x4 + 6) u_254 mc ms) ∧ (¬ r_249 = r_253 → K 0 u_254))))
def bL_law_777 (K : Int32 → Hp → Prop) (L : Nat → Nat) (J23 : Int32 → Hp → Nat → Nat → Prop) (a0 : Nat) (a1 : Nat) (a2 : Nat) (a3 : Nat) (x4 : Int32) (z0 : Int32) (z1 : Int32) (z2 : Nat) (u : Hp) (mc : Nat) (ms : Nat) : Prop :=
  (kd u z2 = 1) ∧ pX1_clash u z2 z1 z0 (fun (r_257 : Int32) (u_258 : Hp) => (kd u_258 a0 = 203) ∧ vp_in (x4 + 1) (ln u_258 a0) ∧ vp_in (x4 + 2) (ln u_258 a0) ∧ ((AI u_258 a0 (tn (x4 + 2)) = 0 → (kd u_258 a2 = 16) ∧ pX19_clash u_258 a2 (AI u_258 a0 (tn (x4 + 1))) 0 (fun (r_261 : Int32) (u_262 : Hp) => ((r_257 = r_261 → J23 (x4 + 6) u_262 mc ms) ∧ (¬ r_257 = r_261 → K 0 u_262)))) ∧ (¬ AI u_258 a0 (tn (x4 + 2)) = 0 → (kd u_258 a2 = 16) ∧ pX19_clash u_258 a2 (AI u_258 a0 (tn (x4 + 1))) 1 (fun (r_265 : Int32) (u_266 : Hp) => ((r_257 = r_265 → J23 (x4 + 6) u_266 mc ms) ∧ (¬ r_257 = r_265 → K 0 u_266))))))
def bL_law_756 (K : Int32 → Hp → Prop) (L : Nat → Nat) (J23 : Int32 → Hp → Nat → Nat → Prop) (a0 : Nat) (a1 : Nat) (a2 : Nat) (a3 : Nat) (x4 : Int32) (u : Hp) (mc : Nat) (ms : Nat) : Prop :=
  (kd u a0 = 203) ∧ vp_in (x4 + 1) (ln u a0) ∧ vp_in (x4 + 2) (ln u a0) ∧ ((AI u a0 (tn (x4 + 2)) = 0 → bL_law_777 K L J23 a0 a1 a2 a3 x4 0 (AI u a0 (tn (x4 + 1))) a1 u mc ms) ∧ (¬ AI u a0 (tn (x4 + 2)) = 0 → bL_law_777 K L J23 a0 a1 a2 a3 x4 1 (AI u a0 (tn (x4 + 1))) a1 u mc ms))
def bL_law_731 (K : Int32 → Hp → Prop) (L : Nat → Nat) (J23 : Int32 → Hp → Nat → Nat → Prop) (a0 : Nat) (a1 : Nat) (a2 : Nat) (a3 : Nat) (x4 : Int32) (u : Hp) (mc : Nat) (ms : Nat) : Prop :=
  (kd u a0 = 203) ∧ vp_in (x4 + 1) (ln u a0) ∧ (kd u a1 = 1) ∧ pX1_works u a1 (AI u a0 (tn (x4 + 1))) (fun (r_273 : Int32) (u_274 : Hp) => (kd u_274 a0 = 203) ∧ vp_in (x4 + 1) (ln u_274 a0) ∧ (kd u_274 a2 = 16) ∧ pX19_works u_274 a2 (AI u_274 a0 (tn (x4 + 1))) (fun (r_277 : Int32) (u_278 : Hp) => ((r_273 = r_277 → J23 (x4 + 6) u_278 mc ms) ∧ (¬ r_273 = r_277 → K 0 u_278))))
def bL_law_694 (K : Int32 → Hp → Prop) (L : Nat → Nat) (J23 : Int32 → Hp → Nat → Nat → Prop) (a0 : Nat) (a1 : Nat) (a2 : Nat) (a3 : Nat) (x4 : Int32) (u : Hp) (mc : Nat) (ms : Nat) : Prop :=
  (kd u a0 = 203) ∧ vp_in (x4 + 1) (ln u a0) ∧ vp_in (x4 + 2) (ln u a0) ∧ (kd u a1 = 1) ∧ pX1_says u a1 (AI u a0 (tn (x4 + 1))) (AI u a0 (tn (x4 + 2))) (fun (r_282 : Int32) (u_283 : Hp) => (kd u_283 a0 = 203) ∧ vp_in (x4 + 1) (ln u_283 a0) ∧ vp_in (x4 + 2) (ln u_283 a0) ∧ (kd u_283 a2 = 16) ∧ pX19_says u_283 a2 (AI u_283 a0 (tn (x4 + 1))) (AI u_283 a0 (tn (x4 + 2))) (fun (r_286 : Int32) (u_287 : Hp) => ((r_282 = r_286 → J23 (x4 + 6) u_287 mc ms) ∧ (¬ r_282 = r_286 → K 0 u_287))))
def bL_law_645 (K : Int32 → Hp → Prop) (L : Nat → Nat) (J23 : Int32 → Hp → Nat → Nat → Prop) (a0 : Nat) (a1 : Nat) (a2 : Nat) (a3 : Nat) (x4 : Int32) (u : Hp) (mc : Nat) (ms : Nat) : Prop :=
  (kd u a0 = 203) ∧ vp_in (x4 + 1) (ln u a0) ∧ vp_in (x4 + 2) (ln u a0) ∧ vp_in (x4 + 3) (ln u a0) ∧ (kd u a1 = 1) ∧ pX1_kept u a1 (AI u a0 (tn (x4 + 1))) (AI u a0 (tn (x4 + 2))) (AI u a0 (tn (x4 + 3))) (fun (r_291 : Int32) (u_292 : Hp) => (kd u_292 a0 = 203) ∧ vp_in (x4 + 1) (ln u_292 a0) ∧ vp_in (x4 + 2) (ln u_292 a0) ∧ vp_in (x4 + 3) (ln u_292 a0) ∧ (kd u_292 a2 = 16) ∧ pX19_kept u_292 a2 (AI u_292 a0 (tn (x4 + 1))) (AI u_292 a0 (tn (x4 + 2))) (AI u_292 a0 (tn (x4 + 3))) (fun (r_295 : Int32) (u_296 : Hp) => ((r_291 = r_295 → J23 (x4 + 6) u_296 mc ms) ∧ (¬ r_291 = r_295 → K 0 u_296))))
def bL_law_608 (K : Int32 → Hp → Prop) (L : Nat → Nat) (J23 : Int32 → Hp → Nat → Nat → Prop) (a0 : Nat) (a1 : Nat) (a2 : Nat) (a3 : Nat) (x4 : Int32) (u : Hp) (mc : Nat) (ms : Nat) : Prop :=
  (kd u a0 = 203) ∧ vp_in (x4 + 1) (ln u a0) ∧ vp_in (x4 + 2) (ln u a0) ∧ (kd u a1 = 1) ∧ pX1_lays u a1 (AI u a0 (tn (x4 + 1))) (AI u a0 (tn (x4 + 2))) (fun (r_300 : Int32) (u_301 : Hp) => (kd u_301 a0 = 203) ∧ vp_in (x4 + 1) (ln u_301 a0) ∧ vp_in (x4 + 2) (ln u_301 a0) ∧ (kd u_301 a2 = 16) ∧ pX19_lays u_301 a2 (AI u_301 a0 (tn (x4 + 1))) (AI u_301 a0 (tn (x4 + 2))) (fun (r_304 : Int32) (u_305 : Hp) => ((r_300 = r_304 → J23 (x4 + 6) u_305 mc ms) ∧ (¬ r_300 = r_304 → K 0 u_305))))
def bL_law_595 (K : Int32 → Hp → Prop) (L : Nat → Nat) (J23 : Int32 → Hp → Nat → Nat → Prop) (a0 : Nat) (a1 : Nat) (a2 : Nat) (a3 : Nat) (x4 : Int32) (u : Hp) (mc : Nat) (ms : Nat) : Prop :=
  (kd u a1 = 1) ∧ pX1_fitting u a1 (fun (r_308 : Int32) (u_309 : Hp) => (kd u_309 a2 = 16) ∧ pX19_fitting u_309 a2 (fun (r_311 : Int32) (u_312 : Hp) => ((r_308 = r_311 → J23 (x4 + 6) u_312 mc ms) ∧ (¬ r_308 = r_311 → K 0 u_312))))
def bL_law_558 (K : Int32 → Hp → Prop) (L : Nat → Nat) (J23 : Int32 → Hp → Nat → Nat → Prop) (a0 : Nat) (a1 : Nat) (a2 : Nat) (a3 : Nat) (x4 : Int32) (u : Hp) (mc : Nat) (ms : Nat) : Prop :=
  (kd u a0 = 203) ∧ vp_in (x4 + 1) (ln u a0) ∧ vp_in (x4 + 2) (ln u a0) ∧ (kd u a1 = 1) ∧ pX1_fits u a1 (AI u a0 (tn (x4 + 1))) (AI u a0 (tn (x4 + 2))) (fun (r_316 : Int32) (u_317 : Hp) => (kd u_317 a0 = 203) ∧ vp_in (x4 + 1) (ln u_317 a0) ∧ vp_in (x4 + 2) (ln u_317 a0) ∧ (kd u_317 a2 = 16) ∧ pX19_fits u_317 a2 (AI u_317 a0 (tn (x4 + 1))) (AI u_317 a0 (tn (x4 + 2))) (fun (r_320 : Int32) (u_321 : Hp) => ((r_316 = r_320 → J23 (x4 + 6) u_321 mc ms) ∧ (¬ r_316 = r_320 → K 0 u_321))))
def bL_law_533 (K : Int32 → Hp → Prop) (L : Nat → Nat) (J23 : Int32 → Hp → Nat → Nat → Prop) (a0 : Nat) (a1 : Nat) (a2 : Nat) (a3 : Nat) (x4 : Int32) (u : Hp) (mc : Nat) (ms : Nat) : Prop :=
  (kd u a0 = 203) ∧ vp_in (x4 + 1) (ln u a0) ∧ (kd u a1 = 1) ∧ pX1_tilted u a1 (AI u a0 (tn (x4 + 1))) (fun (r_325 : Int32) (u_326 : Hp) => (kd u_326 a0 = 203) ∧ vp_in (x4 + 1) (ln u_326 a0) ∧ (kd u_326 a2 = 16) ∧ pX19_tilted u_326 a2 (AI u_326 a0 (tn (x4 + 1))) (fun (r_329 : Int32) (u_330 : Hp) => ((r_325 = r_329 → J23 (x4 + 6) u_330 mc ms) ∧ (¬ r_325 = r_329 → K 0 u_330))))
def bL_law_496 (K : Int32 → Hp → Prop) (L : Nat → Nat) (J23 : Int32 → Hp → Nat → Nat → Prop) (a0 : Nat) (a1 : Nat) (a2 : Nat) (a3 : Nat) (x4 : Int32) (u : Hp) (mc : Nat) (ms : Nat) : Prop :=
  (kd u a0 = 203) ∧ vp_in (x4 + 1) (ln u a0) ∧ vp_in (x4 + 2) (ln u a0) ∧ (kd u a1 = 1) ∧ pX1_row u a1 (AI u a0 (tn (x4 + 1))) (AI u a0 (tn (x4 + 2))) (fun (r_334 : Int32) (u_335 : Hp) => (kd u_335 a0 = 203) ∧ vp_in (x4 + 1) (ln u_335 a0) ∧ vp_in (x4 + 2) (ln u_335 a0) ∧ (kd u_335 a2 = 16) ∧ pX19_row u_335 a2 (AI u_335 a0 (tn (x4 + 1))) (AI u_335 a0 (tn (x4 + 2))) (fun (r_338 : Int32) (u_339 : Hp) => ((r_334 = r_338 → J23 (x4 + 6) u_339 mc ms) ∧ (¬ r_334 = r_338 → K 0 u_339))))
def bL_law_423 (K : Int32 → Hp → Prop) (L : Nat → Nat) (J23 : Int32 → Hp → Nat → Nat → Prop) (a0 : Nat) (a1 : Nat) (a2 : Nat) (a3 : Nat) (x4 : Int32) (u : Hp) (mc : Nat) (ms : Nat) : Prop :=
  (kd u a0 = 203) ∧ vp_in (x4 + 1) (ln u a0) ∧ vp_in (x4 + 2) (ln u a0) ∧ vp_in (x4 + 3) (ln u a0) ∧ vp_in (x4 + 4) (ln u a0) ∧ vp_in (x4 + 5) (ln u a0) ∧ (kd u a1 = 1) ∧ pX1_handOf u a1 (AI u a0 (tn (x4 + 1))) (AI u a0 (tn (x4 + 2))) (AI u a0 (tn (x4 + 3))) (AI u a0 (tn (x4 + 4))) (AI u a0 (tn (x4 + 5))) (fun (r_343 : Int32) (u_344 : Hp) => (kd u_344 a0 = 203) ∧ vp_in (x4 + 1) (ln u_344 a0) ∧ vp_in (x4 + 2) (ln u_344 a0) ∧ vp_in (x4 + 3) (ln u_344 a0) ∧ vp_in (x4 + 4) (ln u_344 a0) ∧ vp_in (x4 + 5) (ln u_344 a0) ∧ (kd u_344 a2 = 16) ∧ pX19_handOf u_344 a2 (AI u_344 a0 (tn (x4 + 1))) (AI u_344 a0 (tn (x4 + 2))) (AI u_344 a0 (tn (x4 + 3))) (AI u_344 a0 (tn (x4 + 4))) (AI u_344 a0 (tn (x4 + 5))) (fun (r_347 : Int32) (u_348 : Hp) => ((r_343 = r_347 → J23 (x4 + 6) u_348 mc ms) ∧ (¬ r_343 = r_347 → K 0 u_348))))
def bL_law_386 (K : Int32 → Hp → Prop) (L : Nat → Nat) (J23 : Int32 → Hp → Nat → Nat → Prop) (a0 : Nat) (a1 : Nat) (a2 : Nat) (a3 : Nat) (x4 : Int32) (u : Hp) (mc : Nat) (ms : Nat) : Prop :=
  (kd u a0 = 203) ∧ vp_in (x4 + 1) (ln u a0) ∧ vp_in (x4 + 2) (ln u a0) ∧ (kd u a1 = 1) ∧ pX1_hand u a1 (AI u a0 (tn (x4 + 1))) (AI u a0 (tn (x4 + 2))) (fun (r_352 : Int32) (u_353 : Hp) => (kd u_353 a0 = 203) ∧ vp_in (x4 + 1) (ln u_353 a0) ∧ vp_in (x4 + 2) (ln u_353 a0) ∧ (kd u_353 a2 = 16) ∧ pX19_hand u_353 a2 (AI u_353 a0 (tn (x4 + 1))) (AI u_353 a0 (tn (x4 + 2))) (fun (r_356 : Int32) (u_357 : Hp) => ((r_352 = r_356 → J23 (x4 + 6) u_357 mc ms) ∧ (¬ r_352 = r_356 → K 0 u_357))))
def bL_law_373 (K : Int32 → Hp → Prop) (L : Nat → Nat) (J23 : Int32 → Hp → Nat → Nat → Prop) (a0 : Nat) (a1 : Nat) (a2 : Nat) (a3 : Nat) (x4 : Int32) (u : Hp) (mc : Nat) (ms : Nat) : Prop :=
  (kd u a1 = 1) ∧ pX1_rows u a1 (fun (r_360 : Int32) (u_361 : Hp) => (kd u_361 a2 = 16) ∧ pX19_rows u_361 a2 (fun (r_363 : Int32) (u_364 : Hp) => ((r_360 = r_363 → J23 (x4 + 6) u_364 mc ms) ∧ (¬ r_360 = r_363 → K 0 u_364))))
def bL_law_360 (K : Int32 → Hp → Prop) (L : Nat → Nat) (J23 : Int32 → Hp → Nat → Nat → Prop) (a0 : Nat) (a1 : Nat) (a2 : Nat) (a3 : Nat) (x4 : Int32) (u : Hp) (mc : Nat) (ms : Nat) : Prop :=
  (kd u a1 = 1) ∧ pX1_hands u a1 (fun (r_367 : Int32) (u_368 : Hp) => (kd u_368 a2 = 16) ∧ pX19_hands u_368 a2 (fun (r_370 : Int32) (u_371 : Hp) => ((r_367 = r_370 → J23 (x4 + 6) u_371 mc ms) ∧ (¬ r_367 = r_370 → K 0 u_371))))
def bL_law_347 (K : Int32 → Hp → Prop) (L : Nat → Nat) (J23 : Int32 → Hp → Nat → Nat → Prop) (a0 : Nat) (a1 : Nat) (a2 : Nat) (a3 : Nat) (x4 : Int32) (u : Hp) (mc : Nat) (ms : Nat) : Prop :=
  (kd u a1 = 1) ∧ pX1_where u a1 (fun (r_374 : Int32) => (kd u a2 = 16) ∧ pX19_where u a2 (fun (r_376 : Int32) (u_377 : Hp) => ((r_374 = r_376 → J23 (x4 + 6) u_377 mc ms) ∧ (¬ r_374 = r_376 → K 0 u_377))))
def bL_law_334 (K : Int32 → Hp → Prop) (L : Nat → Nat) (J23 : Int32 → Hp → Nat → Nat → Prop) (a0 : Nat) (a1 : Nat) (a2 : Nat) (a3 : Nat) (x4 : Int32) (u : Hp) (mc : Nat) (ms : Nat) : Prop :=
  (kd u a1 = 1) ∧ pX1_fault u a1 (fun (r_380 : Int32) => (kd u a2 = 16) ∧ pX19_fault u a2 (fun (r_382 : Int32) (u_383 : Hp) => ((r_380 = r_382 → J23 (x4 + 6) u_383 mc ms) ∧ (¬ r_380 = r_382 → K 0 u_383))))
def bL_law_309 (K : Int32 → Hp → Prop) (L : Nat → Nat) (J23 : Int32 → Hp → Nat → Nat → Prop) (a0 : Nat) (a1 : Nat) (a2 : Nat) (a3 : Nat) (x4 : Int32) (u : Hp) (mc : Nat) (ms : Nat) : Prop :=
  (kd u a0 = 203) ∧ vp_in (x4 + 1) (ln u a0) ∧ (kd u a1 = 1) ∧ ∃ q_386 q_387 : Nat, q_386 ≤ mc ∧ q_387 ≤ ms ∧ pX1_trick L u a1 (AI u a0 (tn (x4 + 1))) q_386 q_387 (fun (r_391 : Int32) (u_392 : Hp) => (kd u_392 a0 = 203) ∧ vp_in (x4 + 1) (ln u_392 a0) ∧ (kd u_392 a2 = 16) ∧ ∃ q_394 q_395 : Nat, q_394 ≤ (mc - q_386) ∧ q_395 ≤ (ms - q_387) ∧ pX19_trick L u_392 a2 (AI u_392 a0 (tn (x4 + 1))) q_394 q_395 (fun (r_399 : Int32) (u_400 : Hp) => ((r_391 = r_399 → J23 (x4 + 6) u_400 ((mc - q_386) - q_394) ((ms - q_387) - q_395)) ∧ (¬ r_391 = r_399 → K 0 u_400))))
def bL_law_236 (K : Int32 → Hp → Prop) (L : Nat → Nat) (J23 : Int32 → Hp → Nat → Nat → Prop) (a0 : Nat) (a1 : Nat) (a2 : Nat) (a3 : Nat) (x4 : Int32) (u : Hp) (mc : Nat) (ms : Nat) : Prop :=
  (kd u a0 = 203) ∧ vp_in (x4 + 1) (ln u a0) ∧ vp_in (x4 + 2) (ln u a0) ∧ vp_in (x4 + 3) (ln u a0) ∧ vp_in (x4 + 4) (ln u a0) ∧ vp_in (x4 + 5) (ln u a0) ∧ (kd u a1 = 1) ∧ pX1_feed u a1 (AI u a0 (tn (x4 + 1))) (AI u a0 (tn (x4 + 2))) (AI u a0 (tn (x4 + 3))) (AI u a0 (tn (x4 + 4))) (AI u a0 (tn (x4 + 5))) (fun (r_404 : Int32) (u_405 : Hp) => (kd u_405 a0 = 203) ∧ vp_in (x4 + 1) (ln u_405 a0) ∧ vp_in (x4 + 2) (ln u_405 a0) ∧ vp_in (x4 + 3) (ln u_405 a0) ∧ vp_in (x4 + 4) (ln u_405 a0) ∧ vp_in (x4 + 5) (ln u_405 a0) ∧ (kd u_405 a2 = 16) ∧ pX19_feed u_405 a2 (AI u_405 a0 (tn (x4 + 1))) (AI u_405 a0 (tn (x4 + 2))) (AI u_405 a0 (tn (x4 + 3))) (AI u_405 a0 (tn (x4 + 4))) (AI u_405 a0 (tn (x4 + 5))) (fun (r_408 : Int32) (u_409 : Hp) => ((r_404 = r_408 → J23 (x4 + 6) u_409 mc ms) ∧ (¬ r_404 = r_408 → K 0 u_409))))
def bL_law_23 (K : Int32 → Hp → Prop) (L : Nat → Nat) (a0 : Nat) (a1 : Nat) (a2 : Nat) (a3 : Nat) (J23 : Int32 → Hp → Nat → Nat → Prop) (x4 : Int32) (u : Hp) (mc : Nat) (ms : Nat) : Prop :=
  (kd u a0 = 203) ∧ (((nI (ln u a0)) - 6 < x4 → K 1 u) ∧ (¬ (nI (ln u a0)) - 6 < x4 → vp_in x4 (ln u a0) ∧ (((AI u a0 (tn x4)) &&& 63 = 0 → bL_law_236 K L J23 a0 a1 a2 a3 x4 u mc ms) ∧ ((AI u a0 (tn x4)) &&& 63 = 1 → bL_law_309 K L J23 a0 a1 a2 a3 x4 u mc ms) ∧ ((AI u a0 (tn x4)) &&& 63 = 2 → bL_law_334 K L J23 a0 a1 a2 a3 x4 u mc ms) ∧ ((AI u a0 (tn x4)) &&& 63 = 3 → bL_law_347 K L J23 a0 a1 a2 a3 x4 u mc ms) ∧ ((AI u a0 (tn x4)) &&& 63 = 4 → bL_law_360 K L J23 a0 a1 a2 a3 x4 u mc ms) ∧ ((AI u a0 (tn x4)) &&& 63 = 5 → bL_law_373 K L J23 a0 a1 a2 a3 x4 u mc ms) ∧ ((AI u a0 (tn x4)) &&& 63 = 6 → bL_law_386 K L J23 a0 a1 a2 a3 x4 u mc ms) ∧ ((AI u a0 (tn x4)) &&& 63 = 7 → bL_law_423 K L J23 a0 a1 a2 a3 x4 u mc ms) ∧ ((AI u a0 (tn x4)) &&& 63 = 8 → bL_law_496 K L J23 a0 a1 a2 a3 x4 u mc ms) ∧ ((AI u a0 (tn x4)) &&& 63 = 9 → bL_law_533 K L J23 a0 a1 a2 a3 x4 u mc ms) ∧ ((AI u a0 (tn x4)) &&& 63 = 10 → bL_law_558 K L J23 a0 a1 a2 a3 x4 u mc ms) ∧ ((AI u a0 (tn x4)) &&& 63 = 11 → bL_law_595 K L J23 a0 a1 a2 a3 x4 u mc ms) ∧ ((AI u a0 (tn x4)) &&& 63 = 12 → bL_law_608 K L J23 a0 a1 a2 a3 x4 u mc ms) ∧ ((AI u a0 (tn x4)) &&& 63 = 13 → bL_law_645 K L J23 a0 a1 a2 a3 x4 u mc ms) ∧ ((AI u a0 (tn x4)) &&& 63 = 14 → bL_law_694 K L J23 a0 a1 a2 a3 x4 u mc ms) ∧ ((AI u a0 (tn x4)) &&& 63 = 15 → bL_law_731 K L J23 a0 a1 a2 a3 x4 u mc ms) ∧ ((AI u a0 (tn x4)) &&& 63 = 16 → bL_law_756 K L J23 a0 a1 a2 a3 x4 u mc ms) ∧ ((AI u a0 (tn x4)) &&& 63 = 17 → bL_law_809 K L J23 a0 a1 a2 a3 x4 u mc ms) ∧ ((AI u a0 (tn x4)) &&& 63 = 18 → bL_law_834 K L J23 a0 a1 a2 a3 x4 u mc ms) ∧ ((AI u a0 (tn x4)) &&& 63 = 19 → bL_law_859 K L J23 a0 a1 a2 a3 x4 u mc ms) ∧ ((AI u a0 (tn x4)) &&& 63 = 20 → bL_law_884 K L J23 a0 a1 a2 a3 x4 u mc ms) ∧ ((AI u a0 (tn x4)) &&& 63 = 21 → bL_law_909 K L J23 a0 a1 a2 a3 x4 u mc ms) ∧ ((AI u a0 (tn x4)) &&& 63 = 22 → bL_law_934 K L J23 a0 a1 a2 a3 x4 u mc ms) ∧ ((AI u a0 (tn x4)) &&& 63 = 23 → bL_law_947 K L J23 a0 a1 a2 a3 x4 u mc ms) ∧ ((AI u a0 (tn x4)) &&& 63 = 24 → bL_law_960 K L J23 a0 a1 a2 a3 x4 u mc ms) ∧ ((AI u a0 (tn x4)) &&& 63 = 25 → bL_law_985 K L J23 a0 a1 a2 a3 x4 u mc ms) ∧ ((AI u a0 (tn x4)) &&& 63 = 26 → bL_law_1039 K L J23 a0 a1 a2 a3 x4 u mc ms) ∧ ((AI u a0 (tn x4)) &&& 63 = 27 → bL_law_1052 K L J23 a0 a1 a2 a3 x4 u mc ms) ∧ ((AI u a0 (tn x4)) &&& 63 = 28 → bL_law_1077 K L J23 a0 a1 a2 a3 x4 u mc ms) ∧ ((AI u a0 (tn x4)) &&& 63 = 29 → bL_law_1130 K L J23 a0 a1 a2 a3 x4 u mc ms) ∧ ((AI u a0 (tn x4)) &&& 63 = 30 → bL_law_1155 K L J23 a0 a1 a2 a3 x4 u mc ms) ∧ ((AI u a0 (tn x4)) &&& 63 = 31 → bL_law_1180 K L J23 a0 a1 a2 a3 x4 u mc ms) ∧ ((AI u a0 (tn x4)) &&& 63 = 32 → bL_law_1193 K L J23 a0 a1 a2 a3 x4 u mc ms) ∧ ((AI u a0 (tn x4)) &&& 63 = 33 → bL_law_1230 K L J23 a0 a1 a2 a3 x4 u mc ms) ∧ ((AI u a0 (tn x4)) &&& 63 = 34 → bL_law_1295 K L J23 a0 a1 a2 a3 x4 u mc ms) ∧ ((AI u a0 (tn x4)) &&& 63 = 35 → bL_law_1308 K L J23 a0 a1 a2 a3 x4 u mc ms) ∧ ((AI u a0 (tn x4)) &&& 63 = 36 → bL_law_1345 K L J23 a0 a1 a2 a3 x4 u mc ms) ∧ ((AI u a0 (tn x4)) &&& 63 = 37 → bL_law_1370 K L J23 a0 a1 a2 a3 x4 u mc ms) ∧ ((AI u a0 (tn x4)) &&& 63 = 38 → bL_law_1383 K L J23 a0 a1 a2 a3 x4 u mc ms) ∧ ((AI u a0 (tn x4)) &&& 63 = 39 → bL_law_1396 K L J23 a0 a1 a2 a3 x4 u mc ms) ∧ ((AI u a0 (tn x4)) &&& 63 = 40 → bL_law_1409 K L J23 a0 a1 a2 a3 x4 u mc ms) ∧ ((AI u a0 (tn x4)) &&& 63 = 41 → bL_law_1434 K L J23 a0 a1 a2 a3 x4 u mc ms) ∧ ((AI u a0 (tn x4)) &&& 63 = 42 → bL_law_1502 K L J23 a0 a1 a2 a3 x4 u mc ms) ∧ ((AI u a0 (tn x4)) &&& 63 = 43 → bL_law_1527 K L J23 a0 a1 a2 a3 x4 u mc ms) ∧ ((AI u a0 (tn x4)) &&& 63 = 44 → bL_law_1552 K L J23 a0 a1 a2 a3 x4 u mc ms) ∧ (¬ (AI u a0 (tn x4)) &&& 63 = 0 ∧ ¬ (AI u a0 (tn x4)) &&& 63 = 1 ∧ ¬ (AI u a0 (tn x4)) &&& 63 = 2 ∧ ¬ (AI u a0 (tn x4)) &&& 63 = 3 ∧ ¬ (AI u a0 (tn x4)) &&& 63 = 4 ∧ ¬ (AI u a0 (tn x4)) &&& 63 = 5 ∧ ¬ (AI u a0 (tn x4)) &&& 63 = 6 ∧ ¬ (AI u a0 (tn x4)) &&& 63 = 7 ∧ ¬ (AI u a0 (tn x4)) &&& 63 = 8 ∧ ¬ (AI u a0 (tn x4)) &&& 63 = 9 ∧ ¬ (AI u a0 (tn x4)) &&& 63 = 10 ∧ ¬ (AI u a0 (tn x4)) &&& 63 = 11 ∧ ¬ (AI u a0 (tn x4)) &&& 63 = 12 ∧ ¬ (AI u a0 (tn x4)) &&& 63 = 13 ∧ ¬ (AI u a0 (tn x4)) &&& 63 = 14 ∧ ¬ (AI u a0 (tn x4)) &&& 63 = 15 ∧ ¬ (AI u a0 (tn x4)) &&& 63 = 16 ∧ ¬ (AI u a0 (tn x4)) &&& 63 = 17 ∧ ¬ (AI u a0 (tn x4)) &&& 63 = 18 ∧ ¬ (AI u a0 (tn x4)) &&& 63 = 19 ∧ ¬ (AI u a0 (tn x4)) &&& 63 = 20 ∧ ¬ (AI u a0 (tn x4)) &&& 63 = 21 ∧ ¬ (AI u a0 (tn x4)) &&& 63 = 22 ∧ ¬ (AI u a0 (tn x4)) &&& 63 = 23 ∧ ¬ (AI u a0 (tn x4)) &&& 63 = 24 ∧ ¬ (AI u a0 (tn x4)) &&& 63 = 25 ∧ ¬ (AI u a0 (tn x4)) &&& 63 = 26 ∧ ¬ (AI u a0 (tn x4)) &&& 63 = 27 ∧ ¬ (AI u a0 (tn x4)) &&& 63 = 28 ∧ ¬ (AI u a0 (tn x4)) &&& 63 = 29 ∧ ¬ (AI u a0 (tn x4)) &&& 63 = 30 ∧ ¬ (AI u a0 (tn x4)) &&& 63 = 31 ∧ ¬ (AI u a0 (tn x4)) &&& 63 = 32 ∧ ¬ (AI u a0 (tn x4)) &&& 63 = 33 ∧ ¬ (AI u a0 (tn x4)) &&& 63 = 34 ∧ ¬ (AI u a0 (tn x4)) &&& 63 = 35 ∧ ¬ (AI u a0 (tn x4)) &&& 63 = 36 ∧ ¬ (AI u a0 (tn x4)) &&& 63 = 37 ∧ ¬ (AI u a0 (tn x4)) &&& 63 = 38 ∧ ¬ (AI u a0 (tn x4)) &&& 63 = 39 ∧ ¬ (AI u a0 (tn x4)) &&& 63 = 40 ∧ ¬ (AI u a0 (tn x4)) &&& 63 = 41 ∧ ¬ (AI u a0 (tn x4)) &&& 63 = 42 ∧ ¬ (AI u a0 (tn x4)) &&& 63 = 43 ∧ ¬ (AI u a0 (tn x4)) &&& 63 = 44 → J23 (x4 + 6) u mc ms))))
def bL_law_0 (K : Int32 → Hp → Prop) (L : Nat → Nat) (a0 : Nat) (u : Hp) (mc : Nat) (ms : Nat) : Prop :=
  1 ≤ mc ∧ 16 ≤ ms ∧ ∀ q_458 : Nat, kd u q_458 = 0 → ∃ q_463 q_464 : Nat, q_463 ≤ (mc - 1) ∧ q_464 ≤ (ms - 16) ∧ pX1_init L (mkC u q_458 1 0) q_458 q_463 q_464 (fun (u_467 : Hp) => 1 ≤ ((mc - 1) - q_463) ∧ 46 ≤ ((ms - 16) - q_464) ∧ ∀ q_468 : Nat, kd u_467 q_468 = 0 → ∃ q_473 q_474 : Nat, q_473 ≤ (((mc - 1) - q_463) - 1) ∧ q_474 ≤ (((ms - 16) - q_464) - 46) ∧ pX19_init (mkC u_467 q_468 16 0) q_468 q_473 q_474 (fun (u_477 : Hp) => 1 ≤ ((((mc - 1) - q_463) - 1) - q_473) ∧ 1 ≤ ((((ms - 16) - q_464) - 46) - q_474) ∧ ∀ q_478 : Nat, kd u_477 q_478 = 0 → jl4 (bL_law_23 K L a0 q_458 q_468 q_478) 0 (mkC u_477 q_478 105 1) (((((mc - 1) - q_463) - 1) - q_473) - 1) (((((ms - 16) - q_464) - 46) - q_474) - 1)))
