/-! NUMBERS: ints that are naturals, written numbers, truth as 0 and 1 -/
def b2 (c : Prop) [Decidable c] : Int32 := if c then 1 else 0
theorem b2_t {c : Prop} [Decidable c] (h : c) : b2 c = 1 := if_pos h
theorem b2_f {c : Prop} [Decidable c] (h : ¬ c) : b2 c = 0 := if_neg h
theorem b2_0 {c : Prop} [Decidable c] : b2 c = 0 ↔ ¬ c := by unfold b2; by_cases h : c <;> simp [h]
theorem b2_1 {c : Prop} [Decidable c] : b2 c = 1 ↔ c := by unfold b2; by_cases h : c <;> simp [h]
theorem b2_01 {c : Prop} [Decidable c] : b2 c = 0 ∨ b2 c = 1 := by unfold b2; by_cases h : c <;> simp [h]
theorem b2_c {c c' : Prop} [Decidable c] [Decidable c'] (h : c ↔ c') : b2 c = b2 c' := by unfold b2; by_cases h1 : c <;> simp [h1, h.symm] <;> simp_all
theorem nl_add (a b : Nat) : (no_index (OfNat.ofNat a : Int32)) + nI b = nI ((OfNat.ofNat a : Nat) + b) := nI_add a b
theorem nr_add (a b : Nat) : nI b + (no_index (OfNat.ofNat a : Int32)) = nI (b + (OfNat.ofNat a : Nat)) := nI_add b a
theorem nl_mul (a b : Nat) : (no_index (OfNat.ofNat a : Int32)) * nI b = nI ((OfNat.ofNat a : Nat) * b) := pk_mul a b
theorem nr_mul (a b : Nat) : nI b * (no_index (OfNat.ofNat a : Int32)) = nI (b * (OfNat.ofNat a : Nat)) := pk_mul b a
theorem nlt_l {a b : Nat} (ha : a < 2 ^ 31) (hb : (OfNat.ofNat b : Nat) < 2 ^ 31) : nI a < (no_index (OfNat.ofNat b : Int32)) ↔ a < (OfNat.ofNat b : Nat) := nI_ltI ha hb
theorem llt_n {a b : Nat} (ha : a < 2 ^ 31) (hb : (OfNat.ofNat b : Nat) < 2 ^ 31) : (no_index (OfNat.ofNat b : Int32)) < nI a ↔ (OfNat.ofNat b : Nat) < a := nI_ltI hb ha
theorem nle_l {a b : Nat} (ha : a < 2 ^ 31) (hb : (OfNat.ofNat b : Nat) < 2 ^ 31) : nI a ≤ (no_index (OfNat.ofNat b : Int32)) ↔ a ≤ (OfNat.ofNat b : Nat) := nI_leI ha hb
theorem lle_n {a b : Nat} (ha : a < 2 ^ 31) (hb : (OfNat.ofNat b : Nat) < 2 ^ 31) : (no_index (OfNat.ofNat b : Int32)) ≤ nI a ↔ (OfNat.ofNat b : Nat) ≤ a := nI_leI hb ha
theorem neq_l {a b : Nat} (ha : a < 2 ^ 31) (hb : (OfNat.ofNat b : Nat) < 2 ^ 31) : nI a = (no_index (OfNat.ofNat b : Int32)) ↔ a = (OfNat.ofNat b : Nat) := nI_eq ha hb
theorem nn1 : ¬ ((-1 : Int32) = 0) := by decide
theorem rmd_n {a b : Nat} (ha : a < 2 ^ 31) (h0 : 0 < (OfNat.ofNat b : Nat)) (hb : (OfNat.ofNat b : Nat) < 2 ^ 31) : rmd (nI a) (no_index (OfNat.ofNat b : Int32)) = nI (a % (OfNat.ofNat b : Nat)) := pk_rem ha h0 hb
theorem div_n {a b : Nat} (ha : a < 2 ^ 31) (h0 : 0 < (OfNat.ofNat b : Nat)) (hb : (OfNat.ofNat b : Nat) < 2 ^ 31) : nI a / (no_index (OfNat.ofNat b : Int32)) = nI (a / (OfNat.ofNat b : Nat)) := pk_div ha h0 hb
theorem vp_n {k N : Nat} (h : k < N) (hN : N < 2 ^ 31) : vp_in (nI k) N := vp_in_nI h hN
/-- an int within 0..b is a natural -/
theorem nat_of {x : Int32} {b : Nat} (hb : b < 2 ^ 31) (h0 : 0 ≤ x) (h1 : x ≤ nI b) : ∃ j, j ≤ b ∧ x = nI j := nI_of2 (nI_toInt hb) (Int32.not_lt.mpr h0) h1
