/-! BOTH OBJECTS, call by call: steps, where it began, what is safe -/
section FIR3
variable {E : eT} {V V1 V2 : vT} {k : Int32 → vT → Prop} {kv : vT → Prop} {tl : Nat} {x1 x2 x3 : Int32}
theorem Rl.scr {S T : List Nat} (h : Rl E tl V) (a : Fr S V V1) (b : Fr T V1 V2) (hS : ∀ o, o ∈ S → 111 ≤ o ∧ o < 214) (hT : ∀ o, o ∈ T → 234 ≤ o ∧ o < 245) : Rl E tl V2 := by
  have hl := h.lay
  have a1 : ∀ o, ¬ (111 ≤ o ∧ o < 214) → V1 o = V o := fun o ho => a o (fun z => ho (hS o z))
  refine h.same (V1 := V1) (S := T) (T := []) (fun o ho => a1 o (by unfold Kc at ho; omega)) (fun o _ _ => a1 o (by omega)) ⟨fun o ho _ => b o ho, fun j _ => by rw [b 214 (fun z => by have := hT 214 z; omega)]⟩ (fun o ho => ?_) (by simp) (fv_c fun o _ _ => a1 o (by omega)) (a1 17 (by omega)) (a1 106 (by omega)) (by rw [a1 16 (by omega)]) (by rw [a1 16 (by omega)])
  have := hT o ho
  refine ⟨by omega, by omega, by simp; omega, by omega⟩
theorem Rl.c1 (h : Rl E tl V) (a : Fr [111] V V1) : ∀ o, o ≠ 111 → V1 o = V o := fun o ho => a o (by simpa using ho)
theorem s0_isWood (hC : CM E tl) (h : k (b2 ((0 ≤ x1 ∧ x1 ≤ 95) ∧ V 17 x1.toNatClampNeg = 1)) V) : c0_isWood E x1 V k := by
  have e0 : b2 (0 ≤ x1 ∧ x1 < 96) = b2 (0 ≤ x1 ∧ x1 ≤ 95) := in_le (a := 96) (b := 95) rfl (by decide)
  refine n0_isWood (b0_isWood_0 hC (s0_in hC ⟨fun q => ?_, fun q => ?_⟩))
  · rw [e0, b2_0] at q
    rwa [b2_f (fun z => q z.1)] at h
  · rw [e0, b2_0] at q
    have q := Classical.not_not.mp q
    refine ⟨vp_of (b := 95) q.1 q.2 (by decide) (by decide), fun q2 => ?_, fun q2 => ?_⟩
    · rwa [b2_f (fun z => q2 z.2)] at h
    · rwa [b2_t ⟨q, q2⟩] at h
theorem s0_isWoodN {p : Nat} (hC : CM E tl) (hp : p < 96) (h : k (b2 (V 17 p = 1)) V) : c0_isWood E (nI p) V k := by
  refine s0_isWood hC ?_
  rw [nI_clamp (by omega)]
  rwa [b2_c (c' := V 17 p = 1)]
  exact ⟨fun q => q.2, fun q => ⟨⟨nI_pos' (by omega), nI_le (b := 95) (by omega) (by decide)⟩, q⟩⟩
theorem o_steps (h : Rl E tl V) : c0_steps E x1 x2 V (fun r V1 => c6_steps E x1 x2 V1 (fun r' V2 => r' = r ∧ Rl E tl V2)) := by
  have e1 : b2 (0 ≤ x1 ∧ x1 < 96) = b2 (0 ≤ x1 ∧ x1 ≤ 95) := in_le (a := 96) (b := 95) rfl (by decide)
  have e2 : b2 (0 ≤ x2 ∧ x2 < 96) = b2 (0 ≤ x2 ∧ x2 ≤ 95) := in_le (a := 96) (b := 95) rfl (by decide)
  refine n0_steps (b0_steps_0 h.C (s0_in h.C ?_))
  rw [e1]
  refine ⟨fun q => n6_steps (b6_steps_0 h.T (s6_isPlace h.T ⟨fun _ => ⟨rfl, h⟩, fun z => absurd q z⟩)), fun q => s0_in h.C ?_⟩
  rw [e2]
  refine ⟨fun q2 => ?_, fun q2 => n6_steps (b6_steps_0 h.T (s6_isPlace h.T ⟨fun z => absurd z q, fun _ => s6_isPlace h.T ⟨fun z => absurd q2 z, fun _ => ⟨rfl, h⟩⟩⟩))⟩
  obtain ⟨a, _, ha, rfl⟩ := rng (a := 0) (b := 95) (by decide) (by decide) q
  obtain ⟨b, _, hb, rfl⟩ := rng (a := 0) (b := 95) (by decide) (by decide) q2
  refine s0_isWoodN h.C (by omega) ?_
  rw [h.kin]
  refine ⟨fun q3 => n6_steps (b6_steps_0 h.T (s6_isPlace h.T ⟨fun z => absurd z q, fun _ => s6_isPlace h.T ⟨fun _ => s6_isWoodN h.T (by omega) ⟨fun _ => ⟨rfl, h⟩, fun z => absurd q3 z⟩, fun z => absurd z q2⟩⟩)), fun q3 => s0_isWoodN h.C (by omega) ?_⟩
  rw [h.kin]
  refine ⟨fun q4 => s0_laysFrom h.C h.cb (by omega) fun V1 w1 f1 => ?_, fun q4 => n6_steps (b6_steps_0 h.T (s6_isPlace h.T ⟨fun z => absurd z q, fun _ => s6_isPlace h.T ⟨fun _ => s6_isWoodN h.T (by omega) ⟨fun z => absurd z q3, fun _ => s6_isWoodN h.T (by omega) ⟨fun z => absurd q4 z, fun _ => ⟨rfl, h⟩⟩⟩, fun z => absurd z q2⟩⟩))⟩
  have e18 := f1 218 (by decide)
  have tw : ∀ r, (∀ V2 F0, (∀ q, q < 96 → F0 q = -1) → TQ (fun q => q = a) (V 218) F0 V2 → (V2 236 b = -1 → r = -2) ∧ (V2 236 b ≠ -1 → r = V2 236 b)) → c6_steps E (nI a) (nI b) V1 (fun r' V2 => r' = r ∧ Rl E tl V2) := by
    intro r hr
    refine n6_steps (b6_steps_0 h.T (s6_isPlace h.T ⟨fun z => absurd z q, fun _ => s6_isPlace h.T ⟨fun _ => s6_isWoodN h.T (by omega) ?_, fun z => absurd z q2⟩⟩))
    rw [e18]
    refine ⟨fun z => absurd z q3, fun _ => s6_isWoodN h.T (by omega) ?_⟩
    rw [e18]
    refine ⟨fun _ => s6_laysFireFrom h.T (by omega) fun V2 F0 z0 t f2 => ?_, fun z => absurd z q4⟩
    rw [e18] at t
    have hr := hr V2 F0 z0 t
    have hv := vp_n (k := b) (N := 96) (by omega) (by decide)
    have R := h.scr f1 f2 (by simp) (by simp)
    rw [nI_clamp (by omega)]
    exact ⟨hv, fun z => ⟨hv, (hr.2 z).symm, R⟩, fun z => ⟨(hr.1 z).symm, R⟩⟩
  have hv := vp_n (k := b) (N := 96) (by omega) (by decide)
  rw [nI_clamp (by omega)]
  rw [h.kin] at w1
  refine ⟨hv, fun q5 => ⟨hv, tw _ fun V2 F0 z0 ⟨qf, lf, m, t⟩ => ?_⟩, fun q5 => tw _ fun V2 F0 z0 ⟨qf, lf, m, t⟩ => ?_⟩
  · rcases wave_eq w1 z0 t b (by omega) with ⟨g1, g2⟩ | ⟨j, hj, g1, g2⟩
    · exact absurd g1 q5
    · exact ⟨fun z => absurd (g2.symm.trans z) (nI_n1 (by omega)), fun _ => by rw [g1, g2]⟩
  · rcases wave_eq w1 z0 t b (by omega) with ⟨g1, g2⟩ | ⟨j, hj, g1, g2⟩
    · exact ⟨fun _ => rfl, fun z => absurd g2 z⟩
    · exact absurd (g1.symm.trans q5) (nI_fA (by omega))
/-! counting up and down comes to the same -/
def cnU (c : Nat → Prop) [DecidablePred c] : Nat → Int32
  | 0 => 0
  | n + 1 => if c n then cnU c n + 1 else cnU c n
def loU (c : Nat → Prop) [DecidablePred c] : Nat → Int32
  | 0 => -2
  | n + 1 => if loU c n = -2 ∧ c n then nI n else loU c n
/-- from r places below 96 - 1 - .. looked at from above -/
def cnD (c : Nat → Prop) [DecidablePred c] : Nat → Int32
  | 0 => 0
  | r + 1 => if c (95 - r) then cnD c r + 1 else cnD c r
def loD (c : Nat → Prop) [DecidablePred c] : Nat → Int32
  | 0 => -2
  | r + 1 => if c (95 - r) then nI (95 - r) else loD c r
theorem cnU_n {c : Nat → Prop} [DecidablePred c] : ∀ n, cnU c n = nI (cN c n)
  | 0 => rfl
  | n + 1 => by
    simp only [cnU, cN]
    rw [cnU_n n]
    split
    · exact nI_1 _
    · rfl
theorem cnD_n {c : Nat → Prop} [DecidablePred c] : ∀ r, r ≤ 96 → cnD c r = nI (cN (fun i => c (95 - i)) r)
  | 0, _ => rfl
  | r + 1, h => by
    simp only [cnD, cN]
    rw [cnD_n r (by omega)]
    split
    · exact nI_1 _
    · rfl
theorem cN_s {c : Nat → Prop} [DecidablePred c] : ∀ n, cN c n = sN (fun i => if c i then 1 else 0) n
  | 0 => rfl
  | n + 1 => by
    simp only [cN, sN]
    rw [cN_s n]
    split <;> rfl
theorem sN_rev {f : Nat → Nat} : ∀ n, sN (fun i => f (n - 1 - i)) n = sN f n
  | 0 => rfl
  | n + 1 => by
    have sh : ∀ (g : Nat → Nat) m, sN g (m + 1) = g 0 + sN (fun i => g (i + 1)) m := by
      intro g m
      induction m with
      | zero => simp [sN]
      | succ m ih => rw [sN, ih, sN]; omega
    rw [sh, sN]
    simp only [Nat.add_sub_cancel, Nat.sub_zero]
    rw [sN_c (g := fun i => f (n - 1 - i)) n (fun i hi => by rw [show n - (i + 1) = n - 1 - i by omega]), sN_rev n]
    omega
theorem cn_ud {c : Nat → Prop} [DecidablePred c] : cnD c 96 = cnU c 96 := by
  rw [cnU_n, cnD_n 96 (by omega), cN_s, cN_s]
  exact congrArg nI (sN_rev (f := fun i => if c i then 1 else 0) 96)
theorem loU_low {c : Nat → Prop} [DecidablePred c] : ∀ n, n ≤ 96 → (loU c n = -2 ∧ ∀ i, i < n → ¬ c i) ∨ ∃ a, a < n ∧ loU c n = nI a ∧ c a ∧ ∀ i, i < a → ¬ c i
  | 0, _ => Or.inl ⟨rfl, fun i hi => by omega⟩
  | n + 1, h => by
    simp only [loU]
    rcases loU_low (c := c) n (by omega) with ⟨a, b⟩ | ⟨x, x1, x2, x3, x4⟩
    · by_cases hc : c n
      · rw [if_pos ⟨a, hc⟩]
        exact Or.inr ⟨n, by omega, rfl, hc, b⟩
      · rw [if_neg (fun z => hc z.2)]
        refine Or.inl ⟨a, fun i hi => ?_⟩
        by_cases e : i = n
        · subst e; exact hc
        · exact b i (by omega)
    · have : nI x ≠ -2 := fun e => by
        have := congrArg Int32.toInt e
        rw [nI_toInt (by omega)] at this
        change (x : Int) = -2 at this
        omega
      rw [if_neg (fun z => this (x2.symm.trans z.1))]
      exact Or.inr ⟨x, by omega, x2, x3, x4⟩
theorem loD_low {c : Nat → Prop} [DecidablePred c] : ∀ r, r ≤ 96 → (loD c r = -2 ∧ ∀ i, 96 - r ≤ i → i < 96 → ¬ c i) ∨ ∃ a, 96 - r ≤ a ∧ a < 96 ∧ loD c r = nI a ∧ c a ∧ ∀ i, 96 - r ≤ i → i < a → ¬ c i
  | 0, _ => Or.inl ⟨rfl, fun i hi => by omega⟩
  | r + 1, h => by
    simp only [loD]
    by_cases hc : c (95 - r)
    · rw [if_pos hc]
      exact Or.inr ⟨95 - r, by omega, by omega, rfl, hc, fun i h1 h2 => by omega⟩
    · rw [if_neg hc]
      rcases loD_low (c := c) r (by omega) with ⟨a, b⟩ | ⟨x, x1, x2, x3, x4, x5⟩
      · refine Or.inl ⟨a, fun i h1 h2 => ?_⟩
        by_cases e : i = 95 - r
        · subst e; exact hc
        · exact b i (by omega) h2
      · refine Or.inr ⟨x, by omega, x2, x3, x4, fun i h1 h2 => ?_⟩
        by_cases e : i = 95 - r
        · subst e; exact hc
        · exact x5 i (by omega) h2
theorem lo_ud {c : Nat → Prop} [DecidablePred c] : loD c 96 = loU c 96 := by
  rcases loU_low (c := c) 96 (by omega) with ⟨a, b⟩ | ⟨x, x1, x2, x3, x4⟩
  · rcases loD_low (c := c) 96 (by omega) with ⟨a', b'⟩ | ⟨y, y1, y2, y3, y4, y5⟩
    · rw [a, a']
    · exact absurd y4 (b y y2)
  · rcases loD_low (c := c) 96 (by omega) with ⟨a', b'⟩ | ⟨y, y1, y2, y3, y4, y5⟩
    · exact absurd x3 (b' x (by omega) x1)
    · rw [x2, y3]
      have : x = y := by
        by_cases e : x < y
        · exact absurd x3 (y5 x (by omega) e)
        · by_cases e2 : y < x
          · exact absurd y4 (x4 y e2)
          · omega
      rw [this]
end FIR3
