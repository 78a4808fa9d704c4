/-! THE TWIN'S METHODS, what they answer: places, things, facts -/
section T6a
variable {E : eT} {V : vT} {k : Int32 → vT → Prop} {kv : vT → Prop} {x1 x2 x3 : Int32}
theorem s6_in (hT : TW E) (h : k (b2 (x2 ≤ x1 ∧ x1 ≤ x3)) V) : c6_in E x1 x2 x3 V k := by
  refine n6_in (b6_in_0 hT ?_)
  grind [b2]
theorem s6_isPlace (hT : TW E) (h : k (b2 (0 ≤ x1 ∧ x1 ≤ 95)) V) : c6_isPlace E x1 V k :=
  n6_isPlace (b6_isPlace_0 hT (s6_in hT ⟨b2_01, h⟩))
theorem s6_isSpot (hT : TW E) (h : k (b2 ((0 ≤ x1 ∧ x1 ≤ 11) ∧ (0 ≤ x2 ∧ x2 ≤ 7))) V) : c6_isSpot E x1 x2 V k := by
  refine n6_isSpot (b6_isSpot_0 hT (s6_in hT ⟨fun h1 => ?_, fun h1 => s6_in hT ⟨fun h2 => ?_, fun h2 => ?_⟩⟩)) <;> grind [b2]
theorem vp_of {x : Int32} {b n : Nat} (h0 : 0 ≤ x) (h1 : x ≤ nI b) (hb : b < n) (hn : n < 2 ^ 31) : vp_in x n := by
  obtain ⟨j, hj, rfl⟩ := nat_of (by omega) h0 h1
  exact vp_n (by omega) hn
theorem s6_isWood (hT : TW E) (h : k (b2 ((0 ≤ x1 ∧ x1 ≤ 95) ∧ V 218 x1.toNatClampNeg = 1)) V) : c6_isWood E x1 V k := by
  refine n6_isWood (b6_isWood_0 hT (s6_isPlace hT ⟨fun h1 => ?_, fun h1 => ⟨?_, fun h2 => ?_, fun h2 => ?_⟩⟩))
  · grind [b2]
  · rw [b2_0] at h1
    have h1 := Classical.not_not.mp h1
    exact vp_of (b := 95) h1.1 h1.2 (by decide) (by decide)
  · grind [b2]
  · grind [b2]
theorem s6_isWoodN {p : Nat} (hT : TW E) (hp : p < 96) (h : k (b2 (V 218 p = 1)) V) : c6_isWood E (nI p) V k := by
  refine s6_isWood hT ?_
  rw [nI_clamp (by omega)]
  rwa [b2_c (c' := V 218 p = 1)]
  constructor
  · exact fun q => q.2
  · exact fun q => ⟨⟨nI_pos' (by omega), nI_le (b := 95) (by omega) (by decide)⟩, q⟩
theorem s6_isThing (hT : TW E) (h : k (b2 ((0 ≤ x1 ∧ x1 ≤ 23) ∧ V 215 (192 + x1).toNatClampNeg = 1)) V) : c6_isThing E x1 V k := by
  refine n6_isThing (b6_isThing_0 hT (s6_in hT ⟨fun h1 => ?_, fun h1 => ⟨?_, fun h2 => ?_, fun h2 => ?_⟩⟩))
  · grind [b2]
  · rw [b2_0] at h1
    have h1 := Classical.not_not.mp h1
    obtain ⟨j, hj, rfl⟩ := nat_of (b := 23) (by omega) h1.1 h1.2
    simp (disch := omega) only [nl_add, vp_n]
  · grind [b2]
  · grind [b2]
theorem s6_isThingN {i : Nat} (hT : TW E) (hi : i < 24) (h : k (b2 (V 215 (192 + i) = 1)) V) : c6_isThing E (nI i) V k := by
  refine s6_isThing hT ?_
  simp (disch := omega) only [nl_add, nI_clamp]
  rwa [b2_c (c' := V 215 (192 + i) = 1)]
  constructor
  · exact fun q => q.2
  · exact fun q => ⟨⟨nI_pos' (by omega), nI_le (b := 23) (by omega) (by decide)⟩, q⟩
theorem s6_liesAt {i p : Nat} (hT : TW E) (hi : i < 24) (h : k (b2 (liesB (V 215) p i)) V) : c6_liesAt E (nI i) (nI p) V k := by
  refine n6_liesAt (b6_liesAt_0 hT (s6_isThingN hT hi ?_))
  simp (disch := omega) only [nl_add, nI_clamp]
  refine ⟨fun h1 => ?_, fun h1 => ⟨vp_n (by omega) (by decide), fun h2 => ?_, fun h2 => ⟨vp_n (by omega) (by decide), fun h3 => ?_, fun h3 => ?_⟩⟩⟩ <;> grind [b2]
theorem valuesAt_loop {p : Nat} (hT : TW E) (h : k (valuesA (V 215) p) V) : ∀ m i, i + m = 24 → w6_valuesAt E k 4 [some (vr 214), some (vi (nI p)), some (vi (sI (fun i => if liesB (V 215) p i ∧ V 215 (264 + i) = 0 then V 215 (240 + i) else 0) i)), some (vi (nI i))] [] V := by
  intro m
  induction m with
  | zero =>
    intro i hi
    have : i = 24 := by omega
    subst this
    exact b6_valuesAt_4 hT ⟨fun _ => h, fun h1 => absurd h1 (by decide)⟩
  | succ m ih =>
    intro i hi
    have ih := ih (i + 1) (by omega)
    refine b6_valuesAt_4 hT ⟨fun h1 => absurd h1 ?_, fun _ => s6_liesAt hT (by omega) ?_⟩
    · simp (disch := omega) only [lle_n]; omega
    · simp (disch := omega) only [nl_add, nI_clamp, nI_1]
      simp only [sI] at ih
      refine ⟨fun h1 => ?_, fun h1 => ⟨vp_n (by omega) (by decide), fun h2 => ?_, fun h2 => ⟨vp_n (by omega) (by decide), ?_⟩⟩⟩
      · rw [b2_0] at h1
        rwa [if_neg (fun q => h1 q.1), Int32.add_zero] at ih
      · rwa [if_neg (fun q => h2 q.2), Int32.add_zero] at ih
      · rw [b2_0] at h1
        rwa [if_pos ⟨Classical.not_not.mp h1, h2⟩] at ih
theorem s6_valuesAt {p : Nat} (hT : TW E) (h : k (valuesA (V 215) p) V) : c6_valuesAt E (nI p) V k :=
  n6_valuesAt (b6_valuesAt_0 hT (valuesAt_loop hT h 24 0 rfl))
end T6a
