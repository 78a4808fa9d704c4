/-! BOTH OBJECTS, call by call: what to insure -/
theorem sub_pos {a b : Nat} (ha : a < 2 ^ 30) (hb : b < 2 ^ 30) : 0 < nI a - nI b ↔ b < a := by
  rw [Int32.lt_iff_toInt_lt, pk_sub_toInt ha hb]
  show (0 : Int) < _ ↔ _
  omega
theorem sub_zero {a b : Nat} (ha : a < 2 ^ 30) (hb : b < 2 ^ 30) : nI a - nI b = 0 ↔ a = b := by
  constructor
  · intro h
    have := congrArg Int32.toInt h
    rw [pk_sub_toInt ha hb] at this
    have h0 : (0 : Int32).toInt = 0 := rfl
    omega
  · intro h; subst h; grind
/-- the best set so far -/
abbrev bett (T : nT) (n M s b : Nat) : Prop := smN T s 2 1 n ≤ M ∧ (smN T b 2 0 n < smN T s 2 0 n ∨ (smN T s 2 0 n = smN T b 2 0 n ∧ smN T s 2 1 n < smN T b 2 1 n))
def insF (T : nT) (n M : Nat) : Nat → Nat → Nat → Nat
  | 0, _, b => b
  | r + 1, s, b => if bett T n M s b then insF T n M r (s + 1) s else insF T n M r (s + 1) b
def insZ (T : nT) (n : Nat) (w : Int32) (b : Nat) : Int32 := if w = 0 then nI (smN T b 2 0 n) else if w = 1 then nI (smN T b 2 1 n) else nI b
section OPS7
variable {E : eT} {V V1 V2 : vT} {tl : Nat} {k : Int32 → vT → Prop} {kv : vT → Prop} {x1 x2 x3 x4 x5 : Int32} {m : Nat} {rk : Int32 → Int32 → nT → Int32} {L : lawT}
theorem s0_sumOf {s n w f : Nat} (hC : CM E tl) (hs : s < 2 ^ 31) (hn : n ≤ 10) (hw : ∀ i, i < n → w * i + f < 260) (h : k (nI (smN (V 106) s w f n)) V) : c0_sumOf E (nI s) (nI n) (nI w) (nI f) V k := by
  refine n0_sumOf (b0_sumOf_0 hC ?_)
  have key : ∀ r i, i + r = n → w0_sumOf E k 6 [some (vr 16), some (vi (nI s)), some (vi (nI n)), some (vi (nI w)), some (vi (nI f)), some (vi (nI (smN (V 106) s w f i))), some (vi (nI i))] [] V := by
    intro r
    induction r with
    | zero =>
      intro i hi
      have : i = n := by omega
      subst this
      exact b0_sumOf_6 hC ⟨fun _ => h, fun q => absurd q (nI_nlt (Nat.le_refl _) (by omega))⟩
    | succ r ih =>
      intro i hi
      have ih := ih (i + 1) (by omega)
      simp only [smN] at ih
      refine b0_sumOf_6 hC ⟨fun q => absurd q (nI_ge (by omega) (by omega)), fun _ => s0_has hC hs (by omega) ?_⟩
      rw [b2_0, Int32.add_zero, nI_1, pk_mul, nI_add]
      refine ⟨fun q => by rwa [if_neg q] at ih, fun q => s0_fed hC (hw i (by omega)) ?_⟩
      rw [oc_q, nI_add]
      rwa [if_pos (Classical.not_not.mp q)] at ih
  exact key n 0 (by omega)
theorem cins_loop {n M : Nat} {z : Int32} (hC : CM E tl) (hn : n ≤ 10) (hM : M ≤ 2550) (h : k z V) :
    ∀ r s b, s + r = 2 ^ n → b < 2 ^ n → insZ (V 106) n x3 (insF (V 106) n M r s b) = z → w0_insure E k 52 [some (vr 16), some (vi (nI n)), some (vi (nI M)), some (vi x3), some (vi (nI b)), some (vi (nI s)), none] [] V := by
  have h2 : 2 ^ n ≤ 1024 := Nat.pow_le_pow_right (n := 2) (j := 10) (by decide) hn
  have hw : ∀ f, f < 2 → ∀ i, i < n → 2 * i + f < 260 := fun f hf i hi => by omega
  have le : ∀ s f, smN (V 106) s 2 f n ≤ 2550 := fun s f => by have := smN_le (T := V 106) (s := s) (w := 2) (f := f) n; omega
  intro r
  induction r with
  | zero =>
    intro s b hi hb h1
    have : s = 2 ^ n := by omega
    subst this
    simp only [insF, insZ] at h1
    refine b0_insure_52 hC ⟨fun _ => ⟨fun q => ⟨fun q2 => by rw [if_neg q, if_neg q2] at h1; rw [h1]; exact h, fun q2 => s0_sumOf (w := 2) (f := 1) hC (by omega) hn (hw 1 (by decide)) (by rw [if_neg q, if_pos q2] at h1; rw [h1]; exact h)⟩, fun q => s0_sumOf (w := 2) (f := 0) hC (by omega) hn (hw 0 (by decide)) (by rw [if_pos q] at h1; rw [h1]; exact h)⟩, fun q => absurd q ?_⟩
    rw [shl1 (by omega)]
    exact nI_nlt (Nat.le_refl _) (by omega)
  | succ r ih =>
    intro s b hi hb h1
    simp only [insF] at h1
    refine b0_insure_52 hC ⟨fun q => absurd q ?_, fun _ => s0_sumOf (w := 2) (f := 1) hC (by omega) hn (hw 1 (by decide)) ⟨fun q => s0_sumOf (w := 2) (f := 0) hC (by omega) hn (hw 0 (by decide)) (s0_sumOf (w := 2) (f := 0) hC (by omega) hn (hw 0 (by decide)) ?_), fun q => ?_⟩⟩
    · rw [shl1 (by omega)]; exact nI_ge (by omega) (by omega)
    · have l1 := le s 0
      have l2 := le b 0
      have l3 := le s 1
      have l4 := le b 1
      rw [nI_leI (by omega) (by omega)] at q
      have q4 : nI (smN (V 106) s 2 0 n) - nI (smN (V 106) b 2 0 n) ≤ 0 ↔ smN (V 106) s 2 0 n ≤ smN (V 106) b 2 0 n := by
        rw [← Int32.not_lt, sub_pos (by omega) (by omega)]; omega
      rw [sub_pos (by omega) (by omega), q4, sub_zero (by omega) (by omega), nI_1]
      refine ⟨fun q2 => ih (s + 1) s (by omega) (by omega) (by rw [if_pos ⟨q, Or.inl q2⟩] at h1; exact h1), fun q2 => ⟨fun q3 => ih (s + 1) b (by omega) hb ?_, fun q3 => s0_sumOf (w := 2) (f := 1) hC (by omega) hn (hw 1 (by decide)) (s0_sumOf (w := 2) (f := 1) hC (by omega) hn (hw 1 (by decide)) ?_)⟩⟩
      · rw [if_neg (by unfold bett; omega)] at h1; exact h1
      · rw [nI_leI (by omega) (by omega), nI_ltI (by omega) (by omega)]
        refine ⟨fun q5 => ih (s + 1) b (by omega) hb ?_, fun q5 => ih (s + 1) s (by omega) (by omega) ?_⟩
        · rw [if_neg (by unfold bett; omega)] at h1; exact h1
        · rw [if_pos (by unfold bett; omega)] at h1; exact h1
    · have l3 := le s 1
      rw [nI_ltI (by omega) (by omega)] at q
      rw [nI_1]
      exact ih (s + 1) b (by omega) hb (by rw [if_neg (by unfold bett; omega)] at h1; exact h1)
theorem tins_loop {n M : Nat} {z : Int32} (hT : TW E) (hn : n ≤ 10) (hM : M ≤ 2550) (h : k z V) :
    ∀ r s b, s + r = 2 ^ n → b < 2 ^ n → insZ (V 220) n x3 (insF (V 220) n M r s b) = z → w6_insure E k 59 [some (vr 214), some (vi (nI n)), some (vi (nI M)), some (vi x3), some (vi (nI b)), some (vi (nI (smN (V 220) b 2 0 n))), some (vi (nI (smN (V 220) b 2 1 n))), some (vi (nI s)), none, none, none] [] V := by
  have h2 : 2 ^ n ≤ 1024 := Nat.pow_le_pow_right (n := 2) (j := 10) (by decide) hn
  have le : ∀ s f, smN (V 220) s 2 f n ≤ 2550 := fun s f => by have := smN_le (T := V 220) (s := s) (w := 2) (f := f) n; omega
  intro r
  induction r with
  | zero =>
    intro s b hi hb h1
    have : s = 2 ^ n := by omega
    subst this
    simp only [insF, insZ] at h1
    refine b6_insure_59 hT ⟨fun _ => ⟨fun q => ⟨fun q2 => by rw [if_neg q, if_neg q2] at h1; rw [h1]; exact h, fun q2 => by rw [if_neg q, if_pos q2] at h1; rw [h1]; exact h⟩, fun q => by rw [if_pos q] at h1; rw [h1]; exact h⟩, fun q => absurd q ?_⟩
    rw [shl1 (by omega)]
    exact nI_nlt (Nat.le_refl _) (by omega)
  | succ r ih =>
    intro s b hi hb h1
    simp only [insF] at h1
    refine b6_insure_59 hT ⟨fun q => absurd q ?_, fun _ => ?_⟩
    · rw [shl1 (by omega)]; exact nI_ge (by omega) (by omega)
    have inner : ∀ r' i, i + r' = n → w6_insure E k 76 [some (vr 214), some (vi (nI n)), some (vi (nI M)), some (vi x3), some (vi (nI b)), some (vi (nI (smN (V 220) b 2 0 n))), some (vi (nI (smN (V 220) b 2 1 n))), some (vi (nI s)), some (vi (nI (smN (V 220) s 2 0 i))), some (vi (nI (smN (V 220) s 2 1 i))), some (vi (nI i))] [] V := by
      intro r'
      induction r' with
      | zero =>
        intro i hi'
        have : i = n := by omega
        subst this
        refine b6_insure_76 hT ⟨fun _ => ?_, fun q => absurd q (nI_nlt (Nat.le_refl _) (by omega))⟩
        have l1 := le s 0
        have l2 := le b 0
        have l3 := le s 1
        have l4 := le b 1
        rw [nI_leI (by omega) (by omega), nI_ltI (by omega) (by omega), nI_leI (by omega) (by omega), nI_ltI (by omega) (by omega), nI_eq (by omega) (by omega), nI_leI (by omega) (by omega), nI_ltI (by omega) (by omega), nI_1]
        have no := fun hb0 : ¬ bett (V 220) i M s b => ih (s + 1) b (by omega) hb (by rw [if_neg hb0] at h1; exact h1)
        have ye := fun hb0 : bett (V 220) i M s b => ih (s + 1) s (by omega) (by omega) (by rw [if_pos hb0] at h1; exact h1)
        unfold bett at no ye
        exact ⟨fun q => no (by omega), fun q => ⟨fun q2 => no (by omega), fun q2 => ⟨fun q3 => ye (by omega), fun q3 => ⟨fun q4 => ye (by omega), fun q4 => no (by omega)⟩⟩⟩⟩
      | succ r' ih' =>
        intro i hi'
        have ih' := ih' (i + 1) (by omega)
        simp only [smN] at ih'
        refine b6_insure_76 hT ⟨fun q => absurd q (nI_ge (by omega) (by omega)), fun _ => s6_has hT (by omega) (by omega) ?_⟩
        rw [b2_0, nI_1]
        simp only [nl_mul, nr_add]
        refine ⟨fun q => s6_octet hT (by omega) (s6_octet hT (by omega) ?_), fun q => ?_⟩
        · rw [oc_q, oc_q, nI_add, nI_add]
          rw [if_pos (Classical.not_not.mp q), if_pos (Classical.not_not.mp q)] at ih'
          exact ih'
        · rw [if_neg q, if_neg q] at ih'; exact ih'
    exact inner n 0 (by omega)
theorem o_insure (h : Rl E tl V) : c0_insure E x1 x2 x3 V (fun r V1 => c6_insure E x1 x2 x3 V1 (fun r' V2 => r' = r ∧ Rl E tl V2)) := by
  have e0 : b2 (0 ≤ x3 ∧ x3 < 3) = b2 (0 ≤ x3 ∧ x3 ≤ 2) := in_le (a := 3) (b := 2) rfl (by decide)
  refine n0_insure (b0_insure_0 h.C (s0_within h.C ⟨fun q => n6_insure (b6_insure_0 h.T (s6_in h.T ⟨fun _ => ⟨rfl, h⟩, fun q2 => absurd q q2⟩)), fun q => s0_within h.C ⟨fun q1 => ?_, fun q1 => s0_in h.C ⟨fun q2 => ?_, fun q2 => ?_⟩⟩⟩))
  · exact n6_insure (b6_insure_0 h.T (s6_in h.T ⟨fun q3 => absurd q3 q, fun _ => s6_in h.T ⟨fun _ => ⟨rfl, h⟩, fun q3 => absurd q1 q3⟩⟩))
  · exact n6_insure (b6_insure_0 h.T (s6_in h.T ⟨fun q3 => absurd q3 q, fun _ => s6_in h.T ⟨fun q3 => absurd q3 q1, fun _ => s6_in h.T ⟨fun _ => ⟨rfl, h⟩, fun q3 => absurd (e0 ▸ q2) q3⟩⟩⟩))
  obtain ⟨n, n1, n2, rfl⟩ := rng (a := 1) (b := 10) (by decide) (by decide) q
  obtain ⟨M, _, m2, rfl⟩ := rng (a := 0) (b := 2550) (by decide) (by decide) q1
  rw [h.tp]
  refine ⟨fun q3 => ?_, fun q3 => n6_insure (b6_insure_0 h.T (s6_in h.T ⟨fun q4 => absurd q4 q, fun _ => s6_in h.T ⟨fun q4 => absurd q4 q1, fun _ => s6_in h.T ⟨fun q4 => absurd (e0 ▸ q4) q2, fun _ => ⟨fun q4 => absurd q3 (Int32.not_lt.mpr q4), fun _ => ⟨rfl, h⟩⟩⟩⟩⟩))⟩
  have hp : 2 ^ n = 1 + (2 ^ n - 1) := by have := Nat.one_le_two_pow (n := n); omega
  have z0 : ∀ (T : nT) f i, smN T 0 2 f i = 0 := by
    intro T f i
    induction i with
    | zero => rfl
    | succ i ih => simp [smN, ih]
  refine cins_loop (n := n) (M := M) h.C (by omega) (by omega) ?_ (2 ^ n - 1) 1 0 hp.symm (Nat.two_pow_pos n) rfl
  refine n6_insure (b6_insure_0 h.T (s6_in h.T ⟨fun q4 => absurd q4 q, fun _ => s6_in h.T ⟨fun q4 => absurd q4 q1, fun _ => s6_in h.T ⟨fun q4 => absurd (e0 ▸ q4) q2, fun _ => ⟨fun _ => ?_, fun q4 => absurd q3 ?_⟩⟩⟩⟩))
  · have := tins_loop (V := up2 (up2 V 16 7 0) 214 6 0) (x3 := x3) (k := fun r' V2 => r' = insZ (up2 V 16 7 0 106) n x3 (insF (up2 V 16 7 0 106) n M (2 ^ n - 1) 1 0) ∧ Rl E tl V2) (n := n) (M := M) h.T (by omega) (by omega) ⟨rfl, h.tz0⟩ (2 ^ n - 1) 1 0 hp.symm (Nat.two_pow_pos n) (by rw [up2_n (by decide), up2_n (by decide), up2_n (by decide), h.tap])
    rw [z0, z0] at this
    exact this
  · rw [up2_n (by decide)] at q4; exact Int32.not_le.mpr q4
end OPS7
