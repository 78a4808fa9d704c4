/-! BOTH OBJECTS, call by call: octets, premiums, round figures, what to insure -/
def oq (T : nT) (i : Nat) : Nat := (T i).toBitVec.toNat % 256
theorem oq_lt {T : nT} {i : Nat} : oq T i < 256 := Nat.mod_lt _ (by decide)
theorem oc_q {T : nT} {i : Nat} : oc T i = nI (oq T i) := pk_and (T i) (m := 255) 8 (by decide)
theorem shl1 {n : Nat} (h : n ≤ 30) : (1 : Int32) <<< (nI n &&& 31) = nI (2 ^ n) := by
  have h2 : 1 * 2 ^ n < 2 ^ 32 := by rw [Nat.one_mul]; exact Nat.pow_lt_pow_right (by decide) (by omega)
  have := pk_shlN (n := 1) (nI n &&& 31) n (s_lm n (by omega)) h2
  rw [Nat.one_mul] at this
  exact this
/-- what a set of sums comes to -/
def smN (T : nT) (s w f : Nat) : Nat → Nat
  | 0 => 0
  | n + 1 => if s.testBit n = true then smN T s w f n + oq T (w * n + f) else smN T s w f n
theorem smN_le {T : nT} {s w f : Nat} : ∀ n, smN T s w f n ≤ 255 * n
  | 0 => by simp [smN]
  | n + 1 => by
    have := smN_le (T := T) (s := s) (w := w) (f := f) n
    have := oq_lt (T := T) (i := w * n + f)
    simp only [smN]
    split <;> omega
def prA (T : nT) (w : Int32) : Nat → Nat → Int32 → Int32 → Int32
  | 0, _, a, b => if w = 0 then a else b
  | r + 1, i, a, b => if oc T (2 * i + 1) ≤ 10 then prA T w r (i + 1) (a + oc T (2 * i) * oc T (2 * i + 1)) (b * oc T (2 * i + 1)) else -2
def nearI (v b t : Int32) : Int32 := if abI (t - v) < abI (b - v) then t else b
def rfA (v : Int32) : Nat → Int32 → Nat → Int32
  | 0, b, _ => b
  | r + 1, b, i => rfA v r (nearI v (nearI v (nearI v b (nI (10 ^ i))) (2 * nI (10 ^ i))) (5 * nI (10 ^ i))) (i + 1)
section OPS6
variable {E : eT} {V V1 V2 : vT} {tl : Nat} {k : Int32 → vT → Prop} {kv : vT → Prop} {x1 x2 x3 x4 x5 : Int32} {m : Nat} {rk : Int32 → Int32 → nT → Int32} {L : lawT}
theorem tprem_loop {n : Nat} {z : Int32} (hT : TW E) (hn : n ≤ 8) (h : k z V) :
    ∀ r i a b, i + r = n → prA (V 220) x2 r i a b = z → w6_premium E k 44 [some (vr 214), some (vi (nI n)), some (vi x2), some (vi a), some (vi b), some (vi (nI i))] [] V := by
  intro r
  induction r with
  | zero =>
    intro i a b hi h1
    have : i = n := by omega
    subst this
    simp only [prA] at h1
    exact b6_premium_44 hT ⟨fun _ => ⟨fun q => by rw [if_neg q] at h1; rw [h1]; exact h, fun q => by rw [if_pos q] at h1; rw [h1]; exact h⟩, fun q => absurd q (nI_nlt (Nat.le_refl _) (by omega))⟩
  | succ r ih =>
    intro i a b hi h1
    simp only [prA] at h1
    refine b6_premium_44 hT ⟨fun q => absurd q (nI_ge (by omega) (by omega)), fun _ => ?_⟩
    simp only [nl_mul, nr_add, nI_1]
    refine s6_octet hT (by omega) ⟨fun q => s6_octet hT (by omega) (s6_octet hT (by omega) (s6_octet hT (by omega) (ih (i + 1) _ _ (by omega) (by rw [if_pos q] at h1; exact h1)))), fun q => ?_⟩
    rw [if_neg (Int32.not_le.mpr q)] at h1
    rw [h1]; exact h
theorem cprem_loop {n : Nat} {z : Int32} (hC : CM E tl) (hn : n ≤ 8) (h : k z V) :
    ∀ r i a b, i + r = n → prA (V 106) x2 r i a b = z → w0_premium E k 43 [some (vr 16), some (vi (nI n)), some (vi x2), some (vi a), some (vi b), some (vi (nI i))] [] V := by
  intro r
  induction r with
  | zero =>
    intro i a b hi h1
    have : i = n := by omega
    subst this
    simp only [prA] at h1
    exact b0_premium_43 hC ⟨fun _ => ⟨fun q => by rw [if_neg q] at h1; rw [h1]; exact h, fun q => by rw [if_pos q] at h1; rw [h1]; exact h⟩, fun q => absurd q (nI_nlt (Nat.le_refl _) (by omega))⟩
  | succ r ih =>
    intro i a b hi h1
    simp only [prA] at h1
    refine b0_premium_43 hC ⟨fun q => absurd q (nI_ge (by omega) (by omega)), fun _ => ?_⟩
    simp only [nl_mul, nr_add, nI_1]
    refine s0_fed hC (by omega) ⟨fun q => s0_fed hC (by omega) (s0_fed hC (by omega) (s0_fed hC (by omega) (ih (i + 1) _ _ (by omega) (by rw [if_pos q] at h1; exact h1)))), fun q => ?_⟩
    rw [if_neg (Int32.not_le.mpr q)] at h1
    rw [h1]; exact h
theorem o_premium (h : Rl E tl V) : c0_premium E x1 x2 V (fun r V1 => c6_premium E x1 x2 V1 (fun r' V2 => r' = r ∧ Rl E tl V2)) := by
  have e0 : b2 (0 ≤ x2 ∧ x2 < 2) = b2 (0 ≤ x2 ∧ x2 ≤ 1) := in_le (a := 2) (b := 1) rfl (by decide)
  refine n0_premium (b0_premium_0 h.C (s0_within h.C ⟨fun q => n6_premium (b6_premium_0 h.T (s6_in h.T ⟨fun _ => ⟨rfl, h⟩, fun q2 => absurd q q2⟩)), fun q => s0_in h.C ⟨fun q2 => ?_, fun q2 => ?_⟩⟩))
  · exact n6_premium (b6_premium_0 h.T (s6_in h.T ⟨fun q3 => absurd q3 q, fun _ => s6_in h.T ⟨fun _ => ⟨rfl, h⟩, fun q3 => absurd (e0 ▸ q2) q3⟩⟩))
  obtain ⟨n, n1, n2, rfl⟩ := rng (a := 1) (b := 8) (by decide) (by decide) q
  rw [h.tp]
  refine ⟨fun q3 => ?_, fun q3 => n6_premium (b6_premium_0 h.T (s6_in h.T ⟨fun q4 => absurd q4 q, fun _ => s6_in h.T ⟨fun q4 => absurd (e0 ▸ q4) q2, fun _ => ⟨fun q4 => absurd q3 (Int32.not_lt.mpr q4), fun _ => ⟨rfl, h⟩⟩⟩⟩))⟩
  refine cprem_loop (n := n) h.C (by omega) ?_ n 0 0 1 (by omega) rfl
  refine n6_premium (b6_premium_0 h.T (s6_in h.T ⟨fun q4 => absurd q4 q, fun _ => s6_in h.T ⟨fun q4 => absurd (e0 ▸ q4) q2, fun _ => ⟨fun _ => ?_, fun q4 => absurd q3 ?_⟩⟩⟩))
  · refine tprem_loop (n := n) h.T (by omega) ⟨?_, h.tz0⟩ n 0 0 1 (by omega) rfl
    rw [up2_n (by decide), up2_n (by decide), up2_n (by decide), h.tap]
  · rw [up2_n (by decide)] at q4; exact Int32.not_le.mpr q4
theorem s6_size (hT : TW E) (h : k (abI x1) V) : c6_size E x1 V k := by
  unfold abI at h
  refine n6_size (b6_size_0 hT ⟨fun q => by rwa [if_pos q] at h, fun q => ?_⟩)
  rw [if_neg (Int32.not_le.mpr q)] at h
  have e : -x1 = 0 - x1 := by grind
  rwa [e]
theorem tround_loop {z : Int32} (hT : TW E) (h : k z V) :
    ∀ r i b, i + r = 7 → rfA x1 r b i = z → w6_roundFigure E k 17 [none, some (vi x1), some (vi b), some (vi (nI (10 ^ i)))] [] V := by
  intro r
  induction r with
  | zero =>
    intro i b hi h1
    have : i = 7 := by omega
    subst this
    simp only [rfA] at h1
    exact b6_roundFigure_17 hT ⟨fun _ => by rw [h1]; exact h, fun q => absurd q (by decide)⟩
  | succ r ih =>
    intro i b hi h1
    have h10 : 10 ^ i ≤ 10 ^ 6 := Nat.pow_le_pow_right (by decide) (by omega)
    have e10 : nI (10 ^ i) * 10 = nI (10 ^ (i + 1)) := by rw [Nat.pow_succ]; exact nr_mul 10 (10 ^ i)
    simp only [rfA] at h1
    refine b6_roundFigure_17 hT ⟨fun q => absurd q ?_, fun _ => ?_⟩
    · simp (disch := omega) only [llt_n]; omega
    · rw [e10]
      have ih := fun b => ih (i + 1) b (by omega)
      have n1 : ∀ b t : Int32, abI (t - x1) < abI (b - x1) → nearI x1 b t = t := fun b t q => if_pos q
      have n0 : ∀ b t : Int32, abI (b - x1) ≤ abI (t - x1) → nearI x1 b t = b := fun b t q => if_neg (Int32.not_lt.mpr q)
      refine s6_size hT (s6_size hT ⟨fun q1 => s6_size hT (s6_size hT ⟨fun q2 => s6_size hT (s6_size hT ⟨fun q3 => ih _ ?_, fun q3 => ih _ ?_⟩), fun q2 => s6_size hT (s6_size hT ⟨fun q3 => ih _ ?_, fun q3 => ih _ ?_⟩)⟩), fun q1 => s6_size hT (s6_size hT ⟨fun q2 => s6_size hT (s6_size hT ⟨fun q3 => ih _ ?_, fun q3 => ih _ ?_⟩), fun q2 => s6_size hT (s6_size hT ⟨fun q3 => ih _ ?_, fun q3 => ih _ ?_⟩)⟩)⟩)
      · rwa [n0 _ _ q1, n0 _ _ q2, n0 _ _ q3] at h1
      · rwa [n0 _ _ q1, n0 _ _ q2, n1 _ _ q3] at h1
      · rwa [n0 _ _ q1, n1 _ _ q2, n0 _ _ q3] at h1
      · rwa [n0 _ _ q1, n1 _ _ q2, n1 _ _ q3] at h1
      · rwa [n1 _ _ q1, n0 _ _ q2, n0 _ _ q3] at h1
      · rwa [n1 _ _ q1, n0 _ _ q2, n1 _ _ q3] at h1
      · rwa [n1 _ _ q1, n1 _ _ q2, n0 _ _ q3] at h1
      · rwa [n1 _ _ q1, n1 _ _ q2, n1 _ _ q3] at h1
theorem cround_loop {z : Int32} (hC : CM E tl) (h : k z V) :
    ∀ r i b, i + r = 7 → rfA x1 r b i = z → w0_roundFigure E k 17 [none, some (vi x1), some (vi b), some (vi (nI (10 ^ i))), none] [] V := by
  intro r
  induction r with
  | zero =>
    intro i b hi h1
    have : i = 7 := by omega
    subst this
    simp only [rfA] at h1
    exact b0_roundFigure_17 hC ⟨fun _ => by rw [h1]; exact h, fun q => absurd q (by decide)⟩
  | succ r ih =>
    intro i b hi h1
    have h10 : 10 ^ i ≤ 10 ^ 6 := Nat.pow_le_pow_right (by decide) (by omega)
    have e10 : nI (10 ^ i) * 10 = nI (10 ^ (i + 1)) := by rw [Nat.pow_succ]; exact nr_mul 10 (10 ^ i)
    simp only [rfA] at h1
    refine b0_roundFigure_17 hC ⟨fun q => absurd q ?_, fun _ => ?_⟩
    · simp (disch := omega) only [llt_n]; omega
    · have ih := fun b => ih (i + 1) b (by omega)
      have n1 : ∀ b t : Int32, abI (t - x1) < abI (b - x1) → nearI x1 b t = t := fun b t q => if_pos q
      have n0 : ∀ b t : Int32, abI (b - x1) ≤ abI (t - x1) → nearI x1 b t = b := fun b t q => if_neg (Int32.not_lt.mpr q)
      have last : ∀ b, rfA x1 r b (i + 1) = z → w0_roundFigure E k 27 [none, some (vi x1), some (vi b), some (vi (nI (10 ^ i))), some (vi 8)] [] V := fun b hb =>
        b0_roundFigure_27 hC ⟨fun _ => by rw [e10]; exact ih b hb, fun q => absurd q (by decide)⟩
      have five : ∀ b, rfA x1 r (nearI x1 b (5 * nI (10 ^ i))) (i + 1) = z → w0_roundFigure E k 27 [none, some (vi x1), some (vi b), some (vi (nI (10 ^ i))), some (vi 5)] [] V := fun b hb =>
        b0_roundFigure_27 hC ⟨fun q => absurd q (by decide), fun _ => ⟨fun q => ⟨fun _ => last _ (by rwa [n0 _ _ q] at hb), fun q2 => absurd q2 (by decide)⟩, fun q => ⟨fun _ => last _ (by rwa [n1 _ _ q] at hb), fun q2 => absurd q2 (by decide)⟩⟩⟩
      have two : ∀ b, rfA x1 r (nearI x1 (nearI x1 b (2 * nI (10 ^ i))) (5 * nI (10 ^ i))) (i + 1) = z → w0_roundFigure E k 27 [none, some (vi x1), some (vi b), some (vi (nI (10 ^ i))), some (vi 2)] [] V := fun b hb =>
        b0_roundFigure_27 hC ⟨fun q => absurd q (by decide), fun _ => ⟨fun q => ⟨fun _ => five _ (by rwa [n0 _ _ q] at hb), fun q2 => absurd q2 (by decide)⟩, fun q => ⟨fun _ => five _ (by rwa [n1 _ _ q] at hb), fun q2 => absurd q2 (by decide)⟩⟩⟩
      refine b0_roundFigure_27 hC ⟨fun q => absurd q (by decide), fun _ => ?_⟩
      rw [Int32.one_mul]
      exact ⟨fun q => ⟨fun q2 => absurd rfl q2, fun _ => two _ (by rwa [n0 _ _ q] at h1)⟩, fun q => ⟨fun q2 => absurd rfl q2, fun _ => two _ (by rwa [n1 _ _ q] at h1)⟩⟩
theorem o_roundFigure (h : Rl E tl V) : c0_roundFigure E x1 V (fun r V1 => c6_roundFigure E x1 V1 (fun r' V2 => r' = r ∧ Rl E tl V2)) := by
  refine n0_roundFigure (b0_roundFigure_0 h.C (s0_within h.C ⟨fun q => ?_, fun q => n6_roundFigure (b6_roundFigure_0 h.T (s6_in h.T ⟨fun q2 => absurd q q2, fun _ => ⟨rfl, h⟩⟩))⟩))
  refine cround_loop h.C ?_ 7 0 1 rfl rfl
  exact n6_roundFigure (b6_roundFigure_0 h.T (s6_in h.T ⟨fun _ => tround_loop h.T ⟨rfl, h⟩ 7 0 1 rfl rfl, fun q2 => absurd q2 q⟩))
end OPS6
