/-! BOTH OBJECTS, call by call: things, seeds, kept and undone; sets as naturals -/
theorem nI_or (a b : Nat) : nI a ||| nI b = nI (a ||| b) := by
  apply Int32.toBitVec_inj.mp
  rw [Int32.toBitVec_or]
  apply BitVec.eq_of_getLsbD_eq
  intro i hi
  show (BitVec.ofNat 32 a ||| BitVec.ofNat 32 b).getLsbD i = (BitVec.ofNat 32 (a ||| b)).getLsbD i
  simp [BitVec.getLsbD_ofNat, hi]
theorem s_lm : ∀ n, n < 32 → ((nI n &&& 31).toBitVec.smod 32).toNat = n := by decide +kernel
def oN (c : Nat → Prop) [DecidablePred c] : Nat → Nat
  | 0 => 0
  | n + 1 => if c n then 2 ^ n + oN c n else oN c n
theorem oN_lt {c : Nat → Prop} [DecidablePred c] : ∀ n, oN c n < 2 ^ n
  | 0 => by simp [oN]
  | n + 1 => by
    have := oN_lt (c := c) n
    simp only [oN]
    rw [Nat.pow_succ]
    split <;> omega
theorem oS_N {c : Nat → Prop} [DecidablePred c] : ∀ n, n ≤ 31 → oS c n = nI (oN c n)
  | 0, _ => rfl
  | n + 1, h => by
    simp only [oS, oN]
    rw [oS_N n (by omega)]
    split
    · have e : (1 : Int32) <<< (nI n &&& 31) = nI (2 ^ n) := by
        have h2 : 1 * 2 ^ n < 2 ^ 32 := by rw [Nat.one_mul]; exact Nat.pow_lt_pow_right (by decide) (by omega)
        have := pk_shlN (n := 1) (nI n &&& 31) n (s_lm n (by omega)) h2
        rw [Nat.one_mul] at this
        exact this
      rw [e, nI_or, Nat.or_comm]
      have := Nat.two_pow_add_eq_or_of_lt (oN_lt (c := c) n) 1
      rw [Nat.mul_one] at this
      rw [this]
    · rfl
theorem oN_bit {c : Nat → Prop} [DecidablePred c] : ∀ n i, (oN c n).testBit i = true ↔ i < n ∧ c i
  | 0, i => by simp [oN]
  | n + 1, i => by
    simp only [oN]
    have ih := oN_bit (c := c) n
    split
    · rename_i hc
      by_cases hi : i = n
      · subst hi
        rw [Nat.testBit_two_pow_add_eq]
        have : (oN c i).testBit i = false := Nat.testBit_lt_two_pow (oN_lt i)
        rw [this]
        simp [hc]
      · by_cases h2 : i < n
        · rw [Nat.testBit_two_pow_add_gt h2, ih i]; constructor <;> rintro ⟨_, h⟩ <;> exact ⟨by omega, h⟩
        · have hlt : 2 ^ n + oN c n < 2 ^ i := by
            have := oN_lt (c := c) n
            have h3 : 2 ^ (n + 1) ≤ 2 ^ i := Nat.pow_le_pow_right (by decide) (by omega)
            rw [Nat.pow_succ] at h3; omega
          rw [Nat.testBit_lt_two_pow hlt]
          simp; omega
    · rename_i hc
      rw [ih i]
      constructor
      · rintro ⟨a, b⟩; exact ⟨by omega, b⟩
      · rintro ⟨a, b⟩
        have : i ≠ n := fun e => hc (by rw [← e]; exact b)
        exact ⟨by omega, b⟩
theorem has_n {x i : Nat} (hx : x < 2 ^ 31) (hi : i < 32) : ((nI x >>> (nI i &&& 31)) &&& 1) = 1 ↔ x.testBit i = true := by
  rw [pk_shrN hx (nI i &&& 31) i (s_lm i hi), pk_andN (m := 1) (n := x / 2 ^ i) (Nat.lt_of_le_of_lt (Nat.div_le_self _ _) (by omega)) 1 (by decide)]
  rw [show (1 : Int32) = nI 1 from rfl, nI_eq (by omega) (by decide), Nat.testBit_eq_decide_div_mod_eq]
  simp
section OPS3
variable {E : eT} {V V1 V2 : vT} {tl : Nat} {k : Int32 → vT → Prop} {kv : vT → Prop} {x1 x2 x3 : Int32} {m : Nat} {rk : Int32 → Int32 → nT → Int32} {L : lawT}
theorem s0_has {x i : Nat} (hC : CM E tl) (hx : x < 2 ^ 31) (hi : i < 32) (h : k (b2 (x.testBit i = true)) V) : c0_has E (nI x) (nI i) V k := by
  refine n0_has (b0_has_0 hC ?_)
  rw [has_n hx hi]
  exact ⟨fun q => by rwa [b2_f q] at h, fun q => by rwa [b2_t q] at h⟩
theorem s6_has {x i : Nat} (hT : TW E) (hx : x < 2 ^ 31) (hi : i < 32) (h : k (b2 (x.testBit i = true)) V) : c6_has E (nI x) (nI i) V k := by
  refine n6_has (b6_has_0 hT ?_)
  rw [has_n hx hi]
  exact ⟨fun q => by rwa [b2_f q] at h, fun q => by rwa [b2_t q] at h⟩
theorem s0_isThing (h : Rl E tl V) (hk : k (b2 ((0 ≤ x1 ∧ x1 ≤ 23) ∧ V 215 (192 + x1).toNatClampNeg = 1)) V) : c0_isThing E x1 V k := by
  have e0 : b2 (0 ≤ x1 ∧ x1 < 24) = b2 (0 ≤ x1 ∧ x1 ≤ 23) := in_le (a := 24) (b := 23) rfl (by decide)
  refine n0_isThing (b0_isThing_0 h.C (s0_in h.C ⟨fun q => ?_, fun q => ?_⟩))
  · rw [e0, b2_0] at q
    rwa [b2_f (fun z => q z.1)] at hk
  · rw [e0, b2_0] at q
    have q := Classical.not_not.mp q
    obtain ⟨i, hi, rfl⟩ := nat_of (b := 23) (by decide) q.1 q.2
    simp (disch := omega) only [nl_add, nI_clamp] at hk ⊢
    have e3 : V (19 + 5 + i) 3 = fv V 19 (192 + i) := fv_t3 V 19 (by omega)
    rw [e3, h.row]
    refine ⟨vp_n (by omega) (by decide), fun q2 => ?_, fun q2 => ?_⟩
    · rwa [b2_f (fun z => by rw [q2] at z; exact absurd z.2 (by decide))] at hk
    · rwa [b2_t ⟨q, ((h.ok.bl i (by omega)).1).resolve_left q2⟩] at hk
theorem o_thingIs (h : Rl E tl V) : c0_thingIs E x1 x2 V (fun r V1 => c6_thingIs E x1 x2 V1 (fun r' V2 => r' = r ∧ Rl E tl V2)) := by
  refine n0_thingIs (b0_thingIs_0 h.C (s0_isThing h ?_))
  by_cases hs : (0 ≤ x1 ∧ x1 ≤ 23) ∧ V 215 (192 + x1).toNatClampNeg = 1
  case neg =>
    rw [b2_f hs]
    exact ⟨fun z => absurd rfl z, fun _ => n6_thingIs (b6_thingIs_0 h.T (s6_isThing h.T ⟨fun z => absurd (b2_f hs) z, fun _ => ⟨rfl, h⟩⟩))⟩
  have hs1 := hs
  rw [b2_t hs]
  obtain ⟨i, hi, rfl⟩ := nat_of (b := 23) (by decide) hs.1.1 hs.1.2
  have hv0 := vp_n (k := i) (N := 24) (by omega) (by decide)
  have hv : ∀ a, a ≤ 288 → vp_in (nI (a + i)) 315 := fun a ha => vp_n (by omega) (by decide)
  obtain ⟨s, hs, es⟩ := h.ok.sum i (by omega)
  obtain ⟨v, hv', ev⟩ := h.ok.val i (by omega)
  have key : ∀ r, ((x2 = 0 → r = V 215 (216 + i)) ∧ (x2 = 1 → r = nI v) ∧ (x2 = 2 → r = nI s) ∧ (x2 = 3 → r = V 215 (288 + i)) ∧ (x2 = 4 → r = if s < v then nI s * nI s / nI v else nI v) ∧ (¬ x2 = 0 → ¬ x2 = 1 → ¬ x2 = 2 → ¬ x2 = 3 → ¬ x2 = 4 → r = -1)) → c6_thingIs E (nI i) x2 V (fun r' V2 => r' = r ∧ Rl E tl V2) := by
    intro r ⟨r0, r1, r2, r3, r4, r6⟩
    refine n6_thingIs (b6_thingIs_0 h.T (s6_isThing h.T ⟨fun _ => ?_, fun z => absurd z (by rw [b2_t hs1]; decide)⟩))
    simp (disch := omega) only [nl_add, nI_clamp]
    rw [es, ev]
    refine ⟨hv 240 (by decide), hv 264 (by decide), fun q => ⟨hv 216 (by decide), (r0 q).symm, h⟩, fun q => ⟨(r1 q).symm, h⟩, fun q => ⟨(r2 q).symm, h⟩, fun q => ⟨hv 288 (by decide), (r3 q).symm, h⟩, fun q => ⟨fun q2 => ?_, fun q2 => ?_⟩, fun a b c d e => ⟨(r6 a b c d e).symm, h⟩⟩
    · rw [nI_ltI (by omega) (by omega)] at q2
      exact ⟨fun z => absurd ((nI_eq (a := v) (b := 0) (by omega) (by decide)).mp z) (by omega), by rw [r4 q, if_pos q2], h⟩
    · rw [nI_leI (by omega) (by omega)] at q2
      exact ⟨by rw [r4 q, if_neg (by omega)], h⟩
  refine ⟨fun _ => ?_, fun z => absurd z (by decide)⟩
  simp (disch := omega) only [nI_clamp]
  have e0 : V (19 + 5 + i) 0 = fv V 19 (216 + i) := fv_t0 V 19 (by omega)
  have e1 : V (19 + 5 + i) 1 = fv V 19 (240 + i) := fv_t1 V 19 (by omega)
  have e2 : V (19 + 5 + i) 2 = fv V 19 (264 + i) := fv_t2 V 19 (by omega)
  have e4 : V (19 + 5 + i) 4 = fv V 19 (288 + i) := fv_t4 V 19 (by omega)
  rw [h.row] at e0 e1 e2 e4
  rw [ev] at e1
  rw [es] at e2
  have hb := (h.ok.bl i (by omega)).2
  rw [e0, e1, e2, e4]
  refine ⟨hv0, fun q => key _ ?_, fun q => key _ ?_, fun q => key _ ?_, fun q => ⟨fun q2 => key _ ?_, fun q2 => key _ ?_⟩, fun q => n4_paid (b4_paid_0 (h.F19.bt (by omega)) (h.F19.kt (by omega)) ?_), fun a b c d e => key _ ?_⟩
  · subst q; exact ⟨fun _ => rfl, fun z => absurd z (by decide), fun z => absurd z (by decide), fun z => absurd z (by decide), fun z => absurd z (by decide), fun z => absurd rfl z⟩
  · subst q; exact ⟨fun z => absurd z (by decide), fun _ => rfl, fun z => absurd z (by decide), fun z => absurd z (by decide), fun z => absurd z (by decide), fun _ z => absurd rfl z⟩
  · subst q; exact ⟨fun z => absurd z (by decide), fun z => absurd z (by decide), fun _ => rfl, fun z => absurd z (by decide), fun z => absurd z (by decide), fun _ _ z => absurd rfl z⟩
  · subst q; exact ⟨fun z => absurd z (by decide), fun z => absurd z (by decide), fun z => absurd z (by decide), fun _ => q2.symm, fun z => absurd z (by decide), fun _ _ _ z => absurd rfl z⟩
  · subst q; exact ⟨fun z => absurd z (by decide), fun z => absurd z (by decide), fun z => absurd z (by decide), fun _ => (hb.resolve_left q2).symm, fun z => absurd z (by decide), fun _ _ _ z => absurd rfl z⟩
  · rw [e1, e2]
    subst q
    refine ⟨fun q2 => ?_, fun q2 => key _ ?_⟩
    · rw [nI_ltI (by omega) (by omega)] at q2
      refine ⟨fun z => absurd ((nI_eq (a := v) (b := 0) (by omega) (by decide)).mp z) (by omega), key _ ?_⟩
      exact ⟨fun z => absurd z (by decide), fun z => absurd z (by decide), fun z => absurd z (by decide), fun z => absurd z (by decide), fun _ => (if_pos q2).symm, fun _ _ _ _ z => absurd rfl z⟩
    · rw [nI_leI (by omega) (by omega)] at q2
      exact ⟨fun z => absurd z (by decide), fun z => absurd z (by decide), fun z => absurd z (by decide), fun z => absurd z (by decide), fun _ => (if_neg (by omega)).symm, fun _ _ _ _ z => absurd rfl z⟩
  · exact ⟨fun z => absurd z a, fun z => absurd z b, fun z => absurd z c, fun z => absurd z d, fun z => absurd z e, fun _ _ _ _ _ => rfl⟩
theorem OkN.up {N : nT} {x : Int32} (h : OkN N) : OkN (upd N 314 x) := by
  refine ⟨Lf.up h.left (by omega), h.bl.up (by omega), fun i hi => ?_, fun i hi => ?_, ?_⟩
  · rw [upd_n (by omega)]; exact h.val i hi
  · rw [upd_n (by omega)]; exact h.sum i hi
  · rw [upd_n (by omega)]; exact h.clk
theorem o_seed (h : Rl E tl V) : c0_seed E x1 V (fun r V1 => c6_seed E x1 V1 (fun r' V2 => r' = r ∧ Rl E tl V2)) := by
  have e0 : b2 (0 ≤ x1 ∧ x1 < 65536) = b2 (0 ≤ x1 ∧ x1 ≤ 65535) := in_le (a := 65536) (b := 65535) rfl (by decide)
  refine n0_seed (b0_seed_0 h.C (s0_in h.C ⟨fun q => ?_, fun q => ?_⟩))
  · rw [e0] at q
    refine n6_seed (b6_seed_0 h.T (s6_in h.T ⟨fun _ => ⟨rfl, ?_⟩, fun q2 => absurd q2 q⟩))
    have a1 : Fz 19 V (up2 V 19 6 x1) := Fz.rf.up (by decide)
    have a2 : Ft [215] [] (up2 V 19 6 x1) (up2 (up2 V 19 6 x1) 215 314 x1) := Ft.rf.up (by decide) (by decide)
    refine h.go (a1.kc (by decide) (by decide) h.lay) (a1.tz (by decide)) a2 (by simp) (by simp) ?_ ?_ ?_ ?_ ?_ ?_ ?_ ?_ ?_
    · rw [fv_ux, up2_r, up2_n (by decide), h.row]
    · rw [up2_n (by decide), up2_n (by decide), up2_n (by decide)]; exact h.kin
    · rw [up2_r, up2_n (by decide)]; exact h.ok.up
    · rw [up2_r, up2_n (by decide), up2_n (by decide), up2_n (by decide)]; exact OkW.up h.okw (by decide)
    · intro j hj; rw [up2_n (by decide), up2_n (by decide)]; exact h.z9 j hj
    · rw [up2_n (by decide), up2_n (by decide), up2_n (by decide)]; exact h.tap
    · rw [up2_n (by decide), up2_n (by decide), up2_n (by decide)]; exact h.tp
    · rw [up2_n (by decide), up2_n (by decide)]; exact h.tpn
    · rw [up2_n (by decide)]
  · rw [e0] at q
    exact n6_seed (b6_seed_0 h.T (s6_in h.T ⟨fun q2 => absurd q q2, fun _ => ⟨rfl, h⟩⟩))
end OPS3
