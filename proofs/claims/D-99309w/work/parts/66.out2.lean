/-! BOTH OBJECTS, call by call: who gets out, the call -/
theorem RI.init {S : Nat → Prop} {ok : Nat → Nat → Prop} {G : nT} (h0 : ∀ q, q < 96 → (G q = 0 ∧ S q) ∨ (G q = fA ∧ ¬ S q)) : RI S ok G 0 0 0 := by
  refine ⟨fun q hq => ?_, fun q hq => ?_, fun q j hq hj e => ?_, fun p' w' q j _ _ _ hc _ _ => ?_⟩
  · rcases h0 q hq with ⟨e, _⟩ | ⟨e, _⟩
    · exact Or.inl ⟨0, by omega, e⟩
    · exact Or.inr e
  · rcases h0 q hq with ⟨e, s⟩ | ⟨e, s⟩
    · exact ⟨fun _ => s, fun _ => e⟩
    · exact ⟨fun z => by rw [e] at z; exact absurd z.symm (nI_fA (by omega)), fun z => absurd z s⟩
  · rcases h0 q hq with ⟨e2, _⟩ | ⟨e2, _⟩
    · rw [e2] at e; have := nI_inj (i := 0) (by omega) (by omega) e; omega
    · rw [e2] at e; exact absurd e.symm (nI_fA (by omega))
  · omega
section OUT2
variable {E : eT} {V V1 V2 : vT} {k : Int32 → vT → Prop} {kv : vT → Prop} {tl : Nat} {x1 x2 x3 : Int32}
theorem cout_init {V0 : vT} {a : Nat} (hC : CM E tl) (ha : a < 96)
    (hk : ∀ V', RI (fun q => q = a) (okW (V0 17) (V0 111)) (V' 212) 0 0 0 → Fr [212] V0 V' → w0_getsOut E k 74 [some (vr 16), none, some (vi (nI 0)), none, none, none] [] V') :
    ∀ r i (V : vT), i + r = 96 → (∀ q, q < i → (V 212 q = 0 ∧ q = a) ∨ (V 212 q = fA ∧ ¬ q = a)) → Fr [212] V0 V → w0_getsOut E k 43 [some (vr 16), some (vi (nI a)), some (vi (nI i)), none, none, none] [] V := by
  intro r
  induction r with
  | zero =>
    intro i V hi h1 h3
    have : i = 96 := by omega
    subst this
    exact b0_getsOut_43 hC ⟨fun _ => hk V (RI.init h1) h3, fun q => absurd q (by decide)⟩
  | succ r ih =>
    intro i V hi h1 h3
    refine b0_getsOut_43 hC ⟨fun q => absurd q ?_, fun _ => ?_⟩
    · simp (disch := omega) only [lle_n]; omega
    · rw [nI_clamp (by omega), nI_1, nI_eq (by omega) (by omega)]
      have hv := vp_n (k := i) (N := 96) (by omega) (by decide)
      refine ⟨fun q => ⟨hv, ih (i + 1) _ (by omega) (fun b hb => ?_) (h3.up (by decide))⟩, fun q => ⟨hv, ih (i + 1) _ (by omega) (fun b hb => ?_) (h3.up (by decide))⟩⟩
      · rw [up2_r]
        by_cases e : b = i
        · subst e; rw [upd_s]; exact Or.inr ⟨rfl, q⟩
        · rw [upd_n e]; exact h1 b (by omega)
      · rw [up2_r]
        by_cases e : b = i
        · subst e; rw [upd_s]; exact Or.inl ⟨rfl, q⟩
        · rw [upd_n e]; exact h1 b (by omega)
theorem tout_init {V0 : vT} {a : Nat} (hT : TW E) (ha : a < 96)
    (hk : ∀ V' F0 qf lf m, (∀ q, q < 96 → F0 q = -1) → QU (fun q => q = a) (okT (V0 218) (V0 236)) F0 (V' 242) (V' 243) qf lf m 0 0 → Fr [242, 243] V0 V' → w6_getsOut E k 77 [some (vr 214), none, some (vi (nI m)), some (vi (nI 0)), none, none, none] [] V') :
    ∀ r i (V : vT), i + r = 96 → (∀ q, q < i → V 242 q = -1) → Fr [242, 243] V0 V → w6_getsOut E k 40 [some (vr 214), some (vi (nI a)), some (vi (nI i)), none, none, none, none] [] V := by
  intro r
  induction r with
  | zero =>
    intro i V hi h1 h3
    have : i = 96 := by omega
    subst this
    refine b6_getsOut_40 hT ⟨fun _ => ⟨vp_n ha (by decide), ?_⟩, fun q => absurd q (by decide)⟩
    rw [nI_clamp (by omega)]
    have q0 : QU (fun _ => False) (okT (V0 218) (V0 236)) (V 242) (V 242) (V 243) (fun _ => 0) (fun _ => 0) 0 0 0 := QU.nil (fun _ _ z => z)
    obtain ⟨_, g⟩ := q0.src (S' := fun q => q = a) ha (h1 a ha) (h1 a ha) (fun q => by simp)
    refine hk _ (V 242) (updN (fun _ => 0) 0 a) (fun _ => 0) 1 h1 ?_ ((h3.up (by decide)).up (by decide))
    rw [up2_n (show (242 : Nat) ≠ 243 by decide), up2_r, up2_r, up2_n (show (243 : Nat) ≠ 242 by decide)]
    exact g
  | succ r ih =>
    intro i V hi h1 h3
    refine b6_getsOut_40 hT ⟨fun q => absurd q ?_, fun _ => ⟨vp_n (by omega) (by decide), ?_⟩⟩
    · simp (disch := omega) only [lle_n]; omega
    · rw [nI_clamp (by omega), nI_1]
      refine ih (i + 1) _ (by omega) (fun q hq => ?_) (h3.up (by decide))
      rw [up2_r]
      by_cases e : q = i
      · subst e; rw [upd_s]
      · rw [upd_n e]; exact h1 q (by omega)
theorem o_getsOut (h : Rl E tl V) : c0_getsOut E x1 V (fun r V1 => c6_getsOut E x1 V1 (fun r' V2 => r' = r ∧ Rl E tl V2)) := by
  have e1 : b2 (0 ≤ x1 ∧ x1 < 96) = b2 (0 ≤ x1 ∧ x1 ≤ 95) := in_le (a := 96) (b := 95) rfl (by decide)
  refine n0_getsOut (b0_getsOut_0 h.C (s0_in h.C ?_))
  rw [e1]
  refine ⟨fun q => ?_, fun q => n6_getsOut (b6_getsOut_0 h.T (s6_isPlace h.T ⟨fun z => absurd q z, fun _ => ⟨rfl, h⟩⟩))⟩
  obtain ⟨a, _, ha, rfl⟩ := rng (a := 0) (b := 95) (by decide) (by decide) q
  have hv := vp_n (k := a) (N := 96) (by omega) (by decide)
  have hv2 := vp_n (k := a) (N := 315) (by omega) (by decide)
  have e20 : V 20 a = V 215 a := by rw [← h.row]; exact fv_st V 19 (by omega)
  simp (disch := omega) only [nI_clamp]
  rw [h.kin, e20]
  refine ⟨hv, fun q1 => ?_, fun q1 => ⟨hv, fun q2 => ?_, fun q2 => ?_⟩⟩
  · refine n6_getsOut (b6_getsOut_0 h.T (s6_isPlace h.T ⟨fun _ => ?_, fun z => absurd z q⟩))
    simp (disch := omega) only [nl_add, nI_clamp, Nat.zero_add]
    exact ⟨hv, fun _ => ⟨trivial, h⟩, fun z => absurd q1 z⟩
  · refine s0_laysFromBurning h.C h.cb fun V1 w1 f1 => ?_
    rw [h.row, h.kin] at w1
    refine cout_init (a := a) h.C (by omega) (fun V2 g2 f2 => cout_loop (V0 := V1) h.C (h.cb.fr (f1 1 (by decide)) (f1 2 (by decide))) w1.1 (fun V3 r g3 f3 => ?_) 96 0 V2 rfl g2 (fun j p hj => by omega) f2) 96 0 V1 rfl (fun q hq => by omega) Fr.rf
    have fC : Fr [111, 212] V V3 := (f1.sub (by simp)).tr (f3.sub (by simp))
    have e18 : V3 218 = V 218 := fC 218 (by decide)
    have e15 : V3 215 = V 215 := fC 215 (by decide)
    refine n6_getsOut (b6_getsOut_0 h.T (s6_isPlace h.T ⟨fun _ => ?_, fun z => absurd z q⟩))
    simp (disch := omega) only [nl_add, nI_clamp, Nat.zero_add]
    rw [e18, e15]
    refine ⟨hv, fun z => absurd z q1, fun _ => ⟨hv2, fun _ => s6_laysFireNow h.T fun V4 F0 z0 ⟨qf, lf, m, t⟩ f4 => ?_, fun z => absurd z q2⟩⟩
    rw [e18, e15] at t
    have w2 : Wav (fun q => q < 96 ∧ V 215 q = 1) (okF (V 218)) (V1 111) := ⟨w1.1, fun K => by
      obtain ⟨a1, a2, a3, a4⟩ := w1.2 K
      exact ⟨a1, fun q => by rw [a2 q]; exact ⟨fun z => ⟨z.1, z.1, z.2⟩, fun z => ⟨z.1, z.2.2⟩⟩, a3, a4⟩⟩
    have we := wave_eq w2 z0 t
    refine tout_init (a := a) h.T (by omega) (fun V5 F0 qf lf m z5 g5 f5 => tout_loop (V0 := V4) h.T z5 (fun V6 r' g6 f6 => ⟨?_, h.scr fC ((f4.sub (S' := [236, 237, 242, 243]) (by simp)).tr (f6.sub (by simp))) (by simp) (by simp)⟩) 96 0 V5 qf lf m rfl g5 (fun i hi => by omega) f5) 96 0 V4 rfl (fun q hq => by omega) Fr.rf
    have e17 : V1 17 = V 218 := by rw [f1 17 (by decide)]; exact h.kin
    rw [e17] at g3
    rw [show V4 218 = V 218 from (f4 218 (by decide)).trans e18] at g6
    exact out_eq we g3 g6
  · refine n6_getsOut (b6_getsOut_0 h.T (s6_isPlace h.T ⟨fun _ => ?_, fun z => absurd z q⟩))
    simp (disch := omega) only [nl_add, nI_clamp, Nat.zero_add]
    exact ⟨hv, fun z => absurd z q1, fun _ => ⟨hv2, fun z => absurd q2 z, fun _ => ⟨trivial, h⟩⟩⟩
end OUT2
