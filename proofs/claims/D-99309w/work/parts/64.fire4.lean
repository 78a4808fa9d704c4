/-! BOTH OBJECTS, call by call: what is safe, where it began -/
section FIR4
variable {E : eT} {V V1 V2 : vT} {k : Int32 → vT → Prop} {kv : vT → Prop} {tl : Nat} {x1 x2 x3 : Int32}
theorem loU_ne {n : Nat} (h : n ≤ 96) : nI n ≠ -2 := fun e => by
  have := congrArg Int32.toInt e
  rw [nI_toInt (by omega)] at this
  change (n : Int) = -2 at this
  omega
theorem csafe_loop {c : Nat → Prop} [DecidablePred c] (hC : CM E tl) (hv : ∀ q, q < 96 → (∃ j, j ≤ 98 ∧ V 111 q = nI j) ∨ V 111 q = fA) (hc : ∀ q, q < 96 → (c q ↔ V 17 q = 1 ∧ V 111 q = fA))
    (h : k (if x1 = 0 then cnU c 96 else loU c 96) V) : ∀ r i, i + r = 96 → w0_safe E k 22 [some (vr 16), some (vi x1), some (vi (cnU c i)), some (vi (loU c i)), some (vi (nI i))] [] V := by
  intro r
  induction r with
  | zero =>
    intro i hi
    have : i = 96 := by omega
    subst this
    exact b0_safe_22 hC ⟨fun _ => ⟨fun q => by rwa [if_neg q] at h, fun q => by rwa [if_pos q] at h⟩, fun q => absurd q (by decide)⟩
  | succ r ih =>
    intro i hi
    have ih := ih (i + 1) (by omega)
    simp only [cnU, loU] at ih
    have hci := hc i (by omega)
    have hw : vp_in (nI i) 96 := vp_n (by omega) (by decide)
    refine b0_safe_22 hC ⟨fun q => absurd q ?_, fun _ => ?_⟩
    · simp (disch := omega) only [lle_n]; omega
    rw [nI_clamp (by omega), nI_1]
    refine ⟨hw, fun q => ?_, fun q => ⟨hw, fun q2 => ?_, fun q2 => ?_⟩⟩
    · rwa [if_neg (fun z => q (hci.mp z).1), if_neg (fun z => q (hci.mp z.2).1)] at ih
    · have hf : V 111 i = fA := by
        rcases hv i (by omega) with ⟨j, hj, e⟩ | e
        · rw [e] at q2; exact absurd q2 (Int32.not_le.mpr (lt_fA (by omega)))
        · exact e
      have hci := hci.mpr ⟨q, hf⟩
      rw [if_pos hci] at ih
      exact ⟨fun q3 => by rwa [if_neg (fun z => q3 z.1)] at ih, fun q3 => by rwa [if_pos ⟨q3, hci⟩] at ih⟩
    · have hf : ¬ c i := fun z => by
        have := (hci.mp z).2
        rw [this] at q2
        exact absurd q2 (Int32.not_lt.mpr (Int32.le_refl _))
      rwa [if_neg hf, if_neg (fun z => hf z.2)] at ih
theorem tsafe_loop {c : Nat → Prop} [DecidablePred c] (hT : TW E) (hc : ∀ q, q < 96 → (c q ↔ V 218 q = 1 ∧ V 236 q = -1))
    (h : k (if x1 = 0 then cnD c 96 else loD c 96) V) : ∀ p r, p + r = 96 → w6_safe E k 24 [some (vr 214), some (vi x1), some (vi (cnD c r)), some (vi (loD c r)), some (vi (nI p + (-1)))] [] V := by
  intro p
  induction p with
  | zero =>
    intro r hr
    have : r = 96 := by omega
    subst this
    exact b6_safe_24 hT ⟨fun _ => ⟨fun q => by rwa [if_neg q] at h, fun q => by rwa [if_pos q] at h⟩, fun q => absurd q (by decide)⟩
  | succ p ih =>
    intro r hr
    have ih := ih (r + 1) (by omega)
    simp only [cnD, loD] at ih
    rw [show 95 - r = p by omega] at ih
    have hci := hc p (by omega)
    have hw : vp_in (nI p) 96 := vp_n (by omega) (by decide)
    rw [pk_m1]
    refine b6_safe_24 hT ⟨fun q => absurd q (Int32.not_lt.mpr (nI_pos' (by omega))), fun _ => s6_isWoodN hT (by omega) ?_⟩
    rw [nI_clamp (by omega), b2_0]
    refine ⟨fun q => by rwa [if_neg (fun z => q (hci.mp z).1), if_neg (fun z => q (hci.mp z).1)] at ih, fun q => ⟨hw, fun q2 => ?_, fun q2 => ?_⟩⟩
    · have hci := hci.mpr ⟨Classical.not_not.mp q, q2⟩
      rw [if_pos hci, if_pos hci] at ih
      exact ih
    · rwa [if_neg (fun z => q2 (hci.mp z).2), if_neg (fun z => q2 (hci.mp z).2)] at ih
theorem o_safe (h : Rl E tl V) : c0_safe E x1 V (fun r V1 => c6_safe E x1 V1 (fun r' V2 => r' = r ∧ Rl E tl V2)) := by
  have e1 : b2 (0 ≤ x1 ∧ x1 < 2) = b2 (0 ≤ x1 ∧ x1 ≤ 1) := in_le (a := 2) (b := 1) rfl (by decide)
  refine n0_safe (b0_safe_0 h.C (s0_in h.C ?_))
  rw [e1]
  refine ⟨fun q => s0_laysFromBurning h.C h.cb fun V1 w1 f1 => ?_, fun q => n6_safe (b6_safe_0 h.T (s6_in h.T ⟨fun z => absurd q z, fun _ => ⟨rfl, h⟩⟩))⟩
  rw [h.row, h.kin] at w1
  refine csafe_loop (c := fun q => V1 17 q = 1 ∧ V1 111 q = fA) h.C w1.1 (fun q _ => Iff.rfl) ?_ 96 0 rfl
  refine n6_safe (b6_safe_0 h.T (s6_in h.T ⟨fun _ => s6_laysFireNow h.T fun V2 F0 z0 ⟨qf, lf, m, t⟩ f2 => ?_, fun z => absurd z q⟩))
  rw [f1 218 (by decide), f1 215 (by decide)] at t
  have e17 : V1 17 = V 218 := by rw [f1 17 (by decide)]; exact h.kin
  have e18 : V2 218 = V 218 := (f2 218 (by decide)).trans (f1 218 (by decide))
  have w2 : Wav (fun q => q < 96 ∧ V 215 q = 1) (okF (V 218)) (V1 111) := ⟨w1.1, fun K => by
    obtain ⟨a1, a2, a3, a4⟩ := w1.2 K
    exact ⟨a1, fun q => by rw [a2 q]; exact ⟨fun z => ⟨z.1, z.1, z.2⟩, fun z => ⟨z.1, z.2.2⟩⟩, a3, a4⟩⟩
  have we := wave_eq w2 z0 t
  refine tsafe_loop (c := fun q => V1 17 q = 1 ∧ V1 111 q = fA) h.T (fun q hq => ?_) ⟨?_, h.scr f1 f2 (by simp) (by simp)⟩ 96 0 rfl
  · rw [e17, e18]
    rcases we q hq with ⟨g1, g2⟩ | ⟨j, hj, g1, g2⟩
    · rw [g1, g2]; exact ⟨fun z => ⟨z.1, rfl⟩, fun z => ⟨z.1, rfl⟩⟩
    · exact ⟨fun z => absurd (g1.symm.trans z.2) (nI_fA (by omega)), fun z => absurd (g2.symm.trans z.2) (nI_n1 (by omega))⟩
  · rw [cn_ud, lo_ud]
/-- a fire could have begun at p, n steps ago -/
def bgn (N Kd : nT) (n p : Nat) : Prop := ∀ R, (∀ K, ChR (fun q => q = p) (okF Kd) R K) → ∀ q, q < 96 → Kd q = 1 → ((∃ j, j ≤ n ∧ R q j) ↔ N q ≠ 0)
theorem bgn_of {N Kd : nT} {n p : Nat} {R : Nat → Nat → Prop} (h : ∀ K, ChR (fun q => q = p) (okF Kd) R K) : bgn N Kd n p ↔ ∀ q, q < 96 → Kd q = 1 → ((∃ j, j ≤ n ∧ R q j) ↔ N q ≠ 0) := by
  refine ⟨fun a => a R h, fun a R' h' q hq hk => ?_⟩
  rw [← a q hq hk]
  constructor
  · rintro ⟨j, hj, z⟩; exact ⟨j, hj, (((h j).same (h' j) j (Nat.le_refl _) (Nat.le_refl _)) q).mpr z⟩
  · rintro ⟨j, hj, z⟩; exact ⟨j, hj, (((h j).same (h' j) j (Nat.le_refl _) (Nat.le_refl _)) q).mp z⟩
theorem s0_isSo {n : Nat} {N : nT} (hC : CM E tl) (hN : fv V 19 = N) (h : ∀ r, (r = 1 ∧ ∀ q, q < 96 → V 17 q = 1 → (V 111 q ≤ nI n ↔ N q ≠ 0)) ∨ (r = 0 ∧ ¬ ∀ q, q < 96 → V 17 q = 1 → (V 111 q ≤ nI n ↔ N q ≠ 0)) → k r V) : c0_isSo E (nI n) V k := by
  refine n0_isSo (b0_isSo_0 hC ?_)
  have key : ∀ r i, i + r = 96 → (∀ q, q < i → V 17 q = 1 → (V 111 q ≤ nI n ↔ N q ≠ 0)) → w0_isSo E k 2 [some (vr 16), some (vi (nI n)), some (vi (nI i))] [] V := by
    intro r
    induction r with
    | zero =>
      intro i hi h1
      have : i = 96 := by omega
      subst this
      exact b0_isSo_2 hC ⟨fun _ => h 1 (Or.inl ⟨rfl, h1⟩), fun q => absurd q (by decide)⟩
    | succ r ih =>
      intro i hi h1
      have ih := ih (i + 1) (by omega)
      have hw : vp_in (nI i) 96 := vp_n (by omega) (by decide)
      have e20 : V 20 i = N i := by rw [← hN]; exact fv_st V 19 (by omega)
      have nxt : (V 17 i = 1 → (V 111 i ≤ nI n ↔ N i ≠ 0)) → ∀ q, q < i + 1 → V 17 q = 1 → (V 111 q ≤ nI n ↔ N q ≠ 0) := fun a q hq => by
        by_cases e : q = i
        · subst e; exact a
        · exact h1 q (by omega)
      have bad : V 17 i = 1 → ¬ (V 111 i ≤ nI n ↔ N i ≠ 0) → k 0 V := fun a b => h 0 (Or.inr ⟨rfl, fun c => b (c i (by omega) a)⟩)
      refine b0_isSo_2 hC ⟨fun q => absurd q ?_, fun _ => ?_⟩
      · simp (disch := omega) only [lle_n]; omega
      rw [nI_clamp (by omega), nI_1, e20]
      refine ⟨hw, fun q => ih (nxt fun z => absurd z q), fun q => ⟨hw, fun q2 => ⟨hw, fun q3 => ih (nxt fun _ => ?_), fun q3 => bad q ?_⟩, fun q2 => ⟨hw, fun q3 => bad q ?_, fun q3 => ih (nxt fun _ => ?_)⟩⟩⟩
      · exact ⟨fun z => absurd q2 (Int32.not_lt.mpr z), fun z => absurd q3 z⟩
      · exact fun z => absurd q2 (Int32.not_lt.mpr (z.mpr q3))
      · exact fun z => absurd q3 (z.mp q2)
      · exact ⟨fun _ => q3, fun _ => q2⟩
  exact key 96 0 rfl (fun q hq => by omega)
theorem s6_couldBegin {n p : Nat} (hT : TW E) (hp : p < 96) (h : ∀ V' F0 r, (∀ q, q < 96 → F0 q = -1) → TQ (fun q => q = p) (V 218) F0 V' → Fr [236, 237] V V' → (r = 1 ∧ ∀ q, q < 96 → V 218 q = 1 → ((0 ≤ V' 236 q ∧ V' 236 q ≤ nI n) ↔ V 215 q ≠ 0)) ∨ (r = 0 ∧ ¬ ∀ q, q < 96 → V 218 q = 1 → ((0 ≤ V' 236 q ∧ V' 236 q ≤ nI n) ↔ V 215 q ≠ 0)) → k r V') : c6_couldBegin E (nI p) (nI n) V k := by
  refine n6_couldBegin (b6_couldBegin_0 hT (s6_laysFireFrom hT hp fun V1 F0 z0 t f => ?_))
  have key : ∀ r i, i + r = 96 → (∀ q, q < i → V 218 q = 1 → ((0 ≤ V1 236 q ∧ V1 236 q ≤ nI n) ↔ V 215 q ≠ 0)) → w6_couldBegin E k 7 [some (vr 214), none, some (vi (nI n)), some (vi (nI i))] [] V1 := by
    intro r
    induction r with
    | zero =>
      intro i hi h1
      have : i = 96 := by omega
      subst this
      exact b6_couldBegin_7 hT ⟨fun _ => h V1 F0 1 z0 t f (Or.inl ⟨rfl, h1⟩), fun q => absurd q (by decide)⟩
    | succ r ih =>
      intro i hi h1
      have ih := ih (i + 1) (by omega)
      have hw : vp_in (nI i) 96 := vp_n (by omega) (by decide)
      have hw2 : vp_in (nI i) 315 := vp_n (by omega) (by decide)
      have nxt : (V 218 i = 1 → ((0 ≤ V1 236 i ∧ V1 236 i ≤ nI n) ↔ V 215 i ≠ 0)) → ∀ q, q < i + 1 → V 218 q = 1 → ((0 ≤ V1 236 q ∧ V1 236 q ≤ nI n) ↔ V 215 q ≠ 0) := fun a q hq => by
        by_cases e : q = i
        · subst e; exact a
        · exact h1 q (by omega)
      have bad : V 218 i = 1 → ¬ ((0 ≤ V1 236 i ∧ V1 236 i ≤ nI n) ↔ V 215 i ≠ 0) → k 0 V1 := fun a b => h V1 F0 0 z0 t f (Or.inr ⟨rfl, fun c => b (c i (by omega) a)⟩)
      refine b6_couldBegin_7 hT ⟨fun q => absurd q ?_, fun _ => s6_isWoodN hT (by omega) ?_⟩
      · simp (disch := omega) only [lle_n]; omega
      simp (disch := omega) only [nl_add, nI_clamp, Nat.zero_add, nI_1, b2_0]
      rw [f 218 (by decide)]
      refine ⟨fun q => ih (nxt fun z => absurd z q), fun q => ⟨hw, s6_in hT ?_⟩⟩
      have q := Classical.not_not.mp q
      rw [f 215 (by decide), b2_0, b2_1]
      refine ⟨hw2, fun q2 => ⟨fun q3 => ih (nxt fun _ => ⟨fun z => absurd z q3, fun z => absurd q2 z⟩), fun q3 => bad q fun z => (z.mp (Classical.not_not.mp q3)) q2⟩, fun q2 => ⟨fun q3 => ih (nxt fun _ => ⟨fun _ => q2, fun _ => q3⟩), fun q3 => bad q fun z => q3 (z.mpr q2)⟩⟩
  exact key 96 0 rfl (fun q hq => by omega)
theorem cbeg_loop {n : Nat} {V0 : vT} {c : Nat → Prop} [DecidablePred c] (h0 : Rl E tl V0) (hn : n ≤ 60) (hc : ∀ q, q < 96 → (c q ↔ V0 218 q = 1 ∧ bgn (V0 215) (V0 218) n q))
    (h : ∀ V', Fr [111] V0 V' → k (if x2 = 0 then cnU c 96 else loU c 96) V') : ∀ r i (V : vT), i + r = 96 → Fr [111] V0 V → w0_began E k 29 [some (vr 16), some (vi (nI n)), some (vi x2), some (vi (cnU c i)), some (vi (loU c i)), some (vi (nI i))] [] V := by
  intro r
  induction r with
  | zero =>
    intro i V hi h3
    have : i = 96 := by omega
    subst this
    have h := h V h3
    exact b0_began_29 h0.C ⟨fun _ => ⟨fun q => by rwa [if_neg q] at h, fun q => by rwa [if_pos q] at h⟩, fun q => absurd q (by decide)⟩
  | succ r ih =>
    intro i V hi h3
    have ih := fun V => ih (i + 1) V (by omega)
    simp only [cnU, loU] at ih
    have hci := hc i (by omega)
    have e17 : ∀ V', Fr [111] V0 V' → V' 17 = V0 218 := fun V' a => by rw [a 17 (by decide)]; exact h0.kin
    refine b0_began_29 h0.C ⟨fun q => absurd q ?_, fun _ => s0_isWoodN h0.C (by omega) ?_⟩
    · simp (disch := omega) only [lle_n]; omega
    rw [nI_1, b2_0, e17 V h3]
    refine ⟨fun q => s0_laysFrom h0.C (h0.cb.fr (h3 1 (by decide)) (h3 2 (by decide))) (by omega) fun V1 w1 f1 => ?_, fun q => ?_⟩
    · have q := Classical.not_not.mp q
      have h4 := h3.tr f1
      rw [e17 V h3] at w1
      refine s0_isSo (N := V0 215) h0.C (by rw [← h0.row]; exact fv_c fun o _ _ => h4 o (by simp; omega)) fun r hr => ?_
      have hb : c i ↔ ∀ q, q < 96 → V1 17 q = 1 → (V1 111 q ≤ nI n ↔ V0 215 q ≠ 0) := by
        rw [hci, bgn_of w1.2, e17 V1 h4]
        refine ⟨fun z a ha hk => ?_, fun z => ⟨q, fun a ha hk => ?_⟩⟩
        · rw [← z.2 a ha hk]
          rcases w1.1 a ha with ⟨j, hj, e⟩ | e
          · rw [e, nI_leI (by omega) (by omega)]
            exact ⟨fun y => ⟨j, y, ha, by omega, e⟩, fun ⟨j', y1, y2⟩ => by have := nI_inj (by have := y2.2.1; omega) (by omega) (y2.2.2.symm.trans e); omega⟩
          · rw [e]
            exact ⟨fun y => absurd y (Int32.not_le.mpr (lt_fA (by omega))), fun ⟨j', y1, y2⟩ => absurd (y2.2.2.symm.trans e) (nI_fA (by have := y2.2.1; omega))⟩
        · rw [← z a ha hk]
          rcases w1.1 a ha with ⟨j, hj, e⟩ | e
          · rw [e, nI_leI (by omega) (by omega)]
            exact ⟨fun ⟨j', y1, y2⟩ => by have := nI_inj (by have := y2.2.1; omega) (by omega) (y2.2.2.symm.trans e); omega, fun y => ⟨j, y, ha, by omega, e⟩⟩
          · rw [e]
            exact ⟨fun ⟨j', y1, y2⟩ => absurd (y2.2.2.symm.trans e) (nI_fA (by have := y2.2.1; omega)), fun y => absurd y (Int32.not_le.mpr (lt_fA (by omega)))⟩
      rcases hr with ⟨rfl, hr⟩ | ⟨rfl, hr⟩
      · have hcc := hb.mpr hr
        have ih := ih V1 h4
        rw [if_pos hcc] at ih
        exact ⟨fun _ => ⟨fun q3 => by rwa [if_neg (fun z => q3 z.1)] at ih, fun q3 => by rwa [if_pos ⟨q3, hcc⟩] at ih⟩, fun z => absurd z (by decide)⟩
      · have hcc : ¬ c i := fun z => hr (hb.mp z)
        have ih := ih V1 h4
        rw [if_neg hcc, if_neg (fun z => hcc z.2)] at ih
        exact ⟨fun z => absurd rfl z, fun _ => ih⟩
    · have hcc : ¬ c i := fun z => q (hci.mp z).1
      have ih := ih V h3
      rwa [if_neg hcc, if_neg (fun z => hcc z.2)] at ih
theorem tbeg_loop {n : Nat} {V0 : vT} {c : Nat → Prop} [DecidablePred c] (hT : TW E) (hn : n ≤ 60) (hc : ∀ q, q < 96 → (c q ↔ V0 218 q = 1 ∧ bgn (V0 215) (V0 218) n q))
    (h : ∀ V', Fr [236, 237] V0 V' → k (if x2 = 0 then cnD c 96 else loD c 96) V') : ∀ p r (V : vT), p + r = 96 → Fr [236, 237] V0 V → w6_began E k 31 [some (vr 214), some (vi (nI n)), some (vi x2), some (vi (cnD c r)), some (vi (loD c r)), some (vi (nI p + (-1)))] [] V := by
  intro p
  induction p with
  | zero =>
    intro r V hr h3
    have : r = 96 := by omega
    subst this
    have h := h V h3
    exact b6_began_31 hT ⟨fun _ => ⟨fun q => by rwa [if_neg q] at h, fun q => by rwa [if_pos q] at h⟩, fun q => absurd q (by decide)⟩
  | succ p ih =>
    intro r V hr h3
    have ih := fun V => ih (r + 1) V (by omega)
    simp only [cnD, loD] at ih
    rw [show 95 - r = p by omega] at ih
    have hci := hc p (by omega)
    rw [pk_m1]
    refine b6_began_31 hT ⟨fun q => absurd q (Int32.not_lt.mpr (nI_pos' (by omega))), fun _ => s6_isWoodN hT (by omega) ?_⟩
    rw [b2_0, h3 218 (by decide)]
    refine ⟨fun q => ?_, fun q => s6_couldBegin hT (by omega) fun V1 F0 res z0 t f hres => ?_⟩
    · have ih := ih V h3
      rwa [if_neg (fun z => q (hci.mp z).1), if_neg (fun z => q (hci.mp z).1)] at ih
    · have q := Classical.not_not.mp q
      rw [h3 218 (by decide), h3 215 (by decide)] at hres
      rw [h3 218 (by decide)] at t
      obtain ⟨qf, lf, m, t⟩ := t
      have ch : ∀ K, ChR (fun q => q = p) (okF (V0 218)) (RQ qf lf m) K := fun K => (t.ch (K := K) (fun z => by omega)).ok fun j a ha => ⟨fun z => z.1, fun z => ⟨z, z0 a ha⟩⟩
      have ⟨hm, hl⟩ := t.lv
      have hb : c p ↔ ∀ q, q < 96 → V0 218 q = 1 → ((0 ≤ V1 236 q ∧ V1 236 q ≤ nI n) ↔ V0 215 q ≠ 0) := by
        rw [hci, bgn_of ch]
        have same : ∀ a, a < 96 → ((∃ j, j ≤ n ∧ RQ qf lf m a j) ↔ (0 ≤ V1 236 a ∧ V1 236 a ≤ nI n)) := fun a ha => by
          constructor
          · rintro ⟨j, hj, i, i1, i2, i3⟩
            have := (t.1 i i1).2.2.1
            rw [i2, i3] at this
            rw [this]
            have := hl i i1
            exact ⟨nI_pos' (by omega), (nI_leI (by omega) (by omega)).mpr hj⟩
          · rintro ⟨y1, y2⟩
            have hne : V1 236 a ≠ -1 := fun e => by rw [e] at y1; exact absurd y1 (by decide)
            rcases t.2.2.2.2.1 a ha hne with z | ⟨i, i1, i2⟩
            · exact absurd (z0 a ha) z
            · have e := (t.1 i i1).2.2.1
              have := hl i i1
              rw [i2] at e
              rw [e, nI_leI (by omega) (by omega)] at y2
              exact ⟨lf i, y2, i, i1, i2, rfl⟩
        refine ⟨fun z a ha hk => ?_, fun z => ⟨q, fun a ha hk => ?_⟩⟩
        · rw [← z.2 a ha hk, same a ha]
        · rw [← z a ha hk, same a ha]
      rcases hres with ⟨rfl, hr⟩ | ⟨rfl, hr⟩
      · have hcc := hb.mpr hr
        have ih := ih V1 (h3.tr f)
        rw [if_pos hcc, if_pos hcc] at ih
        exact ⟨fun _ => ih, fun z => absurd z (by decide)⟩
      · have hcc : ¬ c p := fun z => hr (hb.mp z)
        have ih := ih V1 (h3.tr f)
        rw [if_neg hcc, if_neg hcc] at ih
        exact ⟨fun z => absurd rfl z, fun _ => ih⟩
theorem o_began (h : Rl E tl V) : c0_began E x1 x2 V (fun r V1 => c6_began E x1 x2 V1 (fun r' V2 => r' = r ∧ Rl E tl V2)) := by
  have e2 : b2 (0 ≤ x2 ∧ x2 < 2) = b2 (0 ≤ x2 ∧ x2 ≤ 1) := in_le (a := 2) (b := 1) rfl (by decide)
  refine n0_began (b0_began_0 h.C (s0_within h.C ⟨fun q => n6_began (b6_began_0 h.T (s6_in h.T ⟨fun _ => ⟨rfl, h⟩, fun z => absurd q z⟩)), fun q => s0_in h.C ?_⟩))
  rw [e2]
  refine ⟨fun q2 => ?_, fun q2 => n6_began (b6_began_0 h.T (s6_in h.T ⟨fun z => absurd z q, fun _ => s6_in h.T ⟨fun z => absurd q2 z, fun _ => ⟨rfl, h⟩⟩⟩))⟩
  obtain ⟨n, _, hn, rfl⟩ := rng (a := 0) (b := 60) (by decide) (by decide) q
  haveI : DecidablePred (fun q => V 218 q = 1 ∧ bgn (V 215) (V 218) n q) := fun _ => Classical.propDecidable _
  refine cbeg_loop (c := fun q => V 218 q = 1 ∧ bgn (V 215) (V 218) n q) h (by omega) (fun _ _ => Iff.rfl) (fun V1 f1 => ?_) 96 0 V rfl Fr.rf
  refine n6_began (b6_began_0 h.T (s6_in h.T ⟨fun z => absurd z q, fun _ => s6_in h.T ⟨fun _ => ?_, fun z => absurd z q2⟩⟩))
  refine tbeg_loop (c := fun q => V 218 q = 1 ∧ bgn (V 215) (V 218) n q) h.T (by omega) (fun a _ => by rw [f1 218 (by decide), f1 215 (by decide)]) (fun V2 f2 => ⟨?_, h.scr f1 f2 (by simp) (by simp)⟩) 96 0 V1 rfl Fr.rf
  rw [cn_ud, lo_ud]
end FIR4
