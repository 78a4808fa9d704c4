/-! SURE FIRES: the component's rounds, the twin's queue -/
def okF (Kd : nT) : Nat → Nat → Prop := fun _ q => Kd q = 1
def okB (Kd F0 : nT) : Nat → Nat → Prop := fun _ q => Kd q = 1 ∧ F0 q = -1
/-- the wave is laid in G -/
def Wav (S : Nat → Prop) (ok : Nat → Nat → Prop) (G : nT) : Prop := (∀ q, q < 96 → (∃ j, j ≤ 98 ∧ G q = nI j) ∨ G q = fA) ∧ ∀ K, ChR S ok (RG G) K
theorem lt_fA {k : Nat} (hk : k ≤ 200) : nI k < fA := (nI_ltI (b := 268435456) (by omega) (by decide)).mpr (by omega)
section FIR
variable {E : eT} {V : vT} {k : Int32 → vT → Prop} {kv : vT → Prop} {tl : Nat} {S : Nat → Prop}
def Sp (G : nT) (k U : Nat) (x : Int32) : Prop := (x = 0 ∧ (∀ q, q < 96 → G q ≠ nI (k + 1)) ∧ cN (fun q => G q = fA) 96 ≤ U) ∨ (x = 1 ∧ cN (fun q => G q = fA) 96 + 1 ≤ U)
theorem cfire_ways {V0 : vT} {n U p : Nat} (hC : CM E tl) (hB : CB V0) (hn : n ≤ 98) (hp : p < 96)
    (hk : ∀ V' x, RI S (okF (V0 17)) (V' 111) n (p + 1) 0 → Sp (V' 111) n U x → Fr [111] V0 V' → w0_spreads E kv 12 [some (vr 16), some (vi x), some (vi (nI n)), some (vi (nI (p + 1))), none, none] [] V') :
    ∀ r w (V : vT) x, w + r = 4 → RI S (okF (V0 17)) (V 111) n p w → Sp (V 111) n U x → Fr [111] V0 V → w0_spreads E kv 21 [some (vr 16), some (vi x), some (vi (nI n)), some (vi (nI p)), some (vi (nI w)), none] [] V := by
  intro r
  induction r with
  | zero =>
    intro w V x hw h1 h2 h3
    have : w = 4 := by omega
    subst this
    refine b0_spreads_21 hC ⟨fun _ => ?_, fun q => absurd q (by decide)⟩
    rw [nI_1]
    exact hk V x (h1.nextp (Or.inr rfl)) h2 h3
  | succ r ih =>
    intro w V x hw h1 h2 h3
    refine b0_spreads_21 hC ⟨fun q => absurd q ?_, fun _ => ⟨vp_n hp (by decide), ?_⟩⟩
    · simp (disch := omega) only [lle_n]; omega
    rw [nI_clamp (by omega)]
    refine ⟨fun q => ?_, fun q => s0_next hC (hB.fr (h3 1 (by decide)) (h3 2 (by decide))) hp (by omega) ?_⟩
    · rw [nI_1]
      exact hk V x (h1.nextp (Or.inl q)) h2 h3
    · rw [nI_1, nI_1]
      cases hn' : nx p w with
      | none => exact ⟨fun _ => ih (w + 1) V x (by omega) (h1.skip (fun a ha => by rw [hn'] at ha; cases ha)) h2 h3, fun z => absurd rfl z⟩
      | some a =>
        have ha := nx_lt hp hn'
        simp (disch := omega) only [oI, nI_clamp]
        rw [h3 17 (by decide)]
        refine ⟨fun z => absurd z (nI_m1 ha), fun _ => ⟨vp_n ha (by decide), fun z => ih (w + 1) V x (by omega) (h1.skip (fun b hb ho => by rw [hn'] at hb; cases hb; exact absurd ho z)) h2 h3, fun z => ⟨vp_n ha (by decide), fun z2 => ⟨vp_n ha (by decide), ?_⟩, fun z2 => ?_⟩⟩⟩
        · have hf : V 111 a = fA := by
            rcases h1.1 a ha with ⟨j, hj, e⟩ | e
            · rw [e, nI_ltI (by omega) (by omega)] at z2; omega
            · exact e
          have h1' := h1.add hn hp (by omega) hn' q hf z
          have e111 : (up2 V 111 a (nI (n + 1))) 111 = upd (V 111) a (nI (n + 1)) := up2_r
          refine ih (w + 1) _ 1 (by omega) (by rw [e111]; exact h1') (Or.inr ⟨rfl, ?_⟩) (h3.up (by decide))
          rw [e111]
          have c1 := cN_one (c := fun q => upd (V 111) a (nI (n + 1)) q = fA) (c' := fun q => V 111 q = fA) (a := a) 96 ha (by rw [upd_s]; exact nI_fA (by omega)) hf (fun i _ hi => by rw [upd_n hi])
          rcases h2 with ⟨_, _, c⟩ | ⟨_, c⟩ <;> omega
        · have : ∃ i, i ≤ n + 1 ∧ V 111 a = nI i := by
            rcases h1.1 a ha with e | e
            · exact e
            · rw [e] at z2; exact absurd z2 (Int32.not_le.mpr (lt_fA (by omega)))
          exact ih (w + 1) V x (by omega) (h1.skip (fun b hb _ => by rw [hn'] at hb; cases hb; exact this)) h2 h3
theorem cfire_round {V0 : vT} {n U : Nat} (hC : CM E tl) (hB : CB V0) (hn : n ≤ 98)
    (hk : ∀ V' x, RI S (okF (V0 17)) (V' 111) n 96 0 → Sp (V' 111) n U x → Fr [111] V0 V' → w0_spreads E kv 4 [some (vr 16), some (vi x), some (vi (nI (n + 1))), none, none, none] [] V') :
    ∀ r p (V : vT) x, p + r = 96 → RI S (okF (V0 17)) (V 111) n p 0 → Sp (V 111) n U x → Fr [111] V0 V → w0_spreads E kv 12 [some (vr 16), some (vi x), some (vi (nI n)), some (vi (nI p)), none, none] [] V := by
  intro r
  induction r with
  | zero =>
    intro p V x hp h1 h2 h3
    have : p = 96 := by omega
    subst this
    refine b0_spreads_12 hC ⟨fun _ => ?_, fun q => absurd q (by decide)⟩
    rw [nI_1]
    exact hk V x h1 h2 h3
  | succ r ih =>
    intro p V x hp h1 h2 h3
    refine b0_spreads_12 hC ⟨fun q => absurd q ?_, fun _ => ?_⟩
    · simp (disch := omega) only [lle_n]; omega
    · exact cfire_ways hC hB hn (by omega) (fun V' x' a b c => ih (p + 1) V' x' (by omega) a b c) 4 0 V x rfl h1 h2 h3
theorem s0_spreads {V0 : vT} (hC : CM E tl) (hB : CB V0) (h0 : ∀ q, q < 96 → V0 111 q = 0 ∨ V0 111 q = fA) (hS : ∀ q, q < 96 → (V0 111 q = 0 ↔ S q))
    (hk : ∀ V', Wav S (okF (V0 17)) (V' 111) → Fr [111] V0 V' → kv V') : c0_spreads E V0 kv := by
  refine n0_spreads (b0_spreads_0 hC ?_)
  have key : ∀ r n (V : vT), n + r ≤ 97 → RI S (okF (V0 17)) (V 111) n 0 0 → (∀ q, q < 96 → V 111 q ≠ nI (n + 1)) → cN (fun q => V 111 q = fA) 96 ≤ r → Fr [111] V0 V → w0_spreads E kv 12 [some (vr 16), some (vi 0), some (vi (nI n)), some (vi (nI 0)), none, none] [] V := by
    intro r
    induction r with
    | zero =>
      intro n V hnr h1 h2 hr h3
      refine cfire_round (U := 0) hC hB (by omega) (fun V' x a b c => ?_) 96 0 V 0 (by omega) h1 (Or.inl ⟨rfl, h2, hr⟩) h3
      rcases b with ⟨b1, b2, b3⟩ | ⟨b1, b2⟩
      · subst b1
        refine b0_spreads_4 hC ⟨fun _ => hk V' ⟨fun q hq => ?_, a.done (by omega) b2⟩ c, fun q => absurd rfl q⟩
        rcases a.1 q hq with ⟨j, hj, e⟩ | e
        · exact Or.inl ⟨j, by omega, e⟩
        · exact Or.inr e
      · omega
    | succ r ih =>
      intro n V hnr h1 h2 hr h3
      refine cfire_round (U := r + 1) hC hB (by omega) (fun V' x a b c => ?_) 96 0 V 0 (by omega) h1 (Or.inl ⟨rfl, h2, hr⟩) h3
      rcases b with ⟨b1, b2, b3⟩ | ⟨b1, b2⟩
      · subst b1
        refine b0_spreads_4 hC ⟨fun _ => hk V' ⟨fun q hq => ?_, a.done (by omega) b2⟩ c, fun q => absurd rfl q⟩
        rcases a.1 q hq with ⟨j, hj, e⟩ | e
        · exact Or.inl ⟨j, by omega, e⟩
        · exact Or.inr e
      · subst b1
        refine b0_spreads_4 hC ⟨fun q => absurd q (by decide), fun _ => ih (n + 1) V' (by omega) (a.round (by omega)) (fun q hq e => ?_) (by omega) c⟩
        rcases a.1 q hq with ⟨j, hj, e2⟩ | e2
        · rw [e] at e2; have := nI_inj (by omega) (by omega) e2; omega
        · rw [e] at e2; exact nI_fA (by omega) e2
  refine b0_spreads_4 hC ⟨fun q => absurd q (by decide), fun _ => key 96 0 V0 (by omega) ⟨fun q hq => ?_, fun q hq => hS q hq, fun q j hq hj e => ?_, fun p' w' q j _ _ _ hc _ _ => ?_⟩ (fun q hq e => ?_) (cN_le 96) Fr.rf⟩
  · rcases h0 q hq with e | e
    · exact Or.inl ⟨0, by omega, e⟩
    · exact Or.inr e
  · rcases h0 q hq with e2 | e2
    · rw [e2] at e; have := nI_inj (i := 0) (by omega) (by omega) e; omega
    · rw [e2] at e; exact absurd e.symm (nI_fA (by omega))
  · omega
  · rcases h0 q hq with e2 | e2
    · rw [e2] at e; have := nI_inj (i := 0) (by omega) (by omega) e; omega
    · rw [e2] at e; exact absurd e.symm (nI_fA (by omega))
theorem s0_laysFrom {p : Nat} {V0 : vT} (hC : CM E tl) (hB : CB V0) (hp : p < 96) (hk : ∀ V', Wav (fun q => q = p) (okF (V0 17)) (V' 111) → Fr [111] V0 V' → kv V') : c0_laysFrom E (nI p) V0 kv := by
  refine n0_laysFrom (b0_laysFrom_0 hC ?_)
  have key : ∀ r i (V : vT), i + r = 96 → (∀ q, q < i → (V 111 q = 0 ∧ q = p) ∨ (V 111 q = fA ∧ q ≠ p)) → Fr [111] V0 V → w0_laysFrom E kv 2 [some (vr 16), some (vi (nI p)), some (vi (nI i))] [] V := by
    intro r
    induction r with
    | zero =>
      intro i V hi h1 h3
      have : i = 96 := by omega
      subst this
      refine b0_laysFrom_2 hC ⟨fun _ => s0_spreads (S := fun q => q = p) hC (hB.fr (h3 1 (by decide)) (h3 2 (by decide))) (fun q hq => ?_) (fun q hq => ?_) (fun V' a b => hk V' (by rw [h3 17 (by decide)] at a; exact a) (h3.tr b)), fun q => absurd q (by decide)⟩
      · rcases h1 q hq with a | a
        · exact Or.inl a.1
        · exact Or.inr a.1
      · rcases h1 q hq with a | a
        · exact ⟨fun _ => a.2, fun _ => a.1⟩
        · exact ⟨fun z => by rw [a.1] at z; exact absurd z (by decide), fun z => absurd z a.2⟩
    | succ r ih =>
      intro i V hi h1 h3
      refine b0_laysFrom_2 hC ⟨fun q => absurd q ?_, fun _ => ?_⟩
      · simp (disch := omega) only [lle_n]; omega
      · rw [nI_clamp (by omega), nI_1, nI_eq (by omega) (by omega)]
        refine ⟨fun q => ⟨vp_n (by omega) (by decide), ih (i + 1) _ (by omega) (fun a ha => ?_) (h3.up (by decide))⟩, fun q => ⟨vp_n (by omega) (by decide), ih (i + 1) _ (by omega) (fun a ha => ?_) (h3.up (by decide))⟩⟩
        · rw [up2_r]
          by_cases e : a = i
          · subst e; rw [upd_s]; exact Or.inr ⟨rfl, q⟩
          · rw [upd_n e]; exact h1 a (by omega)
        · rw [up2_r]
          by_cases e : a = i
          · subst e; rw [upd_s]; exact Or.inl ⟨rfl, q⟩
          · rw [upd_n e]; exact h1 a (by omega)
  exact key 96 0 V0 rfl (fun q hq => by omega) Fr.rf
theorem s0_laysFromBurning {V0 : vT} (hC : CM E tl) (hB : CB V0) (hk : ∀ V', Wav (fun q => fv V0 19 q = 1) (okF (V0 17)) (V' 111) → Fr [111] V0 V' → kv V') : c0_laysFromBurning E V0 kv := by
  refine n0_laysFromBurning (b0_laysFromBurning_0 hC ?_)
  have key : ∀ r i (V : vT), i + r = 96 → (∀ q, q < i → (V 111 q = 0 ∧ fv V0 19 q = 1) ∨ (V 111 q = fA ∧ fv V0 19 q ≠ 1)) → Fr [111] V0 V → w0_laysFromBurning E kv 2 [some (vr 16), some (vi (nI i))] [] V := by
    intro r
    induction r with
    | zero =>
      intro i V hi h1 h3
      have : i = 96 := by omega
      subst this
      refine b0_laysFromBurning_2 hC ⟨fun _ => s0_spreads (S := fun q => fv V0 19 q = 1) hC (hB.fr (h3 1 (by decide)) (h3 2 (by decide))) (fun q hq => ?_) (fun q hq => ?_) (fun V' a b => hk V' (by rw [h3 17 (by decide)] at a; exact a) (h3.tr b)), fun q => absurd q (by decide)⟩
      · rcases h1 q hq with a | a
        · exact Or.inl a.1
        · exact Or.inr a.1
      · rcases h1 q hq with a | a
        · exact ⟨fun _ => a.2, fun _ => a.1⟩
        · exact ⟨fun z => by rw [a.1] at z; exact absurd z (by decide), fun z => absurd z a.2⟩
    | succ r ih =>
      intro i V hi h1 h3
      refine b0_laysFromBurning_2 hC ⟨fun q => absurd q ?_, fun _ => ?_⟩
      · simp (disch := omega) only [lle_n]; omega
      · have e20 : V 20 i = fv V0 19 i := by rw [h3 20 (by decide)]; exact fv_st V0 19 (by omega)
        rw [nI_clamp (by omega), nI_1, e20]
        have hv := vp_n (k := i) (N := 96) (by omega) (by decide)
        refine ⟨hv, fun q => ⟨hv, ih (i + 1) _ (by omega) (fun a ha => ?_) (h3.up (by decide))⟩, fun q => ⟨hv, ih (i + 1) _ (by omega) (fun a ha => ?_) (h3.up (by decide))⟩⟩
        · rw [up2_r]
          by_cases e : a = i
          · subst e; rw [upd_s]; exact Or.inr ⟨rfl, q⟩
          · rw [upd_n e]; exact h1 a (by omega)
        · rw [up2_r]
          by_cases e : a = i
          · subst e; rw [upd_s]; exact Or.inl ⟨rfl, q⟩
          · rw [upd_n e]; exact h1 a (by omega)
  exact key 96 0 V0 rfl (fun q hq => by omega) Fr.rf
end FIR
