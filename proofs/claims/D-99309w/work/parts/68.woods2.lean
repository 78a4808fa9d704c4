/-! BOTH OBJECTS, call by call: woods, the call -/
section WOO
variable {E : eT} {V V1 V2 : vT} {k : Int32 → vT → Prop} {kv : vT → Prop} {tl : Nat} {x1 x2 x3 : Int32}
theorem wav_cn {Kd G : nT} {p : Nat} (hp : p < 96) (h : Wav (fun q => q = p) (okF Kd) G) : ∀ q, q < 96 → (¬ G q = fA ↔ Cn Kd p q) := by
  intro q hq
  rw [← ChR.cn hp h.2 (fun _ _ z => z) (fun _ _ _ z => z) q]
  rcases h.1 q hq with ⟨j, hj, e⟩ | e
  · exact ⟨fun _ => ⟨j, hq, by omega, e⟩, fun _ z => nI_fA (by omega) (e.symm.trans z)⟩
  · refine ⟨fun z => absurd e z, ?_⟩
    rintro ⟨j, _, b, d⟩
    exact absurd (d.symm.trans e) (nI_fA (by omega))
theorem cwood_scan {c : Nat → Prop} [DecidablePred c] {a g m : Nat} (hC : CM E tl) (ha : a < 96) (hv : ∀ q, q < 96 → (∃ j, j ≤ 98 ∧ V 111 q = nI j) ∨ V 111 q = fA) (hc : ∀ q, q < 96 → (c q ↔ ¬ V 111 q = fA)) (hm : m ≤ 96)
    (h : w0_woods E k 17 [some (vr 16), some (vi x1), some (vi (nI (if lw c a 96 = a then g + 1 else g))), some (vi (nI (max m (cN c 96)))), some (vi (nI (a + 1))), none, none, none] [] V) :
    ∀ p r, p + r = 96 → w0_woods E k 53 [some (vr 16), some (vi x1), some (vi (nI g)), some (vi (nI m)), some (vi (nI a)), some (vi (cnD c r)), some (vi (nI (lw c a r))), some (vi (nI p + (-1)))] [] V := by
  intro p
  induction p with
  | zero =>
    intro r hr
    have : r = 96 := by omega
    subst this
    have hl := lw_lt (c := c) ha 96 (by omega)
    have hn := cN_le (c := c) 96
    refine b0_woods_53 hC ⟨fun _ => ?_, fun q => absurd q (by decide)⟩
    rw [nI_eq (by omega) (by omega), cn_ud, cnU_n, mx_n (by omega) (by omega), Int32.add_zero, nI_1, nI_1]
    exact ⟨fun q => by rwa [if_neg q] at h, fun q => by rwa [if_pos q] at h⟩
  | succ p ih =>
    intro r hr
    have ih := ih (r + 1) (by omega)
    simp only [cnD, lw] at ih
    rw [show 95 - r = p by omega] at ih
    have hci := hc p (by omega)
    have hw : vp_in (nI p) 96 := vp_n (by omega) (by decide)
    rw [pk_m1]
    refine b0_woods_53 hC ⟨fun q => absurd q (Int32.not_lt.mpr (nI_pos' (by omega))), fun _ => ⟨hw, ?_⟩⟩
    rw [nI_clamp (by omega), Int32.add_zero]
    have far : fA ≤ V 111 p → V 111 p = fA := fun q => by
      rcases hv p (by omega) with ⟨j, hj, e⟩ | e
      · rw [e] at q; exact absurd q (Int32.not_le.mpr (lt_fA (by omega)))
      · exact e
    refine ⟨fun q => ⟨hw, fun _ => ?_, fun q2 => absurd q (Int32.not_le.mpr q2)⟩, fun q => ⟨hw, fun q2 => absurd q2 (Int32.not_le.mpr q), fun _ => ?_⟩⟩
    · have hcc : ¬ c p := fun z => hci.mp z (far q)
      rwa [if_neg hcc, if_neg hcc] at ih
    · have hcc : c p := hci.mpr fun z => by rw [z] at q; exact absurd q (Int32.not_lt.mpr (Int32.le_refl _))
      rwa [if_pos hcc, if_pos hcc] at ih
theorem cwood_loop {c d : Nat → Prop} [DecidablePred c] [DecidablePred d] {V0 : vT} (h0 : Rl E tl V0) (hc : ∀ p, p < 96 → (c p ↔ V0 218 p = 1)) (hd : ∀ p, p < 96 → (d p ↔ rep (V0 218) p))
    (h : ∀ V', Fr [111] V0 V' → k (if x1 = 0 then nI (cN d 96) else nI (mxW c (V0 218) 96)) V') : ∀ r i (V : vT), i + r = 96 → Fr [111] V0 V → w0_woods E k 17 [some (vr 16), some (vi x1), some (vi (nI (cN d i))), some (vi (nI (mxW c (V0 218) i))), some (vi (nI i)), none, none, none] [] V := by
  intro r
  induction r with
  | zero =>
    intro i V hi h3
    have : i = 96 := by omega
    subst this
    have h := h V h3
    exact b0_woods_17 h0.C ⟨fun _ => ⟨fun q => by rwa [if_neg q] at h, fun q => by rwa [if_pos q] at h⟩, fun q => absurd q (by decide)⟩
  | succ r ih =>
    intro i V hi h3
    have ih := fun V => ih (i + 1) V (by omega)
    simp only [cN, mxW] at ih
    have hci := hc i (by omega)
    have hdi := hd i (by omega)
    have e17 : V 17 = V0 218 := by rw [h3 17 (by decide)]; exact h0.kin
    refine b0_woods_17 h0.C ⟨fun q => absurd q ?_, fun _ => s0_isWoodN h0.C (by omega) ?_⟩
    · simp (disch := omega) only [lle_n]; omega
    rw [b2_0, e17, nI_1]
    refine ⟨fun q => s0_laysFrom h0.C (h0.cb.fr (h3 1 (by decide)) (h3 2 (by decide))) (by omega) fun V1 w1 f1 => ?_, fun q => ?_⟩
    · have q := Classical.not_not.mp q
      rw [e17] at w1
      have hw := wav_cn (by omega) w1
      haveI : DecidablePred (fun q => ¬ V1 111 q = fA) := fun _ => inferInstance
      refine cwood_scan (c := fun q => ¬ V1 111 q = fA) (a := i) (g := cN d i) (m := mxW c (V0 218) i) h0.C (by omega) w1.1 (fun _ _ => Iff.rfl) (mxW_le i) ?_ 96 0 rfl
      have ih := ih V1 (h3.tr f1)
      rw [if_pos (hci.mpr q)] at ih
      rw [szW_of hw]
      have hrep : lw (fun q => ¬ V1 111 q = fA) i 96 = i ↔ d i := by
        rw [lw_eq (by omega) ((hw i (by omega)).mpr ⟨0, rfl⟩), hdi]
        exact ⟨fun z => ⟨q, fun a ha b => z a ha ((hw a (by omega)).mpr b)⟩, fun z a ha b => z.2 a ha ((hw a (by omega)).mp b)⟩
      by_cases hdd : d i
      · rw [if_pos hdd] at ih
        rw [if_pos (hrep.mpr hdd)]
        exact ih
      · rw [if_neg hdd] at ih
        rw [if_neg (fun z => hdd (hrep.mp z))]
        exact ih
    · have ih := ih V h3
      rwa [if_neg (fun z => q (hci.mp z)), if_neg (fun z => q (hdi.mp z).1)] at ih
theorem s6_woodSeen (hT : TW E) (h : k (nI (cN (fun q => ¬ V 236 q = -1) 96)) V) : c6_woodSeen E V k := by
  refine n6_woodSeen (b6_woodSeen_0 hT ?_)
  have key : ∀ r i, i + r = 96 → w6_woodSeen E k 4 [some (vr 214), some (vi (nI (cN (fun q => ¬ V 236 q = -1) i))), some (vi (nI i))] [] V := by
    intro r
    induction r with
    | zero =>
      intro i hi
      have : i = 96 := by omega
      subst this
      exact b6_woodSeen_4 hT ⟨fun _ => h, fun q => absurd q (by decide)⟩
    | succ r ih =>
      intro i hi
      have ih := ih (i + 1) (by omega)
      simp only [cN] at ih
      refine b6_woodSeen_4 hT ⟨fun q => absurd q ?_, fun _ => ⟨vp_n (by omega) (by decide), ?_⟩⟩
      · simp (disch := omega) only [lle_n]; omega
      rw [nI_clamp (by omega), nI_1, nI_1]
      exact ⟨fun q => by rwa [if_neg (fun z => z q)] at ih, fun q => by rwa [if_pos q] at ih⟩
  exact key 96 0 rfl
/-- what was seen before place p: the woods of lower places -/
def Sn (Kd F : nT) (p : Nat) : Prop := ∀ q, q < 96 → (F q ≠ -1 ↔ ∃ a, a < p ∧ Kd a = 1 ∧ Cn Kd a q)
theorem twood_loop {d : Nat → Prop} [DecidablePred d] {V0 : vT} (hT : TW E) (hd : ∀ p, p < 96 → (d p ↔ rep (V0 218) p))
    (h : ∀ V', Fr [236, 237] V0 V' → k (if x1 = 0 then nI (cN d 96) else nI (mxW d (V0 218) 96)) V') : ∀ r i (V : vT), i + r = 96 → Sn (V0 218) (V 236) i → Fr [236, 237] V0 V → w6_woods E k 22 [some (vr 214), some (vi x1), some (vi (nI (cN d i))), some (vi (nI (mxW d (V0 218) i))), some (vi (nI i)), none] [] V := by
  intro r
  induction r with
  | zero =>
    intro i V hi hs h3
    have : i = 96 := by omega
    subst this
    have h := h V h3
    exact b6_woods_22 hT ⟨fun _ => ⟨fun q => by rwa [if_neg q] at h, fun q => by rwa [if_pos q] at h⟩, fun q => absurd q (by decide)⟩
  | succ r ih =>
    intro i V hi hs h3
    have ih := fun V => ih (i + 1) V (by omega)
    simp only [cN, mxW] at ih
    have hdi := hd i (by omega)
    have hv := vp_n (k := i) (N := 96) (by omega) (by decide)
    refine b6_woods_22 hT ⟨fun q => absurd q ?_, fun _ => s6_isWoodN hT (by omega) ?_⟩
    · simp (disch := omega) only [lle_n]; omega
    rw [b2_0, h3 218 (by decide), nI_clamp (by omega), nI_1]
    have seen : V0 218 i = 1 → (V 236 i ≠ -1 ↔ ¬ d i) := fun hk => by
      rw [hs i (by omega), hdi]
      constructor
      · rintro ⟨a, a1, a2, a3⟩ z
        exact z.2 a a1 (a3.sym (by omega) a2)
      · intro z
        obtain ⟨q, a, b, e⟩ := low_rep (by omega) hk z
        exact ⟨q, a, b.1, e.sym (by omega) hk⟩
    refine ⟨fun q => ?_, fun q => ⟨hv, fun q2 => s6_woodSeen hT ⟨hv, ?_⟩, fun q2 => ?_⟩⟩
    · have hdd : ¬ d i := fun z => q (hdi.mp z).1
      have ih := ih V (fun a ha => by
        rw [hs a ha]
        constructor
        · rintro ⟨b, b1, b2⟩; exact ⟨b, by omega, b2⟩
        · rintro ⟨b, b1, b2⟩
          have : b ≠ i := fun e => q (by rw [← e]; exact b2.1)
          exact ⟨b, by omega, b2⟩) h3
      rwa [if_neg hdd, if_neg hdd] at ih
    · have q := Classical.not_not.mp q
      have hdd : d i := Classical.byContradiction fun z => ((seen q).mpr z) q2
      have h0 : QU (fun _ => False) (okB (V0 218) (V 236)) (V 236) (V 236) (V 237) (fun _ => 0) (fun _ => 0) 0 0 0 := QU.nil (fun _ _ z => z)
      obtain ⟨_, h2⟩ := h0.src (S' := fun q => q = i) (by omega) q2 q2 (fun q => by simp)
      have e8 : (up2 (up2 V 236 i 0) 237 0 (nI i)) 218 = V0 218 := by rw [up2_n (by decide), up2_n (by decide)]; exact h3 218 (by decide)
      refine s6_laysFire (m := 1) (qf := updN (fun _ => 0) 0 i) (lf := fun _ => 0) (F0 := V 236) (S := fun q => q = i) hT ?_ fun V2 qf lf m t f2 => ?_
      · rw [e8, up2_n (show (236 : Nat) ≠ 237 by decide), up2_r, up2_r, up2_n (show (237 : Nat) ≠ 236 by decide)]
        exact h2
      rw [e8] at t
      have f3 : Fr [236, 237] V0 V2 := h3.tr (((Fr.rf.up (by decide)).up (by decide)).tr f2)
      have uns : ∀ a, Cn (V0 218) i a → a < 96 → V 236 a = -1 := fun a ha ha96 => Classical.byContradiction fun z => by
        obtain ⟨b, b1, b2, b3⟩ := (hs a ha96).mp z
        exact (hdi.mp hdd).2 b b1 (ha.tr (b3.sym (by omega) b2))
      have cn := fun a => ChR.cn (Kd := V0 218) (p := i) (R := RQ qf lf m) (ok := okB (V0 218) (V 236)) (by omega) (fun K => t.ch (K := K) (fun z => by omega)) (fun _ _ z => z.1) (fun _ b hb hk => ⟨hk, uns b hb (by
        obtain ⟨n, hn⟩ := hb
        exact (cnK_lt (by omega) q n b hn).1)⟩) a
      have ⟨hm, hl⟩ := t.lv
      have mem : ∀ a, a < 96 → ((V2 236 a ≠ -1 ∧ V 236 a = -1) ↔ Cn (V0 218) i a) := fun a ha => by
        rw [← cn a]
        constructor
        · rintro ⟨z, z0⟩
          rcases t.2.2.2.2.1 a ha z with y | ⟨j, j1, j2⟩
          · exact absurd z0 y
          · exact ⟨lf j, j, j1, j2, rfl⟩
        · rintro ⟨j, i', i1, i2, i3⟩
          have e := t.1 i' i1
          rw [i2] at e
          have := hl i' i1
          exact ⟨fun z => nI_n1 (by omega) (e.2.2.1.symm.trans z), e.2.2.2.2⟩
      have keep : ∀ a, a < 96 → V 236 a ≠ -1 → V2 236 a = V 236 a := fun a ha hz => t.2.2.2.2.2.2.2.2.2.2.2 a ha hz
      have cnt : cN (fun a => ¬ V2 236 a = -1) 96 = cN (fun a => ¬ V 236 a = -1) 96 + szW (V0 218) i := by
        rw [cN_split (c := fun a => ¬ V2 236 a = -1) (d := fun a => ¬ V 236 a = -1) 96 (fun a ha hz => by
          show ¬ V2 236 a = -1
          rw [keep a ha hz]; exact hz)]
        rw [← szW_of (c := fun a => ¬ V2 236 a = -1 ∧ ¬ ¬ V 236 a = -1) (fun a ha => by rw [← mem a ha]; exact ⟨fun z => ⟨z.1, Classical.not_not.mp z.2⟩, fun z => ⟨z.1, fun y => y z.2⟩⟩)]
      refine s6_woodSeen hT ?_
      have hsz := szW_le (Kd := V0 218) (p := i)
      have hmx := mxW_le (c := d) (Kd := V0 218) i
      rw [cnt, show nI (cN (fun a => ¬ V 236 a = -1) 96 + szW (V0 218) i) - nI (cN (fun a => ¬ V 236 a = -1) 96) = nI (szW (V0 218) i) by rw [← nI_add]; grind, nI_1]
      refine s6_max hT (by omega) (by omega) ?_
      have ih := ih V2 (fun a ha => by
        constructor
        · intro z
          by_cases z0 : V 236 a = -1
          · exact ⟨i, by omega, q, (mem a ha).mp ⟨z, z0⟩⟩
          · obtain ⟨b, b1, b2⟩ := (hs a ha).mp z0
            exact ⟨b, by omega, b2⟩
        · rintro ⟨b, b1, b2, b3⟩
          by_cases e : b = i
          · subst e; exact ((mem a ha).mpr b3).1
          · have z0 := (hs a ha).mpr ⟨b, by omega, b2, b3⟩
            rw [keep a ha z0]; exact z0) f3
      rwa [if_pos hdd, if_pos hdd] at ih
    · have q := Classical.not_not.mp q
      have hdd := (seen q).mp q2
      obtain ⟨b, b1, b2, b3⟩ := (hs i (by omega)).mp q2
      have ih := ih V (fun a ha => by
        rw [hs a ha]
        constructor
        · rintro ⟨c, c1, c2⟩; exact ⟨c, by omega, c2⟩
        · rintro ⟨c, c1, c2, c3⟩
          by_cases e : c = i
          · subst e; exact ⟨b, b1, b2, b3.tr c3⟩
          · exact ⟨c, by omega, c2, c3⟩) h3
      rwa [if_neg hdd, if_neg hdd] at ih
theorem o_woods (h : Rl E tl V) : c0_woods E x1 V (fun r V1 => c6_woods E x1 V1 (fun r' V2 => r' = r ∧ Rl E tl V2)) := by
  have e1 : b2 (0 ≤ x1 ∧ x1 < 2) = b2 (0 ≤ x1 ∧ x1 ≤ 1) := in_le (a := 2) (b := 1) rfl (by decide)
  refine n0_woods (b0_woods_0 h.C (s0_in h.C ?_))
  rw [e1]
  refine ⟨fun q => ?_, fun q => n6_woods (b6_woods_0 h.T (s6_in h.T ⟨fun z => absurd q z, fun _ => ⟨rfl, h⟩⟩))⟩
  haveI : DecidablePred (fun p => V 218 p = 1) := fun _ => inferInstance
  haveI : DecidablePred (rep (V 218)) := fun _ => Classical.propDecidable _
  refine cwood_loop (c := fun p => V 218 p = 1) (d := rep (V 218)) h (fun _ _ => Iff.rfl) (fun _ _ => Iff.rfl) (fun V1 f1 => ?_) 96 0 V rfl Fr.rf
  refine n6_woods (b6_woods_0 h.T (s6_in h.T ⟨fun _ => s6_clearsFire h.T fun V2 z2 f2 => ?_, fun z => absurd z q⟩))
  have e18 : V2 218 = V 218 := (f2 218 (by decide)).trans (f1 218 (by decide))
  have f2' : Fr [236, 237] V1 V2 := f2.sub (by simp)
  refine twood_loop (V0 := V2) (d := rep (V 218)) h.T (fun p _ => by rw [e18]) (fun V3 f3 => ⟨?_, h.scr f1 (f2'.tr f3) (by simp) (by simp)⟩) 96 0 V2 rfl (fun a ha => ⟨fun z => absurd (z2 a ha) z, fun ⟨b, b1, _⟩ => by omega⟩) Fr.rf
  rw [e18, mxW_eq (c := fun p => V 218 p = 1) (d := rep (V 218)) (fun _ _ => Iff.rfl) (fun _ _ => Iff.rfl) 96 (by omega)]
end WOO
