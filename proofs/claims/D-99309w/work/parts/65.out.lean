/-! BOTH OBJECTS, call by call: who gets out -/
abbrev eA (p : Nat) : Prop := p % 12 = 0 ∨ p % 12 = 11 ∨ p / 12 = 0 ∨ p / 12 = 7
def okW (Kd G : nT) : Nat → Nat → Prop := fun j q => Kd q ≠ 3 ∧ (G q = fA ∨ nI j < G q)
def okT (Kd F : nT) : Nat → Nat → Prop := fun j q => Kd q ≠ 3 ∧ (F q = -1 ∨ nI j < F q)
section OUT
variable {E : eT} {V V1 V2 : vT} {k : Int32 → vT → Prop} {kv : vT → Prop} {tl : Nat} {x1 x2 x3 : Int32}
theorem s6_isAtEdge {p : Nat} (hT : TW E) (hp : p < 96) (h : k (b2 (eA p)) V) : c6_isAtEdge E (nI p) V k := by
  refine n6_isAtEdge (b6_isAtEdge_0 hT ?_)
  simp (disch := omega) only [rmd_n, div_n, neq_l]
  refine ⟨fun a => ?_, fun a => ⟨fun b => ?_, fun b => ⟨fun c => ?_, fun c => ⟨fun d => ?_, fun d => ?_⟩⟩⟩⟩
  · rwa [b2_t (show eA p from Or.inl a)] at h
  · rwa [b2_t (show eA p from Or.inr (Or.inl b))] at h
  · rwa [b2_t (show eA p from Or.inr (Or.inr (Or.inl c)))] at h
  · rwa [b2_f (show ¬ eA p from fun z => by rcases z with z | z | z | z <;> omega)] at h
  · rwa [b2_t (show eA p from Or.inr (Or.inr (Or.inr d)))] at h
theorem s0_isEdge {p : Nat} (hC : CM E tl) (hp : p < 96) (h : k (b2 (eA p)) V) : c0_isEdge E (nI p) V k := by
  refine n0_isEdge (b0_isEdge_0 hC ?_)
  simp (disch := omega) only [rmd_n, div_n, neq_l]
  refine ⟨fun a => ?_, fun a => ⟨fun b => ?_, fun b => ⟨fun c => ?_, fun c => ⟨fun d => ?_, fun d => ?_⟩⟩⟩⟩
  · rwa [b2_t (show eA p from Or.inl a)] at h
  · rwa [b2_t (show eA p from Or.inr (Or.inl b))] at h
  · rwa [b2_t (show eA p from Or.inr (Or.inr (Or.inl c)))] at h
  · rwa [b2_f (show ¬ eA p from fun z => by rcases z with z | z | z | z <;> omega)] at h
  · rwa [b2_t (show eA p from Or.inr (Or.inr (Or.inr d)))] at h
/-- no edge at levels below n -/
def noE (G : nT) (n : Nat) : Prop := ∀ j p, j < n → p < 96 → G p = nI j → ¬ eA p
def OC (S : Nat → Prop) (Kd G : nT) (r : Int32) (V : vT) : Prop :=
  (∃ n p, n ≤ 95 ∧ p < 96 ∧ r = nI n ∧ RI S (okW Kd G) (V 212) n 0 0 ∧ V 212 p = nI n ∧ eA p ∧ noE (V 212) n) ∨ (r = -2 ∧ RI S (okW Kd G) (V 212) 96 0 0 ∧ noE (V 212) 96)
theorem cout_ways {V0 : vT} {n p : Nat} {S : Nat → Prop} (hC : CM E tl) (hB : CB V0) (hn : n ≤ 95) (hp : p < 96) (hG : ∀ q, q < 96 → (∃ j, j ≤ 98 ∧ V0 111 q = nI j) ∨ V0 111 q = fA)
    (hk : ∀ V', RI S (okW (V0 17) (V0 111)) (V' 212) n (p + 1) 0 → noE (V' 212) (n + 1) → Fr [212] V0 V' → w0_getsOut E k 115 [some (vr 16), none, some (vi (nI n)), some (vi (nI (p + 1))), none, none] [] V') :
    ∀ r w (V : vT), w + r = 4 → RI S (okW (V0 17) (V0 111)) (V 212) n p w → noE (V 212) (n + 1) → Fr [212] V0 V → w0_getsOut E k 124 [some (vr 16), none, some (vi (nI n)), some (vi (nI p)), some (vi (nI w)), none] [] V := by
  intro r
  induction r with
  | zero =>
    intro w V hw h1 h2 h3
    have : w = 4 := by omega
    subst this
    refine b0_getsOut_124 hC ⟨fun _ => ?_, fun q => absurd q (by decide)⟩
    rw [nI_1]
    exact hk V (h1.nextp (Or.inr rfl)) h2 h3
  | succ r ih =>
    intro w V hw h1 h2 h3
    refine b0_getsOut_124 hC ⟨fun q => absurd q ?_, fun _ => ⟨vp_n hp (by decide), ?_⟩⟩
    · simp (disch := omega) only [lle_n]; omega
    rw [nI_clamp (by omega)]
    refine ⟨fun q => ?_, fun q => s0_next hC (hB.fr (h3 1 (by decide)) (h3 2 (by decide))) hp (by omega) ?_⟩
    · rw [nI_1]
      exact hk V (h1.nextp (Or.inl q)) h2 h3
    · rw [nI_1, nI_1]
      cases hn' : nx p w with
      | none => exact ⟨fun _ => ih (w + 1) V (by omega) (h1.skip (fun a ha => by rw [hn'] at ha; cases ha)) h2 h3, fun z => absurd rfl z⟩
      | some a =>
        have ha := nx_lt hp hn'
        simp (disch := omega) only [oI, nI_clamp]
        rw [h3 17 (by decide), h3 111 (by decide)]
        have hv := vp_n (k := a) (N := 96) ha (by decide)
        have lo := fun hno : ¬ okW (V0 17) (V0 111) (n + 1) a => ih (w + 1) V (by omega) (h1.skip (fun b hb ho => by rw [hn'] at hb; cases hb; exact absurd ho hno)) h2 h3
        refine ⟨fun z => absurd z (nI_m1 ha), fun _ => ⟨hv, fun z => lo (fun y => y.1 z), fun z => ⟨hv, fun z2 => ?_, fun z2 => ⟨hv, fun z3 => lo (fun y => ?_), fun z3 => ⟨hv, ?_⟩⟩⟩⟩⟩
        · have : ∃ i, i ≤ n + 1 ∧ V 212 a = nI i := by
            rcases h1.1 a ha with e | e
            · exact e
            · rw [e] at z2; exact absurd z2 (Int32.not_le.mpr (lt_fA (by omega)))
          exact ih (w + 1) V (by omega) (h1.skip (fun b hb _ => by rw [hn'] at hb; cases hb; exact this)) h2 h3
        · rcases y.2 with y | y
          · rw [y] at z3; exact absurd z3 (Int32.not_le.mpr (lt_fA (by omega)))
          · exact absurd z3 (Int32.not_le.mpr y)
        · have hf : V 212 a = fA := by
            rcases h1.1 a ha with ⟨j, hj, e⟩ | e
            · rw [e, nI_ltI (by omega) (by omega)] at z2; omega
            · exact e
          have h1' := h1.add (by omega) hp (by omega) hn' q hf ⟨z, Or.inr z3⟩
          have e212 : (up2 V 212 a (nI (n + 1))) 212 = upd (V 212) a (nI (n + 1)) := up2_r
          refine ih (w + 1) _ (by omega) (by rw [e212]; exact h1') ?_ (h3.up (by decide))
          rw [e212]
          intro j b hj hb e
          by_cases eb : b = a
          · subst eb
            rw [upd_s] at e
            have := nI_inj (by omega) (by omega) e
            omega
          · rw [upd_n eb] at e; exact h2 j b hj hb e
theorem cout_loop {V0 : vT} {S : Nat → Prop} (hC : CM E tl) (hB : CB V0) (hG : ∀ q, q < 96 → (∃ j, j ≤ 98 ∧ V0 111 q = nI j) ∨ V0 111 q = fA)
    (hk : ∀ V' r, OC S (V0 17) (V0 111) r V' → Fr [212] V0 V' → k r V') :
    ∀ r n (V : vT), n + r = 96 → RI S (okW (V0 17) (V0 111)) (V 212) n 0 0 → noE (V 212) n → Fr [212] V0 V → w0_getsOut E k 74 [some (vr 16), none, some (vi (nI n)), none, none, none] [] V := by
  intro r
  induction r with
  | zero =>
    intro n V hn h1 h2 h3
    have : n = 96 := by omega
    subst this
    exact b0_getsOut_74 hC ⟨fun _ => hk V (-2) (Or.inr ⟨rfl, h1, h2⟩) h3, fun q => absurd q (by decide)⟩
  | succ r ih =>
    intro n V hn h1 h2 h3
    refine b0_getsOut_74 hC ⟨fun q => absurd q ?_, fun _ => ?_⟩
    · simp (disch := omega) only [lle_n]; omega
    have rounds : ∀ r' p (V : vT), p + r' = 96 → RI S (okW (V0 17) (V0 111)) (V 212) n p 0 → noE (V 212) (n + 1) → Fr [212] V0 V → w0_getsOut E k 115 [some (vr 16), none, some (vi (nI n)), some (vi (nI p)), none, none] [] V := by
      intro r'
      induction r' with
      | zero =>
        intro p V hp g1 g2 g3
        have : p = 96 := by omega
        subst this
        refine b0_getsOut_115 hC ⟨fun _ => ?_, fun q => absurd q (by decide)⟩
        rw [nI_1]
        exact ih (n + 1) V (by omega) (g1.round (by omega)) g2 g3
      | succ r' ih' =>
        intro p V hp g1 g2 g3
        refine b0_getsOut_115 hC ⟨fun q => absurd q ?_, fun _ => ?_⟩
        · simp (disch := omega) only [lle_n]; omega
        exact cout_ways hC hB (by omega) (by omega) hG (fun V' a b c => ih' (p + 1) V' (by omega) a b c) 4 0 V rfl g1 g2 g3
    have scan : ∀ r' p, p + r' = 96 → (∀ q, q < p → V 212 q = nI n → ¬ eA q) → w0_getsOut E k 82 [some (vr 16), none, some (vi (nI n)), some (vi (nI p)), none, none] [] V := by
      intro r'
      induction r' with
      | zero =>
        intro p hp g1
        have : p = 96 := by omega
        subst this
        refine b0_getsOut_82 hC ⟨fun _ => rounds 96 0 V rfl h1 (fun j q hj hq e => ?_) h3, fun q => absurd q (by decide)⟩
        by_cases ej : j = n
        · subst ej; exact g1 q hq e
        · exact h2 j q (by omega) hq e
      | succ r' ih' =>
        intro p hp g1
        refine b0_getsOut_82 hC ⟨fun q => absurd q ?_, fun _ => ⟨vp_n (by omega) (by decide), ?_⟩⟩
        · simp (disch := omega) only [lle_n]; omega
        rw [nI_clamp (by omega), nI_1]
        have nxt : (V 212 p = nI n → ¬ eA p) → ∀ q, q < p + 1 → V 212 q = nI n → ¬ eA q := fun a q hq => by
          by_cases e : q = p
          · subst e; exact a
          · exact g1 q (by omega)
        refine ⟨fun q => ih' (p + 1) (by omega) (nxt fun z => absurd z q), fun q => s0_isEdge hC (by omega) ?_⟩
        rw [b2_0]
        exact ⟨fun z => ih' (p + 1) (by omega) (nxt fun _ => z), fun z => hk V _ (Or.inl ⟨n, p, by omega, by omega, rfl, h1, q, Classical.not_not.mp z, h2⟩) h3⟩
    exact scan 96 0 rfl (fun q hq => by omega)
/-- what the twin's queue comes to -/
def OT (S : Nat → Prop) (Kd F : nT) (r : Int32) : Prop := ∃ F0 H Qr qf lf m n, QU S (okT Kd F) F0 H Qr qf lf m n 0 ∧ (∀ i, i < n → ¬ eA (qf i)) ∧ ((n < m ∧ eA (qf n) ∧ r = nI (lf n)) ∨ (n = m ∧ r = -2))
theorem tout_ways {V0 : vT} {F0 : nT} {n p : Nat} {S : Nat → Prop} (hT : TW E) (h0 : ∀ q, q < 96 → F0 q = -1)
    (hk : ∀ V' qf lf m, QU S (okT (V0 218) (V0 236)) F0 (V' 242) (V' 243) qf lf m (n + 1) 0 → (∀ i, i < n + 1 → ¬ eA (qf i)) → Fr [242, 243] V0 V' → w6_getsOut E k 77 [some (vr 214), none, some (vi (nI m)), some (vi (nI (n + 1))), none, none, none] [] V') :
    ∀ r w (V : vT) qf lf m, w + r = 4 → n < m → qf n = p → (∀ i, i < n + 1 → ¬ eA (qf i)) → QU S (okT (V0 218) (V0 236)) F0 (V 242) (V 243) qf lf m n w → Fr [242, 243] V0 V → w6_getsOut E k 109 [some (vr 214), none, some (vi (nI m)), some (vi (nI n)), some (vi (nI p)), some (vi (nI w)), none] [] V := by
  intro r
  induction r with
  | zero =>
    intro w V qf lf m hw hm hp he h1 h3
    have : w = 4 := by omega
    subst this
    refine b6_getsOut_109 hT ⟨fun _ => ?_, fun q => absurd q (by decide)⟩
    rw [nI_1]
    exact hk V qf lf m (h1.next hm) he h3
  | succ r ih =>
    intro w V qf lf m hw hm hp he h1 h3
    have ⟨hm96, hl⟩ := h1.lv
    obtain ⟨q1, q2, q3, q4, q5⟩ := h1.1 n hm
    rw [hp] at q1 q2 q3 q5
    refine b6_getsOut_109 hT ⟨fun q => absurd q ?_, fun _ => s6_beside hT q2 (by omega) ?_⟩
    · simp (disch := omega) only [lle_n]; omega
    rw [nI_1]
    have hvp := vp_n (k := p) (N := 96) q2 (by decide)
    cases hn' : nx p w with
    | none => exact ⟨fun _ => ih (w + 1) V qf lf m (by omega) hm hp he (h1.skip hm (fun a ha => by rw [hp, hn'] at ha; cases ha)) h3, fun z => absurd rfl z⟩
    | some a =>
      have ha := nx_lt q2 hn'
      simp (disch := omega) only [oI, nI_clamp]
      rw [h3 218 (by decide), h3 236 (by decide), q3]
      simp only [nI_1]
      have hva := vp_n (k := a) (N := 96) ha (by decide)
      have no := fun hno : ¬ okT (V0 218) (V0 236) (lf n + 1) a => ih (w + 1) V qf lf m (by omega) hm hp he (h1.skip hm (fun b hb ho => by rw [hp, hn'] at hb; cases hb; exact absurd ho hno)) h3
      have ye : V 242 a = -1 → okT (V0 218) (V0 236) (lf n + 1) a → vp_in (nI p) 96 ∧ vp_in (nI a) 96 ∧ vp_in (nI m) 96 ∧ w6_getsOut E k 109 [some (vr 214), none, some (vi (nI (m + 1))), some (vi (nI n)), some (vi (nI p)), some (vi (nI (w + 1))), none] [] (up2 (up2 V 242 a (nI (lf n + 1))) 243 m (nI a)) := fun z hok => by
        obtain ⟨g1, g2⟩ := h1.add hm (by omega) (by rw [hp]; exact hn') z (h0 a ha) hok
        refine ⟨hvp, hva, vp_n (by omega) (by decide), ?_⟩
        refine ih (w + 1) _ (updN qf m a) (updN lf m (lf n + 1)) (m + 1) (by omega) (by omega) ?_ (fun i hi => ?_) ?_ ((h3.up (by decide)).up (by decide))
        · show (if n = m then a else qf n) = p
          rw [if_neg (by omega)]; exact hp
        · show ¬ eA (if i = m then a else qf i)
          rw [if_neg (by omega)]; exact he i hi
        · rw [up2_n (show (242 : Nat) ≠ 243 by decide), up2_r, up2_r, up2_n (show (243 : Nat) ≠ 242 by decide)]
          exact g2
      refine ⟨fun z => absurd z (nI_m1 ha), fun _ => ⟨hva, fun z => no (fun y => y.1 z), fun z => ⟨hva, fun z2 => ⟨hva, fun z3 => ye z2 ⟨z, Or.inl z3⟩, fun z3 => ⟨hva, hvp, fun z4 => ye z2 ⟨z, Or.inr z4⟩, fun z4 => no (fun y => ?_)⟩⟩, fun z2 => ?_⟩⟩⟩
      · rcases y.2 with y | y
        · exact z3 y
        · exact absurd z4 (Int32.not_le.mpr y)
      · exact ih (w + 1) V qf lf m (by omega) hm hp he (h1.skip hm (fun b hb _ => by rw [hp, hn'] at hb; cases hb; exact ⟨z2, h0 a ha⟩)) h3
theorem tout_loop {V0 : vT} {F0 : nT} {S : Nat → Prop} (hT : TW E) (h0 : ∀ q, q < 96 → F0 q = -1)
    (hk : ∀ V' r, OT S (V0 218) (V0 236) r → Fr [242, 243] V0 V' → k r V') :
    ∀ r n (V : vT) qf lf m, n + r = 96 → QU S (okT (V0 218) (V0 236)) F0 (V 242) (V 243) qf lf m n 0 → (∀ i, i < n → ¬ eA (qf i)) → Fr [242, 243] V0 V → w6_getsOut E k 77 [some (vr 214), none, some (vi (nI m)), some (vi (nI n)), none, none, none] [] V := by
  intro r
  induction r with
  | zero =>
    intro n V qf lf m hn h1 h2 h3
    have ⟨hm, _⟩ := h1.lv
    have := h1.2.2.2.2.2.2.2.2.2.1
    have e : n = m := by omega
    subst e
    exact b6_getsOut_77 hT ⟨fun _ => hk V _ ⟨F0, _, _, qf, lf, n, n, h1, h2, Or.inr ⟨rfl, rfl⟩⟩ h3, fun q => absurd q (nI_nlt (Nat.le_refl _) (by omega))⟩
  | succ r ih =>
    intro n V qf lf m hn h1 h2 h3
    have ⟨hm, hl⟩ := h1.lv
    have := h1.2.2.2.2.2.2.2.2.2.1
    by_cases e : n = m
    · subst e
      exact b6_getsOut_77 hT ⟨fun _ => hk V _ ⟨F0, _, _, qf, lf, n, n, h1, h2, Or.inr ⟨rfl, rfl⟩⟩ h3, fun q => absurd q (nI_nlt (Nat.le_refl _) (by omega))⟩
    · have hnm : n < m := by omega
      obtain ⟨q1, q2, q3, q4, q5⟩ := h1.1 n hnm
      refine b6_getsOut_77 hT ⟨fun q => absurd q (nI_ge (by omega) (by omega)), fun _ => ⟨vp_n (by omega) (by decide), ?_⟩⟩
      rw [nI_clamp (by omega), q1]
      refine s6_isAtEdge hT q2 ?_
      rw [b2_0, nI_clamp (by omega)]
      refine ⟨fun z => tout_ways hT h0 (fun V' qf lf m a b c => ih (n + 1) V' qf lf m (by omega) a b c) 4 0 V qf lf m rfl hnm rfl (fun i hi => ?_) h1 h3, fun z => ⟨vp_n q2 (by decide), ?_⟩⟩
      · by_cases ei : i = n
        · subst ei; exact z
        · exact h2 i (by omega)
      · rw [q3]
        exact hk V _ ⟨F0, _, _, qf, lf, m, n, h1, h2, Or.inl ⟨hnm, Classical.not_not.mp z, rfl⟩⟩ h3
/-- both come to the same -/
theorem out_eq {S : Nat → Prop} {Kd G F : nT} {r r' : Int32} {V : vT} (hw : ∀ q, q < 96 → (G q = fA ∧ F q = -1) ∨ ∃ j, j ≤ 98 ∧ G q = nI j ∧ F q = nI j) (h : OC S Kd G r V) (h' : OT S Kd F r') : r' = r := by
  have okk : ∀ j q, q < 96 → (okT Kd F j q ↔ okW Kd G j q) := fun j q hq => by
    unfold okT okW
    rcases hw q hq with ⟨a, b⟩ | ⟨i, hi, a, b⟩
    · rw [a, b]; exact ⟨fun z => ⟨z.1, Or.inl rfl⟩, fun z => ⟨z.1, Or.inl rfl⟩⟩
    · rw [a, b]
      exact ⟨fun z => ⟨z.1, Or.inr (z.2.resolve_left (nI_n1 (by omega)))⟩, fun z => ⟨z.1, Or.inr (z.2.resolve_left (nI_fA (by omega)))⟩⟩
  obtain ⟨F0, H, Qr, qf, lf, m, n, q, qe, hq⟩ := h'
  have ⟨hm, hl⟩ := q.lv
  rcases h with ⟨c, p, hc, hp, rfl, ri, hg, he, hno⟩ | ⟨rfl, ri, hno⟩
  · have c1 := ri.ch (by omega)
    rcases hq with ⟨hnm, hen, rfl⟩ | ⟨rfl, rfl⟩
    · have c2 := (q.ch (K := lf n) (fun _ => Nat.le_refl _)).ok okk
      have hln := hl n hnm
      by_cases z : c < lf n
      · obtain ⟨i, i1, i2, i3⟩ := (c1.same c2 c (Nat.le_refl _) (by omega) p).mp ⟨hp, by omega, hg⟩
        have : i < n := by
          by_cases y : i < n
          · exact y
          · have := q.2.2.1 n i (by omega) i1; omega
        have := qe i this
        rw [i2] at this
        exact absurd he this
      · by_cases z2 : lf n < c
        · have := (c1.same c2 (lf n) (by omega) (Nat.le_refl _) (qf n)).mpr ⟨n, hnm, rfl, rfl⟩
          exact absurd hen (hno (lf n) (qf n) z2 this.1 this.2.2)
        · rw [show lf n = c by omega]
    · have c2 := (q.ch (K := c) (fun z => by omega)).ok okk
      obtain ⟨i, i1, i2, i3⟩ := (c1.same c2 c (Nat.le_refl _) (Nat.le_refl _) p).mp ⟨hp, by omega, hg⟩
      have := qe i i1
      rw [i2] at this
      exact absurd he this
  · rcases hq with ⟨hnm, hen, rfl⟩ | ⟨rfl, rfl⟩
    · have c1 := ri.ch (by omega)
      have c2 := (q.ch (K := lf n) (fun _ => Nat.le_refl _)).ok okk
      have hln := hl n hnm
      have := (c1.same c2 (lf n) (by omega) (Nat.le_refl _) (qf n)).mpr ⟨n, hnm, rfl, rfl⟩
      exact absurd hen (hno (lf n) (qf n) (by omega) this.1 this.2.2)
    · rfl
end OUT
