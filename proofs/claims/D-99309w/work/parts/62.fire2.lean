/-! SURE FIRES: the twin's queue -/
theorem ChR.ok {S : Nat → Prop} {ok ok' : Nat → Nat → Prop} {R : Nat → Nat → Prop} {K : Nat} (h : ChR S ok R K) (e : ∀ j q, q < 96 → (ok j q ↔ ok' j q)) : ChR S ok' R K := by
  refine ⟨h.1, h.2.1, fun q j a => ?_, fun p w q j hj a hw hn ho => ?_⟩
  · obtain ⟨b, c, d⟩ := h.2.2.1 q j a
    exact ⟨b, (e _ q b).mp c, d⟩
  · have hp : p < 96 := by
      cases j with
      | zero => exact ((h.2.1 p).mp a).1
      | succ j => exact (h.2.2.1 p j a).1
    exact h.2.2.2 p w q j hj a hw hn ((e _ q (nx_lt hp hn)).mpr ho)
theorem QU.lv {S : Nat → Prop} {ok : Nat → Nat → Prop} {F0 F Qr : nT} {qf lf : Nat → Nat} {m k w : Nat} (h : QU S ok F0 F Qr qf lf m k w) : m ≤ 96 ∧ ∀ i, i < m → lf i < 96 := by
  have hm : m ≤ 96 := by rw [← h.2.2.2.2.2.2.2.2.2.2.1]; exact cN_le 96
  exact ⟨hm, fun i hi => by have := (h.1 i hi).2.2.2.1; omega⟩
theorem cN_0 {c : Nat → Prop} [DecidablePred c] : ∀ n, (∀ i, i < n → ¬ c i) → cN c n = 0
  | 0, _ => rfl
  | n + 1, h => by simp only [cN]; rw [if_neg (h n (by omega))]; exact cN_0 n (fun i hi => h i (by omega))
theorem QU.nil {S : Nat → Prop} {ok : Nat → Nat → Prop} {F0 Qr : nT} (h : ∀ q, q < 96 → ¬ S q) : QU S ok F0 F0 Qr (fun _ => 0) (fun _ => 0) 0 0 0 := by
  refine ⟨fun i hi => by omega, fun i i' hi => by omega, fun i i' _ hi => by omega, fun hk => by omega, fun q hq hf => Or.inl hf, fun i hi => by omega, fun q hq hs => absurd hs (h q hq), fun i j hi => by omega, fun i w' q hi => by omega, Nat.le_refl _, cN_0 96 (fun i _ z => z.1 z.2), fun _ _ _ => rfl⟩
theorem QU.src {S S' : Nat → Prop} {ok : Nat → Nat → Prop} {F0 F Qr : nT} {qf : Nat → Nat} {m p : Nat} (h : QU S ok F0 F Qr qf (fun _ => 0) m 0 0) (hp : p < 96) (hf : F p = -1) (h0 : F0 p = -1) (hS : ∀ q, S' q ↔ S q ∨ q = p) :
    m < 96 ∧ QU S' ok F0 (upd F p 0) (upd Qr m (nI p)) (updN qf m p) (fun _ => 0) (m + 1) 0 0 := by
  obtain ⟨h1, h2, h3, h4, h5, h6, h7, h8, h9, h10, h11, h12⟩ := h
  have hne : ∀ i, i < m → qf i ≠ p := fun i hi e => by
    have a := (h1 i hi).2.2.1
    rw [e, hf] at a
    exact absurd (show (-1 : Int32) = 0 from a) (by decide)
  have cnt : cN (fun a => upd F p 0 a ≠ -1 ∧ F0 a = -1) 96 = m + 1 := by
    rw [← h11]
    exact cN_one 96 hp (fun z => z.1 hf) ⟨by rw [upd_s]; decide, h0⟩ (fun i _ hi => by rw [upd_n hi])
  have hm : m + 1 ≤ 96 := by rw [← cnt]; exact cN_le 96
  have el : ∀ i, i < m → updN qf m p i = qf i := fun i hi => if_neg (by omega)
  have em : updN qf m p m = p := if_pos rfl
  refine ⟨by omega, fun i hi => ?_, fun i i' hi hi' e => ?_, fun i i' hi hi' => Nat.le_refl _, fun _ i hi => Nat.zero_le _, fun a ha hfa => ?_, fun i hi => ?_, fun a ha hs => ?_, fun i j hi e => absurd (show 0 = j + 1 from e) (by omega), fun i w' a hi hw' hc => by omega, by omega, cnt, fun a ha hz => ?_⟩
  · by_cases e : i = m
    · subst e
      rw [em, upd_s, upd_s]
      exact ⟨rfl, hp, rfl, by omega, h0⟩
    · have hi' : i < m := by omega
      rw [el i hi', upd_n (by omega), upd_n (hne i hi')]
      exact h1 i hi'
  · by_cases e1 : i = m <;> by_cases e2 : i' = m
    · omega
    · subst e1
      rw [em, el i' (by omega)] at e
      exact absurd e.symm (hne i' (by omega))
    · subst e2
      rw [em, el i (by omega)] at e
      exact absurd e (hne i (by omega))
    · rw [el i (by omega), el i' (by omega)] at e
      exact h2 i i' (by omega) (by omega) e
  · by_cases e : a = p
    · exact Or.inr ⟨m, by omega, by rw [em, e]⟩
    · rw [upd_n e] at hfa
      rcases h5 a ha hfa with z | ⟨i, hi, z⟩
      · exact Or.inl z
      · exact Or.inr ⟨i, by omega, by rw [el i hi]; exact z⟩
  · by_cases e : i = m
    · subst e
      rw [em, hS]
      exact ⟨fun _ => Or.inr rfl, fun _ => rfl⟩
    · rw [el i (by omega), hS]
      exact ⟨fun z => Or.inl ((h6 i (by omega)).mp z), fun _ => rfl⟩
  · rw [hS] at hs
    rcases hs with hs | hs
    · obtain ⟨i, hi, z⟩ := h7 a ha hs
      exact ⟨i, by omega, by rw [el i hi]; exact z⟩
    · exact ⟨m, by omega, by rw [em, hs]⟩
  · rw [upd_n (fun z => by rw [z] at hz; exact hz h0)]
    exact h12 a ha hz
/-- the rounds' row and the queue's row are alike -/
theorem wave_eq {S : Nat → Prop} {Kd F0 F Qr G : nT} {qf lf : Nat → Nat} {m : Nat} (h : Wav S (okF Kd) G) (h0 : ∀ q, q < 96 → F0 q = -1) (hq : QU S (okB Kd F0) F0 F Qr qf lf m m 0) :
    ∀ q, q < 96 → (G q = fA ∧ F q = -1) ∨ ∃ j, j ≤ 98 ∧ G q = nI j ∧ F q = nI j := by
  have c1 : ChR S (okB Kd F0) (RG G) 200 := (h.2 200).ok fun j q hq => ⟨fun z => ⟨z, h0 q hq⟩, fun z => z.1⟩
  have c2 : ChR S (okB Kd F0) (RQ qf lf m) 200 := hq.ch (fun z => by omega)
  have ⟨hm, hl⟩ := hq.lv
  intro q hq96
  rcases h.1 q hq96 with ⟨j, hj, e⟩ | e
  · obtain ⟨i, hi, e1, e2⟩ := (c1.same c2 j (by omega) (by omega) q).mp ⟨hq96, by omega, e⟩
    have := (hq.1 i hi).2.2.1
    rw [e1, e2] at this
    exact Or.inr ⟨j, hj, e, this⟩
  · refine Or.inl ⟨e, Classical.byContradiction fun hf => ?_⟩
    rcases hq.2.2.2.2.1 q hq96 hf with z | ⟨i, hi, e1⟩
    · exact z (h0 q hq96)
    · have := hl i hi
      have a := (c1.same c2 (lf i) (by omega) (by omega) q).mpr ⟨i, hi, e1, rfl⟩
      have a2 := a.2.2
      rw [e] at a2
      exact nI_fA (by omega) a2.symm
section FIR2
variable {E : eT} {V : vT} {k : Int32 → vT → Prop} {kv : vT → Prop} {S : Nat → Prop}
theorem tfire_ways {V0 : vT} {F0 : nT} {n : Nat} (hT : TW E)
    (hk : ∀ V' qf lf m, QU S (okB (V0 218) F0) F0 (V' 236) (V' 237) qf lf m (n + 1) 0 → Fr [236, 237] V0 V' → w6_laysFire E kv 4 [some (vr 214), none, some (vi (nI m)), some (vi (nI (n + 1))), none, none] [] V') :
    ∀ r w (V : vT) qf lf m, w + r = 4 → n < m → QU S (okB (V0 218) F0) F0 (V 236) (V 237) qf lf m n w → Fr [236, 237] V0 V → w6_laysFire E kv 12 [some (vr 214), none, some (vi (nI m)), some (vi (nI n)), some (vi (nI w)), none] [] V := by
  intro r
  induction r with
  | zero =>
    intro w V qf lf m hw hm h1 h3
    have : w = 4 := by omega
    subst this
    refine b6_laysFire_12 hT ⟨fun _ => ?_, fun q => absurd q (by decide)⟩
    rw [nI_1]
    exact hk V qf lf m (h1.next hm) h3
  | succ r ih =>
    intro w V qf lf m hw hm h1 h3
    have ⟨hm96, hl⟩ := h1.lv
    obtain ⟨q1, q2, q3, q4, q5⟩ := h1.1 n hm
    refine b6_laysFire_12 hT ⟨fun q => absurd q ?_, fun _ => ⟨vp_n (by omega) (by decide), ?_⟩⟩
    · simp (disch := omega) only [lle_n]; omega
    rw [nI_clamp (by omega), q1]
    refine s6_beside hT q2 (by omega) ?_
    rw [nI_1]
    cases hn' : nx (qf n) w with
    | none =>
      refine s6_isWood hT ⟨fun _ => ih (w + 1) V qf lf m (by omega) hm (h1.skip hm (fun a ha => by rw [hn'] at ha; cases ha)) h3, fun z => absurd ?_ z⟩
      exact b2_f (fun z => absurd z.1.1 (by decide))
    | some a =>
      have ha := nx_lt q2 hn'
      simp (disch := omega) only [oI, nI_clamp]
      refine s6_isWoodN hT ha ?_
      rw [b2_0, h3 218 (by decide)]
      refine ⟨fun z => ih (w + 1) V qf lf m (by omega) hm (h1.skip hm (fun b hb ho => by rw [hn'] at hb; cases hb; exact absurd ho.1 z)) h3, fun z => ⟨vp_n ha (by decide), fun z2 => ?_, fun z2 => ?_⟩⟩
      · have h0 : F0 a = -1 := Classical.byContradiction fun c => c (by rw [← h1.2.2.2.2.2.2.2.2.2.2.2 a ha c]; exact z2)
        obtain ⟨g1, g2⟩ := h1.add hm (by omega) hn' z2 h0 ⟨Classical.not_not.mp z, h0⟩
        rw [q1]
        refine ⟨vp_n (by omega) (by decide), vp_n q2 (by decide), vp_n ha (by decide), vp_n (by omega) (by decide), ?_⟩
        rw [nI_clamp (by omega), q3, nI_1, nI_1]
        refine ih (w + 1) _ (updN qf m a) (updN lf m (lf n + 1)) (m + 1) (by omega) (by omega) ?_ ((h3.up (by decide)).up (by decide))
        rw [up2_n (show (236 : Nat) ≠ 237 by decide), up2_r, up2_r, up2_n (show (237 : Nat) ≠ 236 by decide)]
        exact g2
      · refine ih (w + 1) V qf lf m (by omega) hm ?_ h3
        by_cases h0 : F0 a = -1
        · exact h1.skip hm (fun b hb _ => by rw [hn'] at hb; cases hb; exact ⟨z2, h0⟩)
        · exact h1.skip hm (fun b hb ho => by rw [hn'] at hb; cases hb; exact absurd ho.2 h0)
theorem s6_laysFire {V0 : vT} {F0 : nT} {qf lf : Nat → Nat} {m : Nat} (hT : TW E) (h : QU S (okB (V0 218) F0) F0 (V0 236) (V0 237) qf lf m 0 0)
    (hk : ∀ V' qf lf m, QU S (okB (V0 218) F0) F0 (V' 236) (V' 237) qf lf m m 0 → Fr [236, 237] V0 V' → kv V') : c6_laysFire E (nI m) V0 kv := by
  refine n6_laysFire (b6_laysFire_0 hT ?_)
  have key : ∀ r n (V : vT) qf lf m, n + r = 96 → QU S (okB (V0 218) F0) F0 (V 236) (V 237) qf lf m n 0 → Fr [236, 237] V0 V → w6_laysFire E kv 4 [some (vr 214), none, some (vi (nI m)), some (vi (nI n)), none, none] [] V := by
    intro r
    induction r with
    | zero =>
      intro n V qf lf m hn h1 h3
      have ⟨hm, _⟩ := h1.lv
      have := h1.2.2.2.2.2.2.2.2.2.1
      have e : n = m := by omega
      subst e
      exact b6_laysFire_4 hT ⟨fun _ => hk V qf lf n h1 h3, fun q => absurd q (nI_nlt (Nat.le_refl _) (by omega))⟩
    | succ r ih =>
      intro n V qf lf m hn h1 h3
      have ⟨hm, _⟩ := h1.lv
      have := h1.2.2.2.2.2.2.2.2.2.1
      by_cases e : n = m
      · subst e
        exact b6_laysFire_4 hT ⟨fun _ => hk V qf lf n h1 h3, fun q => absurd q (nI_nlt (Nat.le_refl _) (by omega))⟩
      · exact b6_laysFire_4 hT ⟨fun q => absurd q (nI_ge (by omega) (by omega)), fun _ => tfire_ways hT (fun V' qf lf m a b => ih (n + 1) V' qf lf m (by omega) a b) 4 0 V qf lf m rfl (by omega) h1 h3⟩
  exact key 96 0 V0 qf lf m (by omega) h Fr.rf
theorem s6_clearsFire {V0 : vT} (hT : TW E) (hk : ∀ V', (∀ q, q < 96 → V' 236 q = -1) → Fr [236] V0 V' → kv V') : c6_clearsFire E V0 kv := by
  refine n6_clearsFire (b6_clearsFire_0 hT ?_)
  have key : ∀ r i (V : vT), i + r = 96 → (∀ q, q < i → V 236 q = -1) → Fr [236] V0 V → w6_clearsFire E kv 2 [some (vr 214), some (vi (nI i))] [] V := by
    intro r
    induction r with
    | zero =>
      intro i V hi h1 h3
      have : i = 96 := by omega
      subst this
      exact b6_clearsFire_2 hT ⟨fun _ => hk V h1 h3, fun q => absurd q (by decide)⟩
    | succ r ih =>
      intro i V hi h1 h3
      refine b6_clearsFire_2 hT ⟨fun q => absurd q ?_, fun _ => ⟨vp_n (by omega) (by decide), ?_⟩⟩
      · simp (disch := omega) only [lle_n]; omega
      · rw [nI_clamp (by omega), nI_1]
        refine ih (i + 1) _ (by omega) (fun q hq => ?_) (h3.up (by decide))
        rw [up2_r]
        by_cases e : q = i
        · subst e; rw [upd_s]
        · rw [upd_n e]; exact h1 q (by omega)
  exact key 96 0 V0 rfl (fun q hq => by omega) Fr.rf
/-- the fire's row is whole -/
def TQ (S : Nat → Prop) (Kd F0 : nT) (V : vT) : Prop := ∃ qf lf m, QU S (okB Kd F0) F0 (V 236) (V 237) qf lf m m 0
theorem s6_laysFireFrom {p : Nat} {V0 : vT} (hT : TW E) (hp : p < 96) (hk : ∀ V' F0, (∀ q, q < 96 → F0 q = -1) → TQ (fun q => q = p) (V0 218) F0 V' → Fr [236, 237] V0 V' → kv V') : c6_laysFireFrom E (nI p) V0 kv := by
  refine n6_laysFireFrom (b6_laysFireFrom_0 hT (s6_clearsFire hT fun V1 h1 f1 => ⟨vp_n hp (by decide), ?_⟩))
  have f1' : Fr [236, 237] V0 V1 := f1.sub (by simp)
  have h0 : QU (fun _ => False) (okB (V0 218) (V1 236)) (V1 236) (V1 236) (V1 237) (fun _ => 0) (fun _ => 0) 0 0 0 := QU.nil (fun _ _ z => z)
  obtain ⟨_, h2⟩ := h0.src (S' := fun q => q = p) hp (h1 p hp) (h1 p hp) (fun q => by simp)
  rw [nI_clamp (by omega)]
  refine s6_laysFire (m := 1) (qf := updN (fun _ => 0) 0 p) (lf := fun _ => 0) (F0 := V1 236) (S := fun q => q = p) hT ?_ fun V' qf lf m a b => hk V' (V1 236) h1 ⟨qf, lf, m, ?_⟩ (f1'.tr (((Fr.rf.up (by decide)).up (by decide)).tr b))
  · rw [up2_n (show (218 : Nat) ≠ 237 by decide), up2_n (show (218 : Nat) ≠ 236 by decide), up2_n (show (236 : Nat) ≠ 237 by decide), up2_r, up2_r, up2_n (show (237 : Nat) ≠ 236 by decide), f1' 218 (by decide)]
    exact h2
  · rw [up2_n (show (218 : Nat) ≠ 237 by decide), up2_n (show (218 : Nat) ≠ 236 by decide), f1' 218 (by decide)] at a
    exact a
theorem s6_laysFireNow {V0 : vT} (hT : TW E) (hk : ∀ V' F0, (∀ q, q < 96 → F0 q = -1) → TQ (fun q => q < 96 ∧ V0 215 q = 1) (V0 218) F0 V' → Fr [236, 237] V0 V' → kv V') : c6_laysFireNow E V0 kv := by
  refine n6_laysFireNow (b6_laysFireNow_0 hT (s6_clearsFire hT fun V1 h1 f1 => ?_))
  have f1' : Fr [236, 237] V0 V1 := f1.sub (by simp)
  have key : ∀ r p (V : vT) qf m, p + r = 96 → QU (fun q => q < p ∧ V0 215 q = 1) (okB (V0 218) (V1 236)) (V1 236) (V 236) (V 237) qf (fun _ => 0) m 0 0 → (∀ q, p ≤ q → q < 96 → V 236 q = -1) → Fr [236, 237] V0 V → w6_laysFireNow E kv 8 [some (vr 214), some (vi (nI m)), some (vi (nI p))] [] V := by
    intro r
    induction r with
    | zero =>
      intro p V qf m hp g1 g2 g3
      have : p = 96 := by omega
      subst this
      have ⟨hm, _⟩ := g1.lv
      refine b6_laysFireNow_8 hT ⟨fun _ => ?_, fun q => absurd q (by decide)⟩
      refine s6_laysFire (F0 := V1 236) (S := fun q => q < 96 ∧ V0 215 q = 1) hT (by rw [g3 218 (by decide)]; exact g1) fun V' qf lf m a b => hk V' (V1 236) h1 ⟨qf, lf, m, by rw [g3 218 (by decide)] at a; exact a⟩ (g3.tr b)
    | succ r ih =>
      intro p V qf m hp g1 g2 g3
      have ⟨hm, _⟩ := g1.lv
      refine b6_laysFireNow_8 hT ⟨fun q => absurd q ?_, fun _ => ?_⟩
      · simp (disch := omega) only [lle_n]; omega
      simp (disch := omega) only [nl_add, nI_clamp, Nat.zero_add, nI_1]
      rw [g3 215 (by decide)]
      refine ⟨vp_n (by omega) (by decide), fun q => ?_, fun q => ?_⟩
      · obtain ⟨a1, a2⟩ := g1.src (S' := fun q => q < p + 1 ∧ V0 215 q = 1) (p := p) (by omega) (g2 p (Nat.le_refl _) (by omega)) (h1 p (by omega)) (fun a => by
          constructor
          · rintro ⟨z1, z2⟩
            by_cases e : a = p
            · exact Or.inr e
            · exact Or.inl ⟨by omega, z2⟩
          · rintro (⟨z1, z2⟩ | e)
            · exact ⟨by omega, z2⟩
            · subst e; exact ⟨by omega, q⟩)
        refine ⟨vp_n (by omega) (by decide), vp_n (by omega) (by decide), ih (p + 1) _ (updN qf m p) (m + 1) (by omega) ?_ (fun a ha ha2 => ?_) ((g3.up (by decide)).up (by decide))⟩
        · rw [up2_n (show (236 : Nat) ≠ 237 by decide), up2_r, up2_r, up2_n (show (237 : Nat) ≠ 236 by decide)]
          exact a2
        · rw [up2_n (by decide), up2_r, upd_n (by omega)]; exact g2 a (by omega) ha2
      · have e : (fun a => a < p + 1 ∧ V0 215 a = 1) = (fun a => a < p ∧ V0 215 a = 1) := by
          funext a
          apply propext
          constructor
          · rintro ⟨z1, z2⟩
            have : a ≠ p := fun e => q (by rw [← e]; exact z2)
            exact ⟨by omega, z2⟩
          · rintro ⟨z1, z2⟩; exact ⟨by omega, z2⟩
        refine ih (p + 1) V qf m (by omega) (by rw [e]; exact g1) (fun a ha ha2 => g2 a (by omega) ha2) g3
  exact key 96 0 V1 (fun _ => 0) 0 rfl (QU.nil (fun _ _ z => by omega)) (fun q _ hq => h1 q hq) f1'
end FIR2
