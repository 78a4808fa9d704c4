/-! BOTH OBJECTS, call by call: counts, the tape -/
section OPS5
variable {E : eT} {V V1 V2 : vT} {tl : Nat} {k : Int32 → vT → Prop} {kv : vT → Prop} {x1 x2 x3 x4 x5 : Int32} {m : Nat} {rk : Int32 → Int32 → nT → Int32} {L : lawT}
theorem ctold_loop (hC : CM E tl) (hF : FO E 19) (hb : Bl (fv V 19)) (h : k (toldA (fv V 19)) V) : ∀ m i, i + m = 24 → w0_toldThings E k 4 [some (vr 16), some (vi (oS (fun i => fv V 19 (192 + i) = 1) i)), some (vi (nI i))] [] V := by
  intro m
  induction m with
  | zero =>
    intro i hi
    have : i = 24 := by omega
    subst this
    exact b0_toldThings_4 hC ⟨fun _ => h, fun h1 => absurd h1 (by decide)⟩
  | succ m ih =>
    intro i hi
    have ih := ih (i + 1) (by omega)
    refine b0_toldThings_4 hC ⟨fun h1 => absurd h1 ?_, fun _ => s0_isThingV hC hF hb (by omega) ?_⟩
    · simp (disch := omega) only [lle_n]; omega
    · simp only [nI_1, b2_0, Int32.or_zero]
      simp only [oS] at ih
      refine ⟨fun h1 => ?_, fun h1 => ?_⟩
      · rwa [if_neg h1] at ih
      · rwa [if_pos (Classical.not_not.mp h1)] at ih
theorem s0_toldThings (hC : CM E tl) (hF : FO E 19) (hb : Bl (fv V 19)) (h : k (toldA (fv V 19)) V) : c0_toldThings E V k :=
  n0_toldThings (b0_toldThings_0 hC (ctold_loop hC hF hb h 24 0 rfl))
theorem tlost_loop (hT : TW E) (h : k (lostA (V 215)) V) : ∀ m i, i + m = 24 → w6_lostAll E k 4 [some (vr 214), some (vi (sI (fun i => if V 215 (192 + i) = 1 ∧ V 215 (288 + i) = 1 then V 215 (240 + i) else 0) i)), some (vi (nI i))] [] V := by
  intro m
  induction m with
  | zero =>
    intro i hi
    have : i = 24 := by omega
    subst this
    exact b6_lostAll_4 hT ⟨fun _ => h, fun h1 => absurd h1 (by decide)⟩
  | succ m ih =>
    intro i hi
    have ih := ih (i + 1) (by omega)
    refine b6_lostAll_4 hT ⟨fun h1 => absurd h1 ?_, fun _ => s6_goneSet hT ?_⟩
    · simp (disch := omega) only [lle_n]; omega
    · unfold goneA
      rw [oS_N 24 (by decide)]
      refine s6_has hT (Nat.lt_of_lt_of_le (oN_lt 24) (by decide)) (by omega) ?_
      have hb := oN_bit (c := fun i => V 215 (192 + i) = 1 ∧ V 215 (288 + i) = 1) 24 i
      rw [b2_c hb]
      simp only [nI_1, b2_0]
      simp (disch := omega) only [nl_add, nI_clamp]
      simp only [sI] at ih
      refine ⟨fun h1 => ?_, fun h1 => ⟨vp_n (by omega) (by decide), ?_⟩⟩
      · rwa [if_neg (fun z => h1 ⟨by omega, z⟩), Int32.add_zero] at ih
      · rwa [if_pos (Classical.not_not.mp h1).2] at ih
theorem s6_lostAll (hT : TW E) (h : k (lostA (V 215)) V) : c6_lostAll E V k :=
  n6_lostAll (b6_lostAll_0 hT (tlost_loop hT h 24 0 rfl))
def cntA (N : nT) (cl ta x : Int32) : Int32 := if x = 0 then N 313 else if x = 1 then toldA N else if x = 2 then goneA N else if x = 3 then faringA N 1 else if x = 4 then faringA N 2 else if x = 5 then N 312 else if x = 6 then cl else if x = 7 then ta else if x = 8 then N 314 else if x = 9 then lostA N else -1
theorem s6_count (hT : TW E) (h : k (cntA (V 215) (V 214 15) (V 214 6) x1) V) : c6_count E x1 V k := by
  unfold cntA at h
  refine n6_count (b6_count_0 hT ⟨fun q => ?_, fun q => s6_toldSet hT ?_, fun q => s6_goneSet hT ?_, fun q => s6_faring hT ?_, fun q => s6_faring hT ?_, fun q => ?_, fun q => ?_, fun q => ?_, fun q => ?_, fun q => s6_lostAll hT ?_, fun a0 a1 a2 a3 a4 a5 a6 a7 a8 a9 => ?_⟩)
  all_goals first
    | (subst q; exact h)
    | rwa [if_neg a0, if_neg a1, if_neg a2, if_neg a3, if_neg a4, if_neg a5, if_neg a6, if_neg a7, if_neg a8, if_neg a9] at h
theorem s0_count (hC : CM E tl) (hF : FO E 19) (hb : Bl (fv V 19)) (h : k (cntA (fv V 19) (V tl 3) (V 16 7) x1) V) : c0_count E x1 V k := by
  unfold cntA at h
  refine n0_count (b0_count_0 hC ⟨fun q => ?_, fun q => s0_toldThings hC hF hb ?_, fun q => s3_gone hC hF hb ?_, fun q => s3_those hC hF ?_, fun q => s3_those hC hF ?_, fun q => ?_, fun q => ?_, fun q => ?_, fun q => ?_, fun q => s3_lost hC hF hb ?_, fun a0 a1 a2 a3 a4 a5 a6 a7 a8 a9 => ?_⟩)
  all_goals first
    | (subst q; exact h)
    | rwa [if_neg a0, if_neg a1, if_neg a2, if_neg a3, if_neg a4, if_neg a5, if_neg a6, if_neg a7, if_neg a8, if_neg a9] at h
theorem o_count (h : Rl E tl V) : c0_count E x1 V (fun r V1 => c6_count E x1 V1 (fun r' V2 => r' = r ∧ Rl E tl V2)) := by
  refine s0_count h.C h.F19 h.bl (s6_count h.T ⟨?_, h⟩)
  obtain ⟨m, rk, l1, l2, l3⟩ := h.law
  rw [h.row, l3, h.tp, l2.1]
/-- four octets typed -/
def byI (x : Int32) (s : Int32) : Int32 := ((x >>> (s &&& 31)).toInt8.toInt32).toInt8.toInt32
def pushA (T : nT) (t : Nat) (x : Int32) : nT := upd (upd (upd (upd T t (byI x 24)) (t + 1) (byI x 16)) (t + 2) (byI x 8)) (t + 3) (byI x 0)
theorem s0_push {t : Nat} (hC : CM E tl) (ht : V 16 7 = nI t) (h4 : t + 4 ≤ 260) (h : ∀ V', V' 106 = pushA (V 106) t x1 → V' 16 = upd (V 16) 7 (nI (t + 4)) → Fr [16, 106] V V' → kv V') : c0_push E x1 V kv := by
  refine n0_push (b0_push_0 hC ?_)
  have step : ∀ (V : vT) (t : Nat) (s : Int32), 0 ≤ s → V 16 7 = nI t → t < 260 → (∀ V', V' 106 = upd (V 106) t (byI x1 s) → V' 16 = upd (V 16) 7 (nI (t + 1)) → Fr [16, 106] V V' → w0_push E kv 3 [some (vr 16), some (vi x1), some (vi (s + (-8)))] [] V') → w0_push E kv 3 [some (vr 16), some (vi x1), some (vi s)] [] V := by
    intro V t s hs ht hl hk
    refine b0_push_3 hC ⟨fun q => absurd q (Int32.not_lt.mpr hs), fun _ => ⟨by rw [ht]; exact vp_n hl (by decide), hk _ ?_ ?_ ((Fr.rf.up (by decide)).up (by decide))⟩⟩
    · rw [ht, nI_clamp (by omega), up2_n (by decide), up2_r]; rfl
    · rw [up2_r, up2_n (by decide), ht, nI_1]
  refine step V t 24 (by decide) ht (by omega) fun V1 a1 b1 f1 => ?_
  refine step V1 (t + 1) 16 (by decide) (by rw [b1, upd_s]) (by omega) fun V2 a2 b2 f2 => ?_
  refine step V2 (t + 2) 8 (by decide) (by rw [b2, upd_s]) (by omega) fun V3 a3 b3 f3 => ?_
  refine step V3 (t + 3) 0 (by decide) (by rw [b3, upd_s]) (by omega) fun V4 a4 b4 f4 => ?_
  refine b0_push_3 hC ⟨fun _ => h V4 ?_ ?_ (((f1.tr f2).tr f3).tr f4), fun q => absurd q (by decide)⟩
  · rw [a4, a3, a2, a1]; rfl
  · rw [b4, b3, b2, b1]
    funext j
    unfold upd
    by_cases hj : j = 7 <;> simp [hj]
theorem s6_types {t : Nat} (hT : TW E) (ht : V 214 6 = nI t) (h4 : t + 4 ≤ 260) (h : ∀ V', V' 220 = pushA (V 220) t x1 → V' 214 = upd (V 214) 6 (nI (t + 4)) → Fr [214, 220] V V' → kv V') : c6_types E x1 V kv := by
  refine n6_types (b6_types_0 hT ?_)
  have step : ∀ (V : vT) (t : Nat) (s s' : Int32), 0 ≤ s → (8 * s) &&& 31 = s' &&& 31 → V 214 6 = nI t → t < 260 → (∀ V', V' 220 = upd (V 220) t (byI x1 s') → V' 214 = upd (V 214) 6 (nI (t + 1)) → Fr [214, 220] V V' → w6_types E kv 2 [some (vr 214), some (vi x1), some (vi (s + (-1)))] [] V') → w6_types E kv 2 [some (vr 214), some (vi x1), some (vi s)] [] V := by
    intro V t s s' hs e ht hl hk
    refine b6_types_2 hT ⟨fun q => absurd q (Int32.not_lt.mpr hs), fun _ => ⟨by rw [ht]; exact vp_n hl (by decide), hk _ ?_ ?_ ((Fr.rf.up (by decide)).up (by decide))⟩⟩
    · rw [ht, nI_clamp (by omega), up2_n (by decide), up2_r, e]; rfl
    · rw [up2_r, up2_n (by decide), ht, nI_1]
  refine step V t 3 24 (by decide) (by decide) ht (by omega) fun V1 a1 b1 f1 => ?_
  refine step V1 (t + 1) 2 16 (by decide) (by decide) (by rw [b1, upd_s]) (by omega) fun V2 a2 b2 f2 => ?_
  refine step V2 (t + 2) 1 8 (by decide) (by decide) (by rw [b2, upd_s]) (by omega) fun V3 a3 b3 f3 => ?_
  refine step V3 (t + 3) 0 0 (by decide) (by decide) (by rw [b3, upd_s]) (by omega) fun V4 a4 b4 f4 => ?_
  refine b6_types_2 hT ⟨fun _ => h V4 ?_ ?_ (((f1.tr f2).tr f3).tr f4), fun q => absurd q (by decide)⟩
  · rw [a4, a3, a2, a1]; rfl
  · rw [b4, b3, b2, b1]
    funext j
    unfold upd
    by_cases hj : j = 6 <;> simp [hj]
theorem upd_u {f : nT} {i : Nat} {a b : Int32} : upd (upd f i a) i b = upd f i b := by
  funext j; unfold upd; by_cases h : j = i <;> simp [h]
theorem o_feed (h : Rl E tl V) : c0_feed E x1 x2 x3 x4 x5 V (fun r V1 => c6_feed E x1 x2 x3 x4 x5 V1 (fun r' V2 => r' = r ∧ Rl E tl V2)) := by
  obtain ⟨t, ht, et⟩ := h.tpn
  have e16 : V 16 7 = nI t := h.tp.trans et
  refine n0_feed (b0_feed_0 h.C ?_)
  rw [e16]
  simp (disch := omega) only [nr_add, nle_l, llt_n]
  refine ⟨fun q => ?_, fun q => n6_feed (b6_feed_0 h.T ?_)⟩
  · refine s0_push h.C e16 (by omega) fun A1 a1 b1 f1 => s0_push h.C (t := t + 4) (by rw [b1, upd_s]) (by omega) fun A2 a2 b2 f2 => s0_push h.C (t := t + 8) (by rw [b2, upd_s]) (by omega) fun A3 a3 b3 f3 => s0_push h.C (t := t + 12) (by rw [b3, upd_s]) (by omega) fun A4 a4 b4 f4 => s0_push h.C (t := t + 16) (by rw [b4, upd_s]) (by omega) fun A5 a5 b5 f5 => ?_
    have fA := (((f1.tr f2).tr f3).tr f4).tr f5
    rw [a4, a3, a2, a1] at a5
    rw [b4, b3, b2, b1, upd_u, upd_u, upd_u, upd_u] at b5
    refine n6_feed (b6_feed_0 h.T ?_)
    rw [fA 214 (by decide), et]
    simp (disch := omega) only [nr_add, nle_l, llt_n]
    refine ⟨fun _ => ?_, fun q2 => absurd q2 (by omega)⟩
    refine s6_types h.T (t := t) (by rw [fA 214 (by decide), et]) (by omega) fun B1 c1 d1 g1 => s6_types h.T (t := t + 4) (by rw [d1, upd_s]) (by omega) fun B2 c2 d2 g2 => s6_types h.T (t := t + 8) (by rw [d2, upd_s]) (by omega) fun B3 c3 d3 g3 => s6_types h.T (t := t + 12) (by rw [d3, upd_s]) (by omega) fun B4 c4 d4 g4 => s6_types h.T (t := t + 16) (by rw [d4, upd_s]) (by omega) fun B5 c5 d5 g5 => ?_
    have fB := (((g1.tr g2).tr g3).tr g4).tr g5
    rw [c4, c3, c2, c1, fA 220 (by decide)] at c5
    rw [d4, d3, d2, d1, upd_u, upd_u, upd_u, upd_u, fA 214 (by decide)] at d5
    have e1 : A5 16 7 = nI (t + 20) := by rw [b5, upd_s]
    have e2 : B5 214 6 = nI (t + 20) := by rw [d5, upd_s]
    refine ⟨by rw [e1, e2], ?_⟩
    have hl := h.lay
    have z1 : Tz V A5 := fun o _ _ => fA o (by simp; omega)
    have a2 : Ft [220] [6] A5 B5 := ⟨fun o ho h2 => fB o (by simp at ho ⊢; omega), fun j hj => by rw [d5, upd_n (by simpa using hj), fA 214 (by decide)]⟩
    have eb : ∀ o, o ≠ 16 → o ≠ 106 → o ≠ 214 → o ≠ 220 → B5 o = V o := fun o p1 p2 p3 p4 => (fB o (by simp; omega)).trans (fA o (by simp; omega))
    refine h.go (fun o ho => fA o (by unfold Kc at ho; simp; omega)) z1 a2 (by simp) (by simp) ?_ ?_ ?_ ?_ ?_ ?_ ?_ ?_ ?_
    · rw [eb 215 (by decide) (by decide) (by decide) (by decide), ← h.row]; exact fv_c fun o _ _ => fA o (by simp; omega)
    · rw [eb 218 (by decide) (by decide) (by decide) (by decide), fA 17 (by decide)]; exact h.kin
    · rw [eb 215 (by decide) (by decide) (by decide) (by decide)]; exact h.ok
    · rw [eb 215 (by decide) (by decide) (by decide) (by decide), eb 218 (by decide) (by decide) (by decide) (by decide)]; exact h.okw
    · intro j hj; rw [eb 233 (by decide) (by decide) (by decide) (by decide)]; exact h.z9 j hj
    · rw [a5, c5, h.tap]
    · rw [e1, e2]
    · exact ⟨t + 20, by omega, e2⟩
    · rw [b5, upd_n (by decide)]
  · rw [et]
    simp (disch := omega) only [nr_add, nle_l, llt_n]
    exact ⟨fun q2 => absurd q2 (by omega), fun _ => ⟨trivial, h⟩⟩
end OPS5
