/-! THE TWIN'S METHODS, what they answer: a fire goes over, a turn, minutes -/
section T6d
variable {E : eT} {V : vT} {k : Int32 → vT → Prop} {kv : vT → Prop} {x1 x2 x3 : Int32} {m : Nat} {rk : Int32 → Int32 → nT → Int32}
theorem lostA_over {L : lawT} {Kd : nT} {p w : Nat} {N : nT} (hp : p < 96) : lostA (overA L Kd p w N) = lostA N := by
  unfold overA
  cases hn : nx p w with
  | none => rfl
  | some q =>
    have hq := nx_lt hp hn
    simp only
    split
    · split
      · rw [lostA_upd (by omega), lostA_upd (by omega)]; exact lostA_upd (by omega)
      · exact lostA_upd (by omega)
    · rfl
theorem s6_goesOver {p w : Nat} (hT : TW E) (hL : LT E m rk V) (hz : Z9 V) (hp : p < 96) (hw : w < 4)
    (h : ∀ V', V' 215 = overA (lawV m rk V) (V 218) p w (V 215) → Z9 V' → Ft [215, 232, 233] [] V V' → kv V') : c6_goesOver E (nI p) (nI w) V kv := by
  refine n6_goesOver (b6_goesOver_0 hT (s6_beside hT hp hw ?_))
  cases hn : nx p w with
  | none =>
    have hov : overA (lawV m rk V) (V 218) p w (V 215) = V 215 := by unfold overA; rw [hn]
    refine s6_isWood hT ⟨fun _ => h V hov.symm hz Ft.rf, fun q => absurd ?_ q⟩
    exact b2_f (fun z => absurd z.1.1 (by decide))
  | some q =>
    have hq := nx_lt hp hn
    simp (disch := omega) only [oI, nl_add, nI_clamp, Nat.zero_add]
    refine s6_isWoodN hT hq ⟨fun h1 => ?_, fun h1 => ⟨vp_n (by omega) (by decide), fun h2 => ⟨vp_n (by omega) (by decide), ?_⟩, fun h2 => ?_⟩⟩
    · rw [b2_0] at h1
      exact h V (by unfold overA; rw [hn]; simp only; rw [if_neg (fun z => h1 z.1)]) hz Ft.rf
    · rw [b2_0] at h1
      have h1 := Classical.not_not.mp h1
      have hov : overA (lawV m rk V) (V 218) p w (V 215) = if rmd (drawN (V 215) 314) 10 < byA (lawV m rk V) 115 0 10 (factsA (V 215) q (V 215 (96 + p)) (nI w) 0) then upd (upd (drawN (V 215)) (96 + q) (byA (lawV m rk V) 98 1 9 (factsA (drawN (V 215)) q 0 0 0))) q 1 else drawN (V 215) := by
        unfold overA; rw [hn]; simp only; rw [if_pos ⟨h1, h2⟩]
      refine s6_feels hT hq hz fun V1 hF1 hf1 => ?_
      have a1 : Ft [215, 232, 233] [] V V1 := ⟨fun o ho _ => hF1 o (fun e => ho (by simp at e; simp [e])), fun j _ => by rw [hF1 214 (by decide)]⟩
      have hL1 := hL.ft a1 (by decide) (by decide)
      refine s6_byLaw hT hL1 fun V2 hF2 => ?_
      have a2 : Ft [215, 232, 233] [] V V2 := a1.tr ⟨fun o ho _ => hF2 o (fun e => ho (by simp at e; simp [e])), fun j _ => by rw [hF2 214 (by decide)]⟩
      have e215 : V2 215 = V 215 := (hF2 215 (by decide)).trans (hF1 215 (by decide))
      have e233 : V2 233 = V1 233 := hF2 233 (by decide)
      have hz2 : Z9 V2 := fun j hj => by rw [e233, hf1]; exact factsA_9 hj
      rw [lawV_of (hF1 228 (by decide)) (hF1 229 (by decide)) (hF1 230 (by decide)) (hF1 231 (by decide)), hf1]
      refine s6_draws hT ?_
      rw [e215]
      have a3 : Ft [215, 232, 233] [] V (up2 V2 215 314 (rmd (25173 * V 215 314 + 13849) 65536)) := a2.up (by decide) (by decide)
      have hz3 : Z9 (up2 V2 215 314 (rmd (25173 * V 215 314 + 13849) 65536)) := fun j hj => by rw [up2_n (by decide)]; exact hz2 j hj
      have e3 : (up2 V2 215 314 (rmd (25173 * V 215 314 + 13849) 65536)) 215 = drawN (V 215) := by rw [up2_r, e215]; rfl
      refine ⟨fun h4 => ?_, fun h4 => h _ (by rw [hov, if_neg (Int32.not_lt.mpr h4)]; exact e3) hz3 a3⟩
      rw [if_pos h4] at hov
      generalize up2 V2 215 314 (rmd (25173 * V 215 314 + 13849) 65536) = V3 at a3 hz3 e3 ⊢
      refine s6_feels hT hq hz3 fun V4 hF4 hf4 => ?_
      have a4 : Ft [215, 232, 233] [] V V4 := a3.tr ⟨fun o ho _ => hF4 o (fun e => ho (by simp at e; simp [e])), fun j _ => by rw [hF4 214 (by decide)]⟩
      refine s6_byLaw hT (hL.ft a4 (by decide) (by decide)) fun V5 hF5 => ?_
      have a5 : Ft [215, 232, 233] [] V V5 := a4.tr ⟨fun o ho _ => hF5 o (fun e => ho (by simp at e; simp [e])), fun j _ => by rw [hF5 214 (by decide)]⟩
      have e5 : V5 215 = drawN (V 215) := ((hF5 215 (by decide)).trans (hF4 215 (by decide))).trans e3
      rw [lawV_of (a4.1 228 (by decide) (by decide)) (a4.1 229 (by decide) (by decide)) (a4.1 230 (by decide) (by decide)) (a4.1 231 (by decide) (by decide)), hf4, e3]
      refine ⟨vp_n (by omega) (by decide), vp_n (by omega) (by decide), h _ ?_ ?_ ((a5.up (by decide) (by decide)).up (by decide) (by decide))⟩
      · rw [hov, up2_r, up2_r, e5]
      · intro j hj
        rw [up2_n (by decide), up2_n (by decide), hF5 233 (by decide), hf4]; exact factsA_9 hj
    · exact h V (by unfold overA; rw [hn]; simp only; rw [if_neg (fun z => h2 z.2)]) hz Ft.rf
theorem turnOf_loop {p : Nat} {V0 : vT} (hT : TW E) (hL : LT E m rk V0) (hp : p < 96)
    (h : ∀ V', V' 215 = outA (lawV m rk V0) p (itN (fun w M => overA (lawV m rk V0) (V0 218) p w M) 4 (V0 215)) → Z9 V' → Ft [215, 232, 233] [] V0 V' → kv V') :
    ∀ r w (V : vT), w + r = 4 → V 215 = itN (fun w M => overA (lawV m rk V0) (V0 218) p w M) w (V0 215) → Z9 V → Ft [215, 232, 233] [] V0 V → w6_turnOf E kv 7 [some (vr 214), some (vi (nI p)), some (vi (nI w))] [] V := by
  intro r
  induction r with
  | zero =>
    intro w V hw h1 hz h3
    have : w = 4 := by omega
    subst this
    refine b6_turnOf_7 hT ⟨fun _ => ?_, fun q => absurd q (by decide)⟩
    simp (disch := omega) only [nl_add, nI_clamp, Nat.zero_add]
    refine ⟨vp_n (by omega) (by decide), s6_draws hT ?_⟩
    rw [← h1] at h
    have a1 : Ft [215, 232, 233] [] V0 (up2 V 215 314 (rmd (25173 * V 215 314 + 13849) 65536)) := h3.up (by decide) (by decide)
    have hz1 : Z9 (up2 V 215 314 (rmd (25173 * V 215 314 + 13849) 65536)) := fun j hj => by rw [up2_n (by decide)]; exact hz j hj
    have e1 : (up2 V 215 314 (rmd (25173 * V 215 314 + 13849) 65536)) 215 = drawN (V 215) := by rw [up2_r]; rfl
    generalize up2 V 215 314 (rmd (25173 * V 215 314 + 13849) 65536) = V1 at a1 hz1 e1 ⊢
    refine s6_feels hT hp hz1 fun V2 hF2 hf2 => ?_
    have a2 : Ft [215, 232, 233] [] V0 V2 := a1.tr ⟨fun o ho _ => hF2 o (fun e => ho (by simp at e; simp [e])), fun j _ => by rw [hF2 214 (by decide)]⟩
    refine s6_holdsAny hT (hL.ft a2 (by decide) (by decide)) fun V3 hF3 => ?_
    have a3 : Ft [215, 232, 233] [] V0 V3 := a2.tr ⟨fun o ho _ => hF3 o (fun e => ho (by simp at e; simp [e])), fun j _ => by rw [hF3 214 (by decide)]⟩
    have e3 : V3 215 = drawN (V 215) := ((hF3 215 (by decide)).trans (hF2 215 (by decide))).trans e1
    have hz3 : Z9 V3 := fun j hj => by rw [hF3 233 (by decide), hf2]; exact factsA_9 hj
    rw [lawV_of (a2.1 228 (by decide) (by decide)) (a2.1 229 (by decide) (by decide)) (a2.1 230 (by decide) (by decide)) (a2.1 231 (by decide) (by decide)), hf2, e1]
    have hv : vp_in (nI (96 + p)) 315 := vp_n (by omega) (by decide)
    have hv0 : vp_in (nI p) 315 := vp_n (by omega) (by decide)
    simp only [up2_r, e3, upd_s]
    have hz4 : ∀ j x, Z9 (up2 V3 215 j x) := fun j x i hi => by rw [up2_n (by decide)]; exact hz3 i hi
    have hz5 : ∀ j x j' x', Z9 (up2 (up2 V3 215 j x) 215 j' x') := fun j x j' x' i hi => by rw [up2_n (by decide)]; exact hz4 j x i hi
    have ho : outA (lawV m rk V0) p (V 215) = (let N1 := drawN (V 215); let y := if anyA (lawV m rk V0) 120 (factsA N1 p (V 215 (96 + p)) 0 (rmd (N1 314) 10)) = true then 0 else N1 (96 + p) - 1; if y = 0 then upd (upd N1 (96 + p) y) p 2 else upd N1 (96 + p) y) := rfl
    simp only at ho
    by_cases hany : anyA (lawV m rk V0) 120 (factsA (drawN (V 215)) p (V 215 (96 + p)) 0 (rmd (drawN (V 215) 314) 10)) = true
    · simp only [if_pos hany] at ho ⊢
      refine ⟨fun q => absurd q (by decide), fun _ => ⟨hv, hv, fun q => absurd trivial q, fun _ => ⟨hv0, h _ ?_ (hz5 _ _ _ _) ((a3.up (by decide) (by decide)).up (by decide) (by decide))⟩⟩⟩
      rw [ho]
      simp only [if_true, up2_r, e3]
    · simp only [if_neg hany] at ho ⊢
      refine ⟨fun _ => ⟨hv, hv, hv, fun q => h _ ?_ (hz4 _ _) (a3.up (by decide) (by decide)), fun q => ⟨hv0, h _ ?_ (hz5 _ _ _ _) ((a3.up (by decide) (by decide)).up (by decide) (by decide))⟩⟩, fun q => absurd trivial q⟩
      · rw [ho, if_neg q, up2_r, e3]
      · rw [ho, if_pos q, up2_r, up2_r, e3]
  | succ r ih =>
    intro w V hw h1 hz h3
    refine b6_turnOf_7 hT ⟨fun q => absurd q ?_, fun _ => s6_goesOver hT (hL.ft h3 (by decide) (by decide)) hz hp (by omega) fun V1 e1 hz1 a1 => ?_⟩
    · simp (disch := omega) only [lle_n]; omega
    · rw [nI_1]
      refine ih (w + 1) V1 (by omega) ?_ hz1 (h3.tr a1)
      rw [e1, h1, h3.1 218 (by decide) (by decide), lawV_of (h3.1 228 (by decide) (by decide)) (h3.1 229 (by decide) (by decide)) (h3.1 230 (by decide) (by decide)) (h3.1 231 (by decide) (by decide))]
      rfl
theorem lostA_out {L : lawT} {p : Nat} {N : nT} (hp : p < 96) : lostA (outA L p N) = lostA N := by
  have key : ∀ y : Int32, lostA (if y = 0 then upd (upd (drawN N) (96 + p) y) p 2 else upd (drawN N) (96 + p) y) = lostA N := by
    intro y
    split
    · rw [lostA_upd (j := p) (by omega), lostA_upd (j := 96 + p) (by omega)]; exact lostA_upd (by omega)
    · rw [lostA_upd (j := 96 + p) (by omega)]; exact lostA_upd (by omega)
  exact key _
theorem lostA_it {L : lawT} {Kd : nT} {p : Nat} {N : nT} (hp : p < 96) : ∀ n, lostA (itN (fun w M => overA L Kd p w M) n N) = lostA N
  | 0 => rfl
  | n + 1 => by simp only [itN]; rw [lostA_over hp, lostA_it hp n]
theorem s6_turnOf {p : Nat} (hT : TW E) (hL : LT E m rk V) (hz : Z9 V) (hp : p < 96)
    (h : ∀ V', V' 215 = turnA (lawV m rk V) (V 218) p (V 215) → V' 214 34 = V 214 34 + (lostA (V' 215) - lostA (V 215)) → Z9 V' → Ft [215, 232, 233] [34] V V' → kv V') : c6_turnOf E (nI p) V kv := by
  refine n6_turnOf (b6_turnOf_0 hT (s6_takesThings hT fun V1 e1 l1 a1 => ?_))
  have hL1 := hL.ft a1 (by decide) (by decide)
  refine turnOf_loop hT hL1 hp (fun V' e2 hz2 a2 => ?_) 4 0 V1 rfl rfl (fun j hj => by rw [a1.1 233 (by decide) (by decide)]; exact hz j hj) Ft.rf
  have e3 : V' 215 = turnA (lawV m rk V) (V 218) p (V 215) := by
    rw [e2, e1, a1.1 218 (by decide) (by decide), lawV_of (a1.1 228 (by decide) (by decide)) (a1.1 229 (by decide) (by decide)) (a1.1 230 (by decide) (by decide)) (a1.1 231 (by decide) (by decide))]
    rfl
  refine h V' e3 ?_ hz2 ((a1.sub (by simp) (fun _ z => z)).tr (a2.sub (fun _ z => z) (by simp)))
  rw [a2.2 34 (by simp), l1, e3]
  unfold turnA
  rw [lostA_out hp, lostA_it hp]
theorem minute_loop2 {V0 : vT} {N : nT} (hT : TW E) (hL : LT E m rk V0) (hB : ∀ p, p < 96 → (V0 235 p = 0 ↔ ¬ N p = 1))
    (h : ∀ V', V' 215 = itN (fun p M => if N p = 1 then turnA (lawV m rk V0) (V0 218) p M else M) 96 (V0 215) → V' 214 34 = V0 214 34 + (lostA (V' 215) - lostA (V0 215)) → Z9 V' → Ft [215, 232, 233] [34] V0 V' → kv (up2 V' 215 313 (V' 215 313 + 1))) :
    ∀ r p (V : vT), p + r = 96 → V 215 = itN (fun p M => if N p = 1 then turnA (lawV m rk V0) (V0 218) p M else M) p (V0 215) → V 214 34 = V0 214 34 + (lostA (V 215) - lostA (V0 215)) → Z9 V → Ft [215, 232, 233] [34] V0 V → w6_minuteGoes E kv 39 [some (vr 214), some (vi (nI p))] [] V := by
  intro r
  induction r with
  | zero =>
    intro p V hp h1 h2 hz h3
    have : p = 96 := by omega
    subst this
    exact b6_minuteGoes_39 hT ⟨fun _ => h V h1 h2 hz h3, fun q => absurd q (by decide)⟩
  | succ r ih =>
    intro p V hp h1 h2 hz h3
    refine b6_minuteGoes_39 hT ⟨fun q => absurd q ?_, fun _ => ?_⟩
    · simp (disch := omega) only [lle_n]; omega
    · simp (disch := omega) only [nl_add, nI_clamp, nI_1]
      rw [h3.1 235 (by decide) (by decide)]
      refine ⟨vp_n (by omega) (by decide), fun q => ?_, fun q => ?_⟩
      · rw [hB p (by omega)] at q
        exact ih (p + 1) V (by omega) (by rw [h1]; simp only [itN]; rw [if_neg q]) h2 hz h3
      · rw [hB p (by omega)] at q
        have q := Classical.not_not.mp q
        refine s6_turnOf hT (hL.ft h3 (by decide) (by decide)) hz (by omega) fun V1 e1 l1 hz1 a1 => ?_
        refine ih (p + 1) V1 (by omega) ?_ ?_ hz1 (h3.tr a1)
        · rw [e1, h1, h3.1 218 (by decide) (by decide), lawV_of (h3.1 228 (by decide) (by decide)) (h3.1 229 (by decide) (by decide)) (h3.1 230 (by decide) (by decide)) (h3.1 231 (by decide) (by decide))]
          simp only [itN]
          rw [if_pos q]
        · rw [l1, h2]; grind
theorem minute_loop1 {V0 : vT} (hT : TW E) (h : ∀ V', Fr [235] V0 V' → (∀ p, p < 96 → (V' 235 p = 0 ↔ ¬ V0 215 p = 1)) → w6_minuteGoes E kv 39 [some (vr 214), some (vi 0)] [] V') :
    ∀ r p (V : vT), p + r = 96 → Fr [235] V0 V → (∀ i, i < p → (V 235 i = 0 ↔ ¬ V0 215 i = 1)) → w6_minuteGoes E kv 2 [some (vr 214), some (vi (nI p))] [] V := by
  intro r
  induction r with
  | zero =>
    intro p V hp hF hB
    have : p = 96 := by omega
    subst this
    exact b6_minuteGoes_2 hT ⟨fun _ => h V hF hB, fun q => absurd q (by decide)⟩
  | succ r ih =>
    intro p V hp hF hB
    refine b6_minuteGoes_2 hT ⟨fun q => absurd q ?_, fun _ => ?_⟩
    · simp (disch := omega) only [lle_n]; omega
    · simp (disch := omega) only [nl_add, nI_clamp, nI_1, Nat.zero_add]
      rw [hF 215 (by decide)]
      refine ⟨vp_n (by omega) (by decide), fun q => ⟨vp_n (by omega) (by decide), ih (p + 1) _ (by omega) (hF.up (by decide)) fun i hi => ?_⟩, fun q => ⟨vp_n (by omega) (by decide), ih (p + 1) _ (by omega) (hF.up (by decide)) fun i hi => ?_⟩⟩
      · rw [up2_r]
        by_cases hip : i = p
        · subst hip; rw [upd_s]; exact ⟨fun _ => q, fun _ => rfl⟩
        · rw [upd_n hip]; exact hB i (by omega)
      · rw [up2_r]
        by_cases hip : i = p
        · subst hip; rw [upd_s]; exact ⟨fun z => absurd z (by decide), fun z => absurd q z⟩
        · rw [upd_n hip]; exact hB i (by omega)
theorem lostA_313 {N : nT} {x : Int32} : lostA (upd N 313 x) = lostA N := lostA_upd (by omega)
theorem s6_minuteGoes (hT : TW E) (hL : LT E m rk V) (hz : Z9 V)
    (h : ∀ V', V' 215 = minuteA (lawV m rk V) (V 218) (V 215) → V' 214 34 = V 214 34 + (lostA (V' 215) - lostA (V 215)) → Z9 V' → Ft [215, 232, 233, 235] [34] V V' → kv V') : c6_minuteGoes E V kv := by
  refine n6_minuteGoes (b6_minuteGoes_0 hT (minute_loop1 hT (fun V1 hF1 hB1 => ?_) 96 0 V rfl Fr.rf (fun i hi => absurd hi (by omega))))
  have a1 : Ft [215, 232, 233, 235] [34] V V1 := ⟨fun o ho _ => hF1 o (fun e => ho (by simp at e; simp [e])), fun j _ => by rw [hF1 214 (by decide)]⟩
  refine minute_loop2 (N := V 215) hT (hL.ft a1 (by decide) (by decide)) hB1 (fun V2 e2 l2 hz2 a2 => ?_) 96 0 V1 rfl rfl (by grind) (fun j hj => by rw [hF1 233 (by decide)]; exact hz j hj) Ft.rf
  have a3 : Ft [215, 232, 233, 235] [34] V V2 := a1.tr (a2.sub (fun o ho => by simp at ho ⊢; omega) (fun _ z => z))
  rw [hF1 215 (by decide), hF1 218 (by decide), lawV_of (hF1 228 (by decide)) (hF1 229 (by decide)) (hF1 230 (by decide)) (hF1 231 (by decide))] at e2
  rw [hF1 214 (by decide), hF1 215 (by decide)] at l2
  refine h _ ?_ ?_ (fun j hj => by rw [up2_n (by decide)]; exact hz2 j hj) (a3.up (by decide) (by decide))
  · rw [up2_r, e2]; rfl
  · rw [up2_n (by decide), up2_r, lostA_313, l2]
theorem minutesGo_loop {n : Nat} {V0 : vT} (hT : TW E) (hL : LT E m rk V0) (hn : n < 2 ^ 31)
    (h : ∀ V', V' 215 = minutesA (lawV m rk V0) (V0 218) n (V0 215) → V' 214 34 = V0 214 34 + (lostA (V' 215) - lostA (V0 215)) → Z9 V' → Ft [215, 232, 233, 235] [34] V0 V' → kv V') :
    ∀ r i (V : vT), i + r = n → minutesA (lawV m rk V0) (V0 218) r (V 215) = minutesA (lawV m rk V0) (V0 218) n (V0 215) → V 214 34 = V0 214 34 + (lostA (V 215) - lostA (V0 215)) → Z9 V → Ft [215, 232, 233, 235] [34] V0 V → w6_minutesGo E kv 7 [some (vr 214), some (vi (nI n)), some (vi (nI i))] [] V := by
  intro r
  induction r with
  | zero =>
    intro i V hi h1 h2 hz h3
    have : i = n := by omega
    subst this
    exact b6_minutesGo_7 hT ⟨fun _ => h V h1 h2 hz h3, fun q => absurd q (Int32.not_lt.mpr (nI_le (Nat.le_refl _) hn))⟩
  | succ r ih =>
    intro i V hi h1 h2 hz h3
    refine b6_minutesGo_7 hT ⟨fun q => absurd q (nI_ge (by omega) hn), fun _ => ⟨fun q => h V ?_ h2 hz h3, fun q => s6_minuteGoes hT (hL.ft h3 (by decide) (by decide)) hz fun V1 e1 l1 hz1 a1 => ?_⟩⟩
    · rw [← h1]; simp only [minutesA]; rw [if_neg (Int32.not_lt.mpr q)]
    · rw [nI_1]
      refine ih (i + 1) V1 (by omega) ?_ ?_ hz1 (h3.tr a1)
      · rw [← h1, e1, h3.1 218 (by decide) (by decide), lawV_of (h3.1 228 (by decide) (by decide)) (h3.1 229 (by decide) (by decide)) (h3.1 230 (by decide) (by decide)) (h3.1 231 (by decide) (by decide))]
        simp only [minutesA]
        rw [if_pos q]
      · rw [l1, h2]; grind
theorem s6_minutesGo {n : Nat} (hT : TW E) (hL : LT E m rk V) (hz : Z9 V) (hn : n < 2 ^ 31)
    (h : ∀ V', V' 215 = minutesA (lawV m rk V) (V 218) n (V 215) → V' 214 34 = lostA (V' 215) - lostA (V 215) → Z9 V' → Ft [215, 232, 233, 235] [34] V V' → kv V') : c6_minutesGo E (nI n) V kv := by
  refine n6_minutesGo (b6_minutesGo_0 hT ?_)
  have a0 : Ft [215, 232, 233, 235] [34] V (up2 V 214 34 0) := Ft.rf.uf (by decide)
  refine minutesGo_loop hT (hL.ft a0 (by decide) (by decide)) hn (fun V' e1 l1 hz1 a1 => ?_) n 0 (up2 V 214 34 0) (by omega) rfl (by grind) (fun j hj => by rw [up2_n (by decide)]; exact hz j hj) Ft.rf
  rw [up2_n (by decide), up2_n (by decide), lawV_of (a0.1 228 (by decide) (by decide)) (a0.1 229 (by decide) (by decide)) (a0.1 230 (by decide) (by decide)) (a0.1 231 (by decide) (by decide))] at e1
  refine h V' e1 ?_ hz1 (a0.tr a1)
  rw [l1, up2_s, up2_n (by decide)]; grind
end T6d
