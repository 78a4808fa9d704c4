/-! THE TWIN'S METHODS, what they answer: sums, sets, counts, the place beside, facts, lots -/
section T6b
variable {E : eT} {V : vT} {k : Int32 → vT → Prop} {kv : vT → Prop} {x1 x2 x3 : Int32}
/-- rows but S, and the object's fields but T, are as they were -/
def Ft (S T : List Nat) (V V' : vT) : Prop := (∀ o, o ∉ S → o ≠ 214 → V' o = V o) ∧ ∀ j, j ∉ T → V' 214 j = V 214 j
theorem Ft.rf {S T : List Nat} {V : vT} : Ft S T V V := ⟨fun _ _ _ => rfl, fun _ _ => rfl⟩
theorem Ft.tr {S T : List Nat} {V V1 V2 : vT} (h : Ft S T V V1) (h1 : Ft S T V1 V2) : Ft S T V V2 := ⟨fun o ho h2 => (h1.1 o ho h2).trans (h.1 o ho h2), fun j hj => (h1.2 j hj).trans (h.2 j hj)⟩
theorem Ft.up {S T : List Nat} {V V1 : vT} {o j : Nat} {x : Int32} (h : Ft S T V V1) (ho : o ∈ S) (h2 : o ≠ 214) : Ft S T V (up2 V1 o j x) :=
  ⟨fun a ha h3 => (up2_n (fun e => ha (by rw [e]; exact ho))).trans (h.1 a ha h3), fun i hi => by rw [up2_n (Ne.symm h2)]; exact h.2 i hi⟩
theorem Ft.uf {S T : List Nat} {V V1 : vT} {j : Nat} {x : Int32} (h : Ft S T V V1) (hj : j ∈ T) : Ft S T V (up2 V1 214 j x) :=
  ⟨fun a ha h3 => (up2_n h3).trans (h.1 a ha h3), fun i hi => by rw [up2_r, upd_n (fun e => hi (by rw [e]; exact hj))]; exact h.2 i hi⟩
theorem Ft.sub {S T S' T' : List Nat} {V V1 : vT} (h : Ft S T V V1) (hs : ∀ o, o ∈ S → o ∈ S') (ht : ∀ o, o ∈ T → o ∈ T') : Ft S' T' V V1 := ⟨fun o ho h2 => h.1 o (fun e => ho (hs o e)) h2, fun j hj => h.2 j (fun e => hj (ht j e))⟩
theorem sumsAt_loop {p : Nat} (hT : TW E) (h : k (sumsA (V 215) p) V) : ∀ m i, i + m = 24 → w6_sumsAt E k 4 [some (vr 214), some (vi (nI p)), some (vi (sI (fun i => if liesB (V 215) p i then V 215 (264 + i) else 0) i)), some (vi (nI i))] [] V := by
  intro m
  induction m with
  | zero =>
    intro i hi
    have : i = 24 := by omega
    subst this
    exact b6_sumsAt_4 hT ⟨fun _ => h, fun h1 => absurd h1 (by decide)⟩
  | succ m ih =>
    intro i hi
    have ih := ih (i + 1) (by omega)
    refine b6_sumsAt_4 hT ⟨fun h1 => absurd h1 ?_, fun _ => s6_liesAt hT (by omega) ?_⟩
    · simp (disch := omega) only [lle_n]; omega
    · simp (disch := omega) only [nl_add, nI_clamp, nI_1]
      simp only [sI] at ih
      refine ⟨fun h1 => ?_, fun h1 => ⟨vp_n (by omega) (by decide), ?_⟩⟩
      · rw [b2_0] at h1
        rwa [if_neg h1, Int32.add_zero] at ih
      · rw [b2_0] at h1
        rwa [if_pos (Classical.not_not.mp h1)] at ih
theorem s6_sumsAt {p : Nat} (hT : TW E) (h : k (sumsA (V 215) p) V) : c6_sumsAt E (nI p) V k :=
  n6_sumsAt (b6_sumsAt_0 hT (sumsAt_loop hT h 24 0 rfl))
theorem thingsAt_loop {p : Nat} (hT : TW E) (h : k (thingsA (V 215) p) V) : ∀ m i, i + m = 24 → w6_thingsAt E k 4 [some (vr 214), some (vi (nI p)), some (vi (oS (fun i => liesB (V 215) p i) i)), some (vi (nI i))] [] V := by
  intro m
  induction m with
  | zero =>
    intro i hi
    have : i = 24 := by omega
    subst this
    exact b6_thingsAt_4 hT ⟨fun _ => h, fun h1 => absurd h1 (by decide)⟩
  | succ m ih =>
    intro i hi
    have ih := ih (i + 1) (by omega)
    refine b6_thingsAt_4 hT ⟨fun h1 => absurd h1 ?_, fun _ => s6_liesAt hT (by omega) ?_⟩
    · simp (disch := omega) only [lle_n]; omega
    · simp (disch := omega) only [nl_add, nI_clamp, nI_1]
      simp only [oS] at ih
      refine ⟨fun h1 => ?_, fun h1 => ?_⟩
      · rw [b2_0] at h1
        rwa [if_neg h1] at ih
      · rw [b2_0] at h1
        rwa [if_pos (Classical.not_not.mp h1)] at ih
theorem s6_thingsAt {p : Nat} (hT : TW E) (h : k (thingsA (V 215) p) V) : c6_thingsAt E (nI p) V k :=
  n6_thingsAt (b6_thingsAt_0 hT (thingsAt_loop hT h 24 0 rfl))
theorem goneSet_loop (hT : TW E) (h : k (goneA (V 215)) V) : ∀ m i, i + m = 24 → w6_goneSet E k 4 [some (vr 214), some (vi (oS (fun i => V 215 (192 + i) = 1 ∧ V 215 (288 + i) = 1) i)), some (vi (nI i))] [] V := by
  intro m
  induction m with
  | zero =>
    intro i hi
    have : i = 24 := by omega
    subst this
    exact b6_goneSet_4 hT ⟨fun _ => h, fun h1 => absurd h1 (by decide)⟩
  | succ m ih =>
    intro i hi
    have ih := ih (i + 1) (by omega)
    refine b6_goneSet_4 hT ⟨fun h1 => absurd h1 ?_, fun _ => s6_isThingN hT (by omega) ?_⟩
    · simp (disch := omega) only [lle_n]; omega
    · simp (disch := omega) only [nl_add, nI_clamp, nI_1]
      simp only [oS] at ih
      refine ⟨fun h1 => ?_, fun h1 => ⟨vp_n (by omega) (by decide), fun h2 => ?_, fun h2 => ?_⟩⟩
      · rw [b2_0] at h1
        rwa [if_neg (fun q => h1 q.1)] at ih
      · rwa [if_neg (fun q => h2 q.2)] at ih
      · rw [b2_0] at h1
        rwa [if_pos ⟨Classical.not_not.mp h1, h2⟩] at ih
theorem s6_goneSet (hT : TW E) (h : k (goneA (V 215)) V) : c6_goneSet E V k :=
  n6_goneSet (b6_goneSet_0 hT (goneSet_loop hT h 24 0 rfl))
theorem toldSet_loop (hT : TW E) (h : k (toldA (V 215)) V) : ∀ m i, i + m = 24 → w6_toldSet E k 4 [some (vr 214), some (vi (oS (fun i => V 215 (192 + i) = 1) i)), some (vi (nI i))] [] V := by
  intro m
  induction m with
  | zero =>
    intro i hi
    have : i = 24 := by omega
    subst this
    exact b6_toldSet_4 hT ⟨fun _ => h, fun h1 => absurd h1 (by decide)⟩
  | succ m ih =>
    intro i hi
    have ih := ih (i + 1) (by omega)
    refine b6_toldSet_4 hT ⟨fun h1 => absurd h1 ?_, fun _ => s6_isThingN hT (by omega) ?_⟩
    · simp (disch := omega) only [lle_n]; omega
    · simp (disch := omega) only [nl_add, nI_clamp, nI_1]
      simp only [oS] at ih
      refine ⟨fun h1 => ?_, fun h1 => ?_⟩
      · rw [b2_0] at h1
        rwa [if_neg h1] at ih
      · rw [b2_0] at h1
        rwa [if_pos (Classical.not_not.mp h1)] at ih
theorem s6_toldSet (hT : TW E) (h : k (toldA (V 215)) V) : c6_toldSet E V k :=
  n6_toldSet (b6_toldSet_0 hT (toldSet_loop hT h 24 0 rfl))
theorem faring_loop (hT : TW E) (h : k (faringA (V 215) x1) V) : ∀ m i, i + m = 96 → w6_faring E k 4 [some (vr 214), some (vi x1), some (vi (nI (cN (fun p => V 215 p = x1) i))), some (vi (nI i))] [] V := by
  intro m
  induction m with
  | zero =>
    intro i hi
    have : i = 96 := by omega
    subst this
    exact b6_faring_4 hT ⟨fun _ => h, fun h1 => absurd h1 (by decide)⟩
  | succ m ih =>
    intro i hi
    have ih := ih (i + 1) (by omega)
    refine b6_faring_4 hT ⟨fun h1 => absurd h1 ?_, fun _ => ?_⟩
    · simp (disch := omega) only [lle_n]; omega
    · simp (disch := omega) only [nl_add, nI_clamp, nI_1, Nat.zero_add]
      simp only [cN] at ih
      refine ⟨vp_n (by omega) (by decide), fun h1 => ?_, fun h1 => ?_⟩
      · rwa [if_neg h1] at ih
      · rwa [if_pos h1] at ih
theorem s6_faring (hT : TW E) (h : k (faringA (V 215) x1) V) : c6_faring E x1 V k :=
  n6_faring (b6_faring_0 hT (faring_loop hT h 96 0 rfl))
theorem sumsInRuins_loop (hT : TW E) (h : k (ruinsA (V 215)) V) : ∀ m i, i + m = 96 → w6_sumsInRuins E k 4 [some (vr 214), some (vi (sI (fun p => if V 215 p = 0 then 0 else sumsA (V 215) p) i)), some (vi (nI i))] [] V := by
  intro m
  induction m with
  | zero =>
    intro i hi
    have : i = 96 := by omega
    subst this
    exact b6_sumsInRuins_4 hT ⟨fun _ => h, fun h1 => absurd h1 (by decide)⟩
  | succ m ih =>
    intro i hi
    have ih := ih (i + 1) (by omega)
    refine b6_sumsInRuins_4 hT ⟨fun h1 => absurd h1 ?_, fun _ => ?_⟩
    · simp (disch := omega) only [lle_n]; omega
    · simp (disch := omega) only [nl_add, nI_clamp, nI_1, Nat.zero_add]
      simp only [sI] at ih
      refine ⟨vp_n (by omega) (by decide), fun h1 => ?_, fun h1 => s6_sumsAt hT ?_⟩
      · rwa [if_pos h1, Int32.add_zero] at ih
      · rwa [if_neg h1] at ih
theorem s6_sumsInRuins (hT : TW E) (h : k (ruinsA (V 215)) V) : c6_sumsInRuins E V k :=
  n6_sumsInRuins (b6_sumsInRuins_0 hT (sumsInRuins_loop hT h 96 0 rfl))
/-! the place beside -/
def besF (x1 x2 : Int32) : Int32 :=
  let a := rmd x1 12 + (if x2 = 1 then 1 else if x2 = 3 then (-1) else 0)
  let b := x1 / 12 + (if x2 = 2 then 1 else if x2 = 0 then (-1) else 0)
  if (0 ≤ a ∧ a ≤ 11) ∧ (0 ≤ b ∧ b ≤ 7) then 12 * b + a else -1
theorem besF_nx : (List.range 96).all (fun p => (List.range 4).all fun w => decide (besF (nI p) (nI w) = oI (nx p w))) = true := by decide +kernel
theorem besF_eq {p w : Nat} (hp : p < 96) (hw : w < 4) : besF (nI p) (nI w) = oI (nx p w) := by
  have h := List.all_eq_true.mp besF_nx p (List.mem_range.mpr hp)
  exact of_decide_eq_true (List.all_eq_true.mp h w (List.mem_range.mpr hw))
theorem s6_beside0 (hT : TW E) (h : k (besF x1 x2) V) : c6_beside E x1 x2 V k := by
  have key : ∀ a b : Int32, k (if (0 ≤ a ∧ a ≤ 11) ∧ (0 ≤ b ∧ b ≤ 7) then 12 * b + a else -1) V → c6_isSpot E a b V (fun r V1 => (r = 0 → k (-1) V1) ∧ (¬ r = 0 → k (12 * b + a) V1)) := by
    intro a b hk
    refine s6_isSpot hT ⟨fun h1 => ?_, fun h1 => ?_⟩
    · rw [b2_0] at h1; rwa [if_neg h1] at hk
    · rw [b2_0] at h1; rwa [if_pos (Classical.not_not.mp h1)] at hk
  refine n6_beside (b6_beside_0 hT ⟨fun h1 => ⟨fun h3 => ⟨fun h2 => ⟨fun h0 => key _ _ ?_, fun h0 => key _ _ ?_⟩, fun h2 => key _ _ ?_⟩, fun h3 => ⟨fun h2 => ⟨fun h0 => key _ _ ?_, fun h0 => key _ _ ?_⟩, fun h2 => key _ _ ?_⟩⟩, fun h1 => ⟨fun h2 => ⟨fun h0 => key _ _ ?_, fun h0 => key _ _ ?_⟩, fun h2 => key _ _ ?_⟩⟩)
  all_goals simp only [besF] at h
  · simpa only [if_neg h1, if_neg h3, if_neg h2, if_neg h0] using h
  · simpa only [if_neg h1, if_neg h3, if_neg h2, if_pos h0] using h
  · simpa only [if_neg h1, if_neg h3, if_pos h2] using h
  · simpa only [if_neg h1, if_pos h3, if_neg h2, if_neg h0] using h
  · simpa only [if_neg h1, if_pos h3, if_neg h2, if_pos h0] using h
  · simpa only [if_neg h1, if_pos h3, if_pos h2] using h
  · simpa only [if_pos h1, if_neg h2, if_neg h0] using h
  · simpa only [if_pos h1, if_neg h2, if_pos h0] using h
  · simpa only [if_pos h1, if_pos h2] using h
theorem s6_beside {p w : Nat} (hT : TW E) (hp : p < 96) (hw : w < 4) (h : k (oI (nx p w)) V) : c6_beside E (nI p) (nI w) V k :=
  s6_beside0 hT (by rw [besF_eq hp hw]; exact h)
theorem burnNextTo_loop {p : Nat} (hT : TW E) (hp : p < 96) (h : k (aroundA (V 215) p) V) : ∀ m i, i + m = 4 → w6_burnNextTo E k 4 [some (vr 214), some (vi (nI p)), some (vi (nI (cN (fun w => burnB (V 215) p w) i))), some (vi (nI i))] [] V := by
  intro m
  induction m with
  | zero =>
    intro i hi
    have : i = 4 := by omega
    subst this
    exact b6_burnNextTo_4 hT ⟨fun _ => h, fun h1 => absurd h1 (by decide)⟩
  | succ m ih =>
    intro i hi
    have ih := ih (i + 1) (by omega)
    refine b6_burnNextTo_4 hT ⟨fun h1 => absurd h1 ?_, fun _ => s6_beside hT hp (by omega) ⟨fun h1 => ?_, fun h1 => s6_beside hT hp (by omega) ?_⟩⟩
    · simp (disch := omega) only [lle_n]; omega
    · simp only [cN, burnB] at ih
      rw [oI_m1 (fun q hq => Nat.lt_trans (nx_lt hp hq) (by decide))] at h1
      rw [h1] at ih
      simp only [Bool.false_eq_true, if_false] at ih
      simpa only [nI_1] using ih
    · cases hn : nx p i with
      | none => rw [hn] at h1; exact absurd rfl h1
      | some q =>
        have hq := nx_lt hp hn
        simp only [oI]
        simp (disch := omega) only [nl_add, nI_clamp, nI_1, Nat.zero_add]
        simp only [cN, burnB, hn, decide_eq_true_eq] at ih
        refine ⟨vp_n (by omega) (by decide), fun h2 => ?_, fun h2 => ?_⟩
        · rwa [if_neg h2] at ih
        · rwa [if_pos h2] at ih
theorem s6_burnNextTo {p : Nat} (hT : TW E) (hp : p < 96) (h : k (aroundA (V 215) p) V) : c6_burnNextTo E (nI p) V k :=
  n6_burnNextTo (b6_burnNextTo_0 hT (burnNextTo_loop hT hp h 4 0 rfl))
/-- the facts' row holds nothing behind its nine -/
def Z9 (V : vT) : Prop := ∀ j, 9 ≤ j → V 233 j = 0
theorem s6_feels {p : Nat} (hT : TW E) (hp : p < 96) (hz : Z9 V) (h : ∀ V', Fr [233] V V' → V' 233 = factsA (V 215) p x1 x2 x3 → kv V') : c6_feels E (nI p) x1 x2 x3 V kv := by
  refine n6_feels (b6_feels_0 hT (s6_burnNextTo hT hp (s6_valuesAt hT (s6_sumsAt hT (h _ ?_ ?_)))))
  · exact ((((((((Fr.rf.up (by decide)).up (by decide)).up (by decide)).up (by decide)).up (by decide)).up (by decide)).up (by decide)).up (by decide)).up (by decide)
  · funext j
    simp only [up2_n (show (215 : Nat) ≠ 233 by decide)]
    simp only [up2_r]
    by_cases hj : j < 9
    · rcases (show j = 0 ∨ j = 1 ∨ j = 2 ∨ j = 3 ∨ j = 4 ∨ j = 5 ∨ j = 6 ∨ j = 7 ∨ j = 8 by omega) with rfl | rfl | rfl | rfl | rfl | rfl | rfl | rfl | rfl <;> simp [upd, factsA]
    · have e := hz j (by omega)
      simp only [upd, factsA]
      simp (disch := omega) only [if_neg]
      exact e
theorem factsA_9 {N : nT} {p j : Nat} {a b c : Int32} (hj : 9 ≤ j) : factsA N p a b c j = 0 := by
  unfold factsA
  simp (disch := omega) only [if_neg]
theorem s6_draws (hT : TW E) (h : k (rmd (drawN (V 215) 314) 10) (up2 V 215 314 (rmd ((25173 * V 215 314) + 13849) 65536))) : c6_draws E V k := by
  refine n6_draws (b6_draws_0 hT ?_)
  simpa only [up2_r, drawN] using h
end T6b
