/-! THE TWIN'S METHODS, what they answer: a minute -/
section T6c
variable {E : eT} {V : vT} {k : Int32 → vT → Prop} {kv : vT → Prop} {x1 x2 x3 : Int32}
/-- things gone, the first n of them looked at -/
def goneTo (p : Nat) (N : nT) (n : Nat) : nT := fun j => if 288 ≤ j ∧ j < 288 + n ∧ liesB N p (j - 288) ∧ N (264 + (j - 288)) = 0 then 1 else N j
theorem goneTo_0 {p : Nat} {N : nT} : goneTo p N 0 = N := by funext j; unfold goneTo; rw [if_neg (by omega)]
theorem goneTo_24 {p : Nat} {N : nT} : goneTo p N 24 = goneN p N := rfl
theorem goneTo_lo {p n j : Nat} {N : nT} (h : j < 288) : goneTo p N n j = N j := by unfold goneTo; rw [if_neg (by omega)]
theorem goneTo_hi {p n j : Nat} {N : nT} (h : 288 + n ≤ j) : goneTo p N n j = N j := by unfold goneTo; rw [if_neg (by omega)]
theorem goneTo_t {p n : Nat} {N : nT} (h : liesB N p n ∧ N (264 + n) = 0) : goneTo p N (n + 1) = upd (goneTo p N n) (288 + n) 1 := by
  funext j
  unfold goneTo upd
  have e : 288 + n - 288 = n := by omega
  by_cases hj : j = 288 + n
  · subst hj
    rw [e, if_pos ⟨by omega, by omega, h.1, h.2⟩, if_pos rfl]
  · have e2 : j < 288 + (n + 1) ↔ j < 288 + n := by omega
    simp only [e2, if_neg hj]
theorem goneTo_f {p n : Nat} {N : nT} (h : ¬ (liesB N p n ∧ N (264 + n) = 0)) : goneTo p N (n + 1) = goneTo p N n := by
  funext j
  unfold goneTo
  have e : 288 + n - 288 = n := by omega
  by_cases hj : j = 288 + n
  · subst hj
    rw [e, if_neg (fun q => h ⟨q.2.2.1, q.2.2.2⟩), if_neg (by omega)]
  · have e2 : j < 288 + (n + 1) ↔ j < 288 + n := by omega
    simp only [e2]
theorem goneTo_lies {p n i : Nat} {N : nT} (hi : i < 24) (h : n ≤ i) : liesB (goneTo p N n) p i ↔ liesB N p i := by
  unfold liesB
  rw [goneTo_lo (by omega), goneTo_hi (by omega), goneTo_lo (by omega)]
theorem sI_c {f g : Nat → Int32} : ∀ n, (∀ i, i < n → f i = g i) → sI f n = sI g n
  | 0, _ => rfl
  | n + 1, h => by simp only [sI]; rw [sI_c n (fun i hi => h i (by omega)), h n (by omega)]
/-- one more gone: the loss grows by its value -/
theorem sI_one {f : Nat → Int32} {i : Nat} {x : Int32} : ∀ n, i < n → f i = 0 → sI (fun j => if j = i then x else f j) n = sI f n + x
  | 0, h, _ => by omega
  | n + 1, h, h0 => by
    simp only [sI]
    by_cases hn : n = i
    · subst hn
      rw [if_pos rfl, h0, Int32.add_zero, sI_c n (g := f) (fun j hj => if_neg (by omega))]
    · rw [if_neg hn, sI_one n (by omega) h0]
      grind
theorem lostA_up {N : nT} {i : Nat} (hi : i < 24) (h1 : N (192 + i) = 1) (h0 : N (288 + i) = 0) : lostA (upd N (288 + i) 1) = lostA N + N (240 + i) := by
  unfold lostA
  rw [← sI_one (f := fun i => if N (192 + i) = 1 ∧ N (288 + i) = 1 then N (240 + i) else 0) (i := i) (x := N (240 + i)) 24 hi (if_neg (by rw [h0]; intro q; exact absurd q.2 (by decide)))]
  refine sI_c 24 fun j hj => ?_
  rw [upd_n (j := 192 + j) (by omega), upd_n (j := 240 + j) (by omega)]
  by_cases hji : j = i
  · subst hji
    rw [upd_s, if_pos ⟨h1, rfl⟩, if_pos rfl]
  · rw [upd_n (by omega), if_neg hji]
theorem lostA_c {N N' : nT} (h : ∀ i, i < 24 → N' (192 + i) = N (192 + i) ∧ N' (288 + i) = N (288 + i) ∧ N' (240 + i) = N (240 + i)) : lostA N' = lostA N := by
  unfold lostA
  refine sI_c 24 fun i hi => ?_
  obtain ⟨h1, h2, h3⟩ := h i hi
  rw [h1, h2, h3]
theorem lostA_upd {N : nT} {j : Nat} {x : Int32} (h : j < 192 ∨ 312 ≤ j) : lostA (upd N j x) = lostA N :=
  lostA_c fun i hi => ⟨upd_n (by omega), upd_n (by omega), upd_n (by omega)⟩
theorem takesThings_loop {p : Nat} {V0 : vT} (hT : TW E) (h : ∀ V', V' 215 = goneN p (V0 215) → V' 214 34 = V0 214 34 + (lostA (goneN p (V0 215)) - lostA (V0 215)) → Ft [215] [34] V0 V' → kv V') :
    ∀ m i (V : vT), i + m = 24 → V 215 = goneTo p (V0 215) i → V 214 34 = V0 214 34 + (lostA (goneTo p (V0 215) i) - lostA (V0 215)) → Ft [215] [34] V0 V → w6_takesThings E kv 2 [some (vr 214), some (vi (nI p)), some (vi (nI i))] [] V := by
  intro m
  induction m with
  | zero =>
    intro i V hi h1 h2 h3
    have : i = 24 := by omega
    subst this
    exact b6_takesThings_2 hT ⟨fun _ => h V h1 h2 h3, fun h1 => absurd h1 (by decide)⟩
  | succ m ih =>
    intro i V hi h1 h2 h3
    refine b6_takesThings_2 hT ⟨fun q => absurd q ?_, fun _ => s6_liesAt hT (by omega) ?_⟩
    · simp (disch := omega) only [lle_n]; omega
    · simp (disch := omega) only [nl_add, nI_clamp, nI_1]
      refine ⟨fun q => ?_, fun q => ⟨vp_n (by omega) (by decide), fun q2 => ⟨vp_n (by omega) (by decide), vp_n (by omega) (by decide), ?_⟩, fun q2 => ?_⟩⟩
      · rw [b2_0, h1, goneTo_lies (by omega) (Nat.le_refl _)] at q
        have e := goneTo_f (p := p) (n := i) (N := V0 215) (fun z => q z.1)
        exact ih (i + 1) V (by omega) (by rw [e]; exact h1) (by rw [e]; exact h2) h3
      · rw [b2_0, h1, goneTo_lies (by omega) (Nat.le_refl _)] at q
        have q := Classical.not_not.mp q
        rw [h1, goneTo_lo (by omega)] at q2
        have e := goneTo_t (p := p) (n := i) (N := V0 215) ⟨q, q2⟩
        have e1 : (up2 (up2 V 215 (288 + i) 1) 214 34 (up2 V 215 (288 + i) 1 214 34 + up2 V 215 (288 + i) 1 215 (240 + i))) 215 = goneTo p (V0 215) (i + 1) := by
          rw [up2_n (by decide), up2_r, h1, e]
        refine ih (i + 1) _ (by omega) e1 ?_ ((h3.up (by decide) (by decide)).uf (by decide))
        rw [e, lostA_up (by omega) (by rw [goneTo_lo (by omega)]; exact q.1) (by rw [goneTo_hi (by omega)]; exact q.2.1)]
        rw [up2_s, up2_n (show (214 : Nat) ≠ 215 by decide), h2, up2_r, h1, upd_n (by omega)]
        grind
      · rw [h1, goneTo_lo (by omega)] at q2
        have e := goneTo_f (p := p) (n := i) (N := V0 215) (fun z => q2 z.2)
        exact ih (i + 1) V (by omega) (by rw [e]; exact h1) (by rw [e]; exact h2) h3
theorem s6_takesThings {p : Nat} (hT : TW E) (h : ∀ V', V' 215 = goneN p (V 215) → V' 214 34 = V 214 34 + (lostA (goneN p (V 215)) - lostA (V 215)) → Ft [215] [34] V V' → kv V') : c6_takesThings E (nI p) V kv :=
  n6_takesThings (b6_takesThings_0 hT (takesThings_loop hT h 24 0 V rfl goneTo_0.symm (by rw [goneTo_0]; grind) Ft.rf))
/-! the law, as the twin's codes come to it: rk from to facts -/
def lawGo (rk : Int32 → Int32 → nT → Int32) (cl fr hf to : nT) (c : Int32) (F : nT) : Nat → Nat → Option Int32
  | 0, _ => none
  | n + 1, q => if cl q = c ∧ rk (hf q) (to q) F = 1 then some (rk (fr q) (hf q) F) else lawGo rk cl fr hf to c F n (q + 1)
/-- the twin's rows hold a law of m clauses whose codes come to rk -/
def LT (E : eT) (m : Nat) (rk : Int32 → Int32 → nT → Int32) (V : vT) : Prop := V 214 15 = nI m ∧ m ≤ 16 ∧
  ∀ (V' : vT), V' 227 = V 227 → ∀ q, q < m → (∀ (k : Int32 → vT → Prop), (∀ V'', Fr [232] V' V'' → k (rk (V 230 q) (V 231 q) (V' 233)) V'') → c6_reckonsTo E (V 230 q) (V 231 q) V' k) ∧ (∀ (k : Int32 → vT → Prop), (∀ V'', Fr [232] V' V'' → k (rk (V 229 q) (V 230 q) (V' 233)) V'') → c6_reckonsTo E (V 229 q) (V 230 q) V' k)
theorem LT.of {m : Nat} {rk : Int32 → Int32 → nT → Int32} {V' : vT} (h : LT E m rk V) (h1 : V' 214 15 = V 214 15) (h2 : V' 227 = V 227) (h3 : V' 229 = V 229) (h4 : V' 230 = V 230) (h5 : V' 231 = V 231) : LT E m rk V' := by
  obtain ⟨a, b, c⟩ := h
  refine ⟨h1.trans a, b, fun V2 hV2 q hq => ?_⟩
  rw [h3, h4, h5]
  exact c V2 (hV2.trans h2) q hq
theorem LT.ft {m : Nat} {rk : Int32 → Int32 → nT → Int32} {S T : List Nat} {V' : vT} (h : LT E m rk V) (hf : Ft S T V V') (hS : 227 ∉ S ∧ 229 ∉ S ∧ 230 ∉ S ∧ 231 ∉ S) (hT : 15 ∉ T) : LT E m rk V' :=
  h.of (hf.2 15 hT) (hf.1 227 hS.1 (by decide)) (hf.1 229 hS.2.1 (by decide)) (hf.1 230 hS.2.2.1 (by decide)) (hf.1 231 hS.2.2.2 (by decide))
/-- its law -/
def lawV (m : Nat) (rk : Int32 → Int32 → nT → Int32) (V : vT) : lawT := fun c F => lawGo rk (V 228) (V 229) (V 230) (V 231) c F m 0
theorem lawV_of {m : Nat} {rk : Int32 → Int32 → nT → Int32} {V' : vT} (h0 : V' 228 = V 228) (h3 : V' 229 = V 229) (h4 : V' 230 = V 230) (h5 : V' 231 = V 231) : lawV m rk V' = lawV m rk V := by
  unfold lawV; rw [h0, h3, h4, h5]
theorem byLaw_loop {m : Nat} {rk : Int32 → Int32 → nT → Int32} {V0 : vT} (hT : TW E) (hL : LT E m rk V0) :
    ∀ r q (V : vT), q + r = m → Fr [232] V0 V → (∀ V', Fr [232] V0 V' → k (match lawGo rk (V0 228) (V0 229) (V0 230) (V0 231) x1 (V0 233) r q with | none => x2 | some v => clampA v x2 x3) V') → w6_byLaw E k 3 [some (vr 214), some (vi x1), some (vi x2), some (vi x3), some (vi (nI q)), none] [] V := by
  obtain ⟨hm, h16, hR⟩ := hL
  intro r
  induction r with
  | zero =>
    intro q V hq hF h
    have : q = m := by omega
    subst this
    refine b6_byLaw_3 hT ⟨fun _ => h V hF, fun h1 => absurd h1 ?_⟩
    rw [hF 214 (by decide), hm]
    exact nI_nlt (Nat.le_refl _) (by omega)
  | succ r ih =>
    intro q V hq hF h
    simp only [lawGo] at h
    refine b6_byLaw_3 hT ⟨fun h1 => absurd h1 ?_, fun _ => ?_⟩
    · rw [hF 214 (by decide), hm]
      exact nI_ge (by omega) (by omega)
    · rw [hF 228 (by decide), hF 230 (by decide), hF 231 (by decide)]
      simp (disch := omega) only [nI_clamp, nI_1]
      refine ⟨vp_n (by omega) (by decide), fun h1 => ?_, fun h1 => ⟨vp_n (by omega) (by decide), vp_n (by omega) (by decide), (hR V (hF 227 (by decide)) q (by omega)).1 _ fun V1 hF1 => ⟨fun h2 => ⟨vp_n (by omega) (by decide), vp_n (by omega) (by decide), ?_⟩, fun h2 => ?_⟩⟩⟩
      · rw [if_neg (fun z => h1 z.1)] at h
        exact ih (q + 1) V (by omega) hF h
      · rw [hF 233 (by decide)] at h2
        rw [if_pos ⟨h1, h2⟩] at h
        have hF2 := hF.tr hF1
        rw [hF2 229 (by decide), hF2 230 (by decide)]
        refine (hR V1 (hF2 227 (by decide)) q (by omega)).2 _ fun V2 hF3 => ?_
        have h := h V2 (hF2.tr hF3)
        rw [hF2 233 (by decide)]
        simp only [clampA] at h
        refine ⟨fun h4 => ⟨fun h5 => ?_, fun h5 => ?_⟩, fun h4 => ?_⟩
        · rwa [if_neg (Int32.not_lt.mpr h4), if_neg (Int32.not_lt.mpr h5)] at h
        · rwa [if_neg (Int32.not_lt.mpr h4), if_pos h5] at h
        · rwa [if_pos h4] at h
      · rw [hF 233 (by decide)] at h2
        rw [if_neg (fun z => h2 z.2)] at h
        exact ih (q + 1) V1 (by omega) (hF.tr hF1) h
theorem s6_byLaw {m : Nat} {rk : Int32 → Int32 → nT → Int32} (hT : TW E) (hL : LT E m rk V) (h : ∀ V', Fr [232] V V' → k (byA (lawV m rk V) x1 x2 x3 (V 233)) V') : c6_byLaw E x1 x2 x3 V k :=
  n6_byLaw (b6_byLaw_0 hT (byLaw_loop hT hL m 0 V (by omega) Fr.rf h))
def oB : Option Int32 → Int32
  | none => 0
  | some _ => 1
theorem oB_any {L : lawT} {c : Int32} {F : nT} : (if anyA L c F = true then (1 : Int32) else 0) = oB (L c F) := by
  unfold anyA; cases L c F <;> rfl
theorem holdsAny_loop {m : Nat} {rk : Int32 → Int32 → nT → Int32} {V0 : vT} (hT : TW E) (hL : LT E m rk V0) :
    ∀ r q (V : vT), q + r = m → Fr [232] V0 V → (∀ V', Fr [232] V0 V' → k (oB (lawGo rk (V0 228) (V0 229) (V0 230) (V0 231) x1 (V0 233) r q)) V') → w6_holdsAny E k 2 [some (vr 214), some (vi x1), some (vi (nI q))] [] V := by
  obtain ⟨hm, h16, hR⟩ := hL
  intro r
  induction r with
  | zero =>
    intro q V hq hF h
    have : q = m := by omega
    subst this
    refine b6_holdsAny_2 hT ⟨fun _ => h V hF, fun h1 => absurd h1 ?_⟩
    rw [hF 214 (by decide), hm]
    exact nI_nlt (Nat.le_refl _) (by omega)
  | succ r ih =>
    intro q V hq hF h
    simp only [lawGo] at h
    refine b6_holdsAny_2 hT ⟨fun h1 => absurd h1 ?_, fun _ => ?_⟩
    · rw [hF 214 (by decide), hm]
      exact nI_ge (by omega) (by omega)
    · rw [hF 228 (by decide), hF 230 (by decide), hF 231 (by decide)]
      simp (disch := omega) only [nI_clamp, nI_1]
      refine ⟨vp_n (by omega) (by decide), fun h1 => ?_, fun h1 => ⟨vp_n (by omega) (by decide), vp_n (by omega) (by decide), (hR V (hF 227 (by decide)) q (by omega)).1 _ fun V1 hF1 => ⟨fun h2 => ?_, fun h2 => ?_⟩⟩⟩
      · rw [if_neg (fun z => h1 z.1)] at h
        exact ih (q + 1) V (by omega) hF h
      · rw [hF 233 (by decide)] at h2
        rw [if_neg (fun z => h2 z.2)] at h
        exact ih (q + 1) V1 (by omega) (hF.tr hF1) h
      · rw [hF 233 (by decide)] at h2
        rw [if_pos ⟨h1, h2⟩] at h
        exact h V1 (hF.tr hF1)
theorem s6_holdsAny {m : Nat} {rk : Int32 → Int32 → nT → Int32} (hT : TW E) (hL : LT E m rk V) (h : ∀ V', Fr [232] V V' → k (if anyA (lawV m rk V) x1 (V 233) = true then 1 else 0) V') : c6_holdsAny E x1 V k :=
  n6_holdsAny (b6_holdsAny_0 hT (holdsAny_loop hT hL m 0 V (by omega) Fr.rf (fun V' hV' => by have h := h V' hV'; rw [oB_any] at h; exact h)))
end T6c
