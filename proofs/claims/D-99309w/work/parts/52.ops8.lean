/-! BOTH OBJECTS, call by call: what is carried -/
def updN (f : Nat → Nat) (p x : Nat) : Nat → Nat := fun j => if j = p then x else f j
def insR (T : nT) (i : Nat) : Nat → (Nat → Nat) → (Nat → Nat)
  | 0, f => updN f 0 i
  | p + 1, f => if oq T (3 * i + 2) < oq T (3 * f p + 2) then insR T i p (updN f (p + 1) (f p)) else updN f (p + 1) i
def rowR (T : nT) : Nat → (Nat → Nat)
  | 0 => fun _ => 0
  | i + 1 => insR T i i (rowR T i)
def sN (f : Nat → Nat) : Nat → Nat
  | 0 => 0
  | n + 1 => sN f n + f n
theorem sN_c {f g : Nat → Nat} : ∀ n, (∀ i, i < n → f i = g i) → sN f n = sN g n
  | 0, _ => rfl
  | n + 1, h => by simp only [sN]; rw [sN_c n (fun i hi => h i (by omega)), h n (by omega)]
theorem sN_up {f g : Nat → Nat} {p a b : Nat} : ∀ n, p < n → f p = a → g p = b → (∀ j, j < n → j ≠ p → f j = g j) → sN f n + b = sN g n + a
  | 0, h, _, _, _ => by omega
  | n + 1, h, ha, hb, hj => by
    simp only [sN]
    by_cases e : p = n
    · subst e
      rw [sN_c p (fun i hi => hj i (by omega) (by omega)), ha, hb]; omega
    · have := sN_up n (by omega) ha hb (fun j h1 h2 => hj j (by omega) h2)
      rw [hj n (by omega) (fun z => e z.symm)]; omega
theorem insR_le {T : nT} {i : Nat} : ∀ p (f : Nat → Nat), p ≤ i → (∀ j, j ≤ i → j ≠ p → f j ≤ i) → ∀ j, j ≤ i → insR T i p f j ≤ i
  | 0, f, _, h, j, hj => by
    simp only [insR, updN]
    split
    · exact Nat.le_refl _
    · rename_i e; exact h j hj e
  | p + 1, f, hp, h, j, hj => by
    simp only [insR]
    split
    · refine insR_le p _ (by omega) (fun j h1 h2 => ?_) j hj
      unfold updN
      split
      · exact h p (by omega) (by omega)
      · rename_i e; exact h j h1 e
    · unfold updN
      split
      · exact Nat.le_refl _
      · rename_i e; exact h j hj e
theorem insR_sum {T : nT} {i : Nat} {g : Nat → Nat} : ∀ p (f : Nat → Nat), p ≤ i → sN (fun j => g (insR T i p f j)) (i + 1) = sN (fun j => if j = p then 0 else g (f j)) (i + 1) + g i
  | 0, f, hp => by
    simp only [insR]
    exact sN_up (p := 0) (a := g i) (b := 0) (i + 1) (by omega) (by simp [updN]) (by simp) (fun j _ h => by simp [updN, h])
  | p + 1, f, hp => by
    simp only [insR]
    split
    · rw [insR_sum p _ (by omega)]
      have e1 := sN_up (f := fun j => if j = p then 0 else g (updN f (p + 1) (f p) j)) (g := fun j => g (updN f (p + 1) (f p) j)) (p := p) (a := 0) (b := g (f p)) (i + 1) (by omega) (by simp) (by simp [updN]) (fun j _ h => by simp [h])
      have e2 := sN_up (f := fun j => if j = p + 1 then 0 else g (f j)) (g := fun j => g (updN f (p + 1) (f p) j)) (p := p + 1) (a := 0) (b := g (f p)) (i + 1) (by omega) (by simp) (by simp [updN]) (fun j _ h => by simp [updN, h])
      omega
    · exact sN_up (p := p + 1) (a := g i) (b := 0) (i + 1) (by omega) (by simp [updN]) (by simp) (fun j _ h => by simp [updN, h])
theorem rowR_lt {T : nT} : ∀ n j, j < n → rowR T n j < n
  | 0, j, h => by omega
  | i + 1, j, h => by
    simp only [rowR]
    exact Nat.lt_succ_of_le (insR_le i _ (Nat.le_refl _) (fun j h1 h2 => Nat.le_of_lt (rowR_lt i j (by omega))) j (by omega))
theorem rowR_sum {T : nT} {g : Nat → Nat} : ∀ n, sN (fun j => g (rowR T n j)) n = sN g n
  | 0 => rfl
  | i + 1 => by
    simp only [rowR]
    rw [insR_sum i _ (Nat.le_refl _)]
    simp only [sN, if_true, Nat.add_zero]
    rw [sN_c (g := fun j => g (rowR T i j)) i (fun j hj => if_neg (by omega)), rowR_sum i]
/-- all out in time, place by place -/
def timF (T : nT) (s : Nat) (f : Nat → Nat) : Nat → Nat → Nat → Bool
  | 0, _, _ => true
  | r + 1, i, c => if s.testBit (f i) = true then (if c + oq T (3 * f i) ≤ oq T (3 * f i + 2) then timF T s f r (i + 1) (c + oq T (3 * f i)) else false) else timF T s f r (i + 1) c
def wo1 (T : nT) (s k : Nat) : Nat := if s.testBit k = true then oq T (3 * k + 1) else 0
theorem smN_s {T : nT} {s : Nat} : ∀ n, smN T s 3 1 n = sN (wo1 T s) n
  | 0 => rfl
  | n + 1 => by
    simp only [smN, sN, wo1]
    rw [smN_s n]
    split
    · rfl
    · rfl
def crF (T : nT) (n : Nat) : Nat → Nat → Nat → Nat
  | 0, _, a => a
  | r + 1, s, a => crF T n r (s + 1) (if timF T s (rowR T n) n 0 0 = true then max a (smN T s 3 1 n) else a)
def caA (T : nT) (n : Nat) : Nat → Nat → Int32
  | 0, _ => nI (crF T n (2 ^ n) 0 0)
  | r + 1, i => if 1 ≤ oc T (3 * i) ∧ oc T (3 * i) ≤ 60 then caA T n r (i + 1) else -2
section OPS8
variable {E : eT} {V V1 V2 : vT} {tl : Nat} {k : Int32 → vT → Prop} {kv : vT → Prop} {x1 x2 x3 x4 x5 : Int32} {m : Nat} {rk : Int32 → Int32 → nT → Int32} {L : lawT}
theorem mx_n {a b : Nat} (ha : a < 2 ^ 31) (hb : b < 2 ^ 31) : mxI (nI a) (nI b) = nI (max a b) := by
  unfold mxI
  by_cases q : a < b
  · rw [if_pos ((nI_ltI ha hb).mpr q), Nat.max_eq_right (by omega)]
  · rw [if_neg (fun z => q ((nI_ltI ha hb).mp z)), Nat.max_eq_left (by omega)]
theorem s6_max {a b : Nat} (hT : TW E) (ha : a < 2 ^ 31) (hb : b < 2 ^ 31) (h : k (nI (max a b)) V) : c6_max E (nI a) (nI b) V k := by
  refine n6_max (b6_max_0 hT ?_)
  rw [nI_leI ha hb, nI_ltI hb ha]
  exact ⟨fun q => by rwa [Nat.max_eq_right q] at h, fun q => by rwa [Nat.max_eq_left (by omega)] at h⟩
theorem csorts_in {i n : Nat} {V0 : vT} {T : nT} (hC : CM E tl) (hi : i < n) (hn : n ≤ 10)
    (hk : ∀ f V', (∀ j, j ≤ i → V' 213 j = nI (f j) ∧ f j ≤ i) → f = insR T i i (rowR T i) → Fr [213] V0 V' → w0_sorts E kv 2 [some (vr 16), some (vi (nI n)), some (vi (nI (i + 1))), none] [] V') (hT : V0 106 = T) :
    ∀ p f (V : vT), p ≤ i → insR T i p f = insR T i i (rowR T i) → (∀ j, j ≤ i → j ≠ p → V 213 j = nI (f j) ∧ f j ≤ i) → Fr [213] V0 V → w0_sorts E kv 9 [some (vr 16), some (vi (nI n)), some (vi (nI i)), some (vi (nI p))] [] V := by
  intro p
  induction p with
  | zero =>
    intro f V hp hf h1 h3
    refine b0_sorts_9 hC ⟨fun _ => ⟨vp_n (k := 0) (by decide) (by decide), ?_⟩, fun q => absurd q (by decide)⟩
    rw [nI_1]
    refine hk (updN f 0 i) _ (fun j hj => ?_) hf (h3.up (by decide))
    rw [nI_clamp (by omega), up2_r]
    unfold upd updN
    split
    · exact ⟨rfl, Nat.le_refl _⟩
    · rename_i e; exact h1 j hj e
  | succ p ih =>
    intro f V hp hf h1 h3
    have ep : nI (p + 1) - 1 = nI p := (pk_sub (a := p + 1) (b := 1) (by omega)).trans (by rw [show p + 1 - 1 = p by omega])
    have ep' : nI (p + 1) + (-1) = nI p := pk_m1 p
    refine b0_sorts_9 hC ?_
    rw [ep, ep']
    simp (disch := omega) only [nI_clamp]
    have hv := vp_n (k := p) (N := 10) (by omega) (by decide)
    have hv1 := vp_n (k := p + 1) (N := 10) (by omega) (by decide)
    have ⟨e1, l1⟩ := h1 p (by omega) (by omega)
    rw [e1]
    simp only [nl_mul, nr_add]
    simp only [insR] at hf
    have fin : updN f (p + 1) i = insR T i i (rowR T i) → w0_sorts E kv 2 [some (vr 16), some (vi (nI n)), some (vi (nI (i + 1))), none] [] (up2 V 213 (p + 1) (nI i)) := fun hf2 => by
      refine hk (updN f (p + 1) i) _ (fun j hj => ?_) hf2 (h3.up (by decide))
      rw [up2_r]
      unfold upd updN
      split
      · exact ⟨rfl, Nat.le_refl _⟩
      · rename_i e; exact h1 j hj e
    refine ⟨fun q => absurd q ?_, fun _ => ⟨hv, s0_fed hC (by omega) (s0_fed hC (by omega) ?_)⟩⟩
    · simp (disch := omega) only [nle_l]; omega
    · have := oq_lt (T := T) (i := 3 * i + 2)
      have := oq_lt (T := T) (i := 3 * f p + 2)
      rw [h3 106 (by decide), hT, oc_q, oc_q, nI_leI (by omega) (by omega), nI_ltI (by omega) (by omega)]
      refine ⟨fun q => ⟨hv1, fin ?_⟩, fun q => ⟨hv, hv1, ih (updN f (p + 1) (f p)) _ (by omega) ?_ (fun j hj hjp => ?_) (h3.up (by decide))⟩⟩
      · rwa [if_neg (by omega)] at hf
      · rwa [if_pos q] at hf
      · rw [up2_r]
        unfold upd updN
        split
        · exact ⟨e1, l1⟩
        · rename_i e; exact h1 j hj e
theorem s0_sorts {n : Nat} {V0 : vT} (hC : CM E tl) (hn : n ≤ 10) (hk : ∀ V', (∀ j, j < n → V' 213 j = nI (rowR (V0 106) n j)) → Fr [213] V0 V' → kv V') : c0_sorts E (nI n) V0 kv := by
  refine n0_sorts (b0_sorts_0 hC ?_)
  have key : ∀ r i (V : vT), i + r = n → (∀ j, j < i → V 213 j = nI (rowR (V0 106) i j)) → Fr [213] V0 V → w0_sorts E kv 2 [some (vr 16), some (vi (nI n)), some (vi (nI i)), none] [] V := by
    intro r
    induction r with
    | zero =>
      intro i V hi h1 h3
      have : i = n := by omega
      subst this
      exact b0_sorts_2 hC ⟨fun _ => hk V h1 h3, fun q => absurd q (nI_nlt (Nat.le_refl _) (by omega))⟩
    | succ r ih =>
      intro i V hi h1 h3
      refine b0_sorts_2 hC ⟨fun q => absurd q (nI_ge (by omega) (by omega)), fun _ => ?_⟩
      refine csorts_in (T := V0 106) hC (by omega) hn (fun f V' g1 g2 g3 => ih (i + 1) V' (by omega) (fun j hj => ?_) (h3.tr g3)) (h3 106 (by decide)) i (rowR (V0 106) i) V (Nat.le_refl _) rfl (fun j hj hji => ⟨h1 j (by omega), Nat.le_of_lt (rowR_lt i j (by omega))⟩) Fr.rf
      rw [(g1 j (by omega)).1, g2]; rfl
  exact key n 0 V0 (by omega) (fun j hj => by omega) Fr.rf
theorem tsorts_in {i n : Nat} {V0 : vT} {T : nT} (hC : TW E) (hi : i < n) (hn : n ≤ 10)
    (hk : ∀ f V', (∀ j, j ≤ i → V' 244 j = nI (f j) ∧ f j ≤ i) → f = insR T i i (rowR T i) → Fr [244] V0 V' → w6_laysRow E kv 2 [some (vr 214), some (vi (nI n)), some (vi (nI (i + 1))), none] [] V') (hT : V0 220 = T) :
    ∀ p f (V : vT), p ≤ i → insR T i p f = insR T i i (rowR T i) → (∀ j, j ≤ i → j ≠ p → V 244 j = nI (f j) ∧ f j ≤ i) → Fr [244] V0 V → w6_laysRow E kv 9 [some (vr 214), some (vi (nI n)), some (vi (nI i)), some (vi (nI p))] [] V := by
  intro p
  induction p with
  | zero =>
    intro f V hp hf h1 h3
    refine b6_laysRow_9 hC ⟨fun _ => ⟨vp_n (k := 0) (by decide) (by decide), ?_⟩, fun q => absurd q (by decide)⟩
    rw [nI_1]
    refine hk (updN f 0 i) _ (fun j hj => ?_) hf (h3.up (by decide))
    rw [nI_clamp (by omega), up2_r]
    unfold upd updN
    split
    · exact ⟨rfl, Nat.le_refl _⟩
    · rename_i e; exact h1 j hj e
  | succ p ih =>
    intro f V hp hf h1 h3
    have ep : nI (p + 1) - 1 = nI p := (pk_sub (a := p + 1) (b := 1) (by omega)).trans (by rw [show p + 1 - 1 = p by omega])
    refine b6_laysRow_9 hC ?_
    rw [ep]
    simp (disch := omega) only [nI_clamp]
    have hv := vp_n (k := p) (N := 10) (by omega) (by decide)
    have hv1 := vp_n (k := p + 1) (N := 10) (by omega) (by decide)
    have ⟨e1, l1⟩ := h1 p (by omega) (by omega)
    rw [e1]
    simp only [nl_mul, nr_add]
    simp only [insR] at hf
    have fin : updN f (p + 1) i = insR T i i (rowR T i) → w6_laysRow E kv 2 [some (vr 214), some (vi (nI n)), some (vi (nI (i + 1))), none] [] (up2 V 244 (p + 1) (nI i)) := fun hf2 => by
      refine hk (updN f (p + 1) i) _ (fun j hj => ?_) hf2 (h3.up (by decide))
      rw [up2_r]
      unfold upd updN
      split
      · exact ⟨rfl, Nat.le_refl _⟩
      · rename_i e; exact h1 j hj e
    refine ⟨fun q => absurd q ?_, fun _ => ⟨hv, s6_octet hC (by omega) (s6_octet hC (by omega) ?_)⟩⟩
    · simp (disch := omega) only [nle_l]; omega
    · have := oq_lt (T := T) (i := 3 * i + 2)
      have := oq_lt (T := T) (i := 3 * f p + 2)
      rw [h3 220 (by decide), hT, oc_q, oc_q, nI_leI (by omega) (by omega), nI_ltI (by omega) (by omega)]
      refine ⟨fun q => ⟨hv1, fin ?_⟩, fun q => ⟨hv, hv1, ih (updN f (p + 1) (f p)) _ (by omega) ?_ (fun j hj hjp => ?_) (h3.up (by decide))⟩⟩
      · rwa [if_neg (by omega)] at hf
      · rwa [if_pos q] at hf
      · rw [up2_r]
        unfold upd updN
        split
        · exact ⟨e1, l1⟩
        · rename_i e; exact h1 j hj e
theorem s6_laysRow {n : Nat} {V0 : vT} (hC : TW E) (hn : n ≤ 10) (hk : ∀ V', (∀ j, j < n → V' 244 j = nI (rowR (V0 220) n j)) → Fr [244] V0 V' → kv V') : c6_laysRow E (nI n) V0 kv := by
  refine n6_laysRow (b6_laysRow_0 hC ?_)
  have key : ∀ r i (V : vT), i + r = n → (∀ j, j < i → V 244 j = nI (rowR (V0 220) i j)) → Fr [244] V0 V → w6_laysRow E kv 2 [some (vr 214), some (vi (nI n)), some (vi (nI i)), none] [] V := by
    intro r
    induction r with
    | zero =>
      intro i V hi h1 h3
      have : i = n := by omega
      subst this
      exact b6_laysRow_2 hC ⟨fun _ => hk V h1 h3, fun q => absurd q (nI_nlt (Nat.le_refl _) (by omega))⟩
    | succ r ih =>
      intro i V hi h1 h3
      refine b6_laysRow_2 hC ⟨fun q => absurd q (nI_ge (by omega) (by omega)), fun _ => ?_⟩
      refine tsorts_in (T := V0 220) hC (by omega) hn (fun f V' g1 g2 g3 => ih (i + 1) V' (by omega) (fun j hj => ?_) (h3.tr g3)) (h3 220 (by decide)) i (rowR (V0 220) i) V (Nat.le_refl _) rfl (fun j hj hji => ⟨h1 j (by omega), Nat.le_of_lt (rowR_lt i j (by omega))⟩) Fr.rf
      rw [(g1 j (by omega)).1, g2]; rfl
  exact key n 0 V0 (by omega) (fun j hj => by omega) Fr.rf
theorem s0_isInTime {n s : Nat} {f : Nat → Nat} (hC : CM E tl) (hn : n ≤ 10) (hs : s < 2 ^ 31) (hf : ∀ j, j < n → V 213 j = nI (f j) ∧ f j < 10) (h : k (if timF (V 106) s f n 0 0 = true then 1 else 0) V) : c0_isInTime E (nI s) (nI n) V k := by
  refine n0_isInTime (b0_isInTime_0 hC ?_)
  have key : ∀ r i c, i + r = n → c ≤ 255 * i → timF (V 106) s f r i c = timF (V 106) s f n 0 0 → w0_isInTime E k 5 [some (vr 16), some (vi (nI s)), some (vi (nI n)), some (vi (nI c)), some (vi (nI i))] [] V := by
    intro r
    induction r with
    | zero =>
      intro i c hi hc h1
      have : i = n := by omega
      subst this
      refine b0_isInTime_5 hC ⟨fun _ => ?_, fun q => absurd q (nI_nlt (Nat.le_refl _) (by omega))⟩
      rw [← h1] at h
      exact h
    | succ r ih =>
      intro i c hi hc h1
      refine b0_isInTime_5 hC ⟨fun q => absurd q (nI_ge (by omega) (by omega)), fun _ => ⟨vp_n (by omega) (by decide), ?_⟩⟩
      have ⟨e1, l1⟩ := hf i (by omega)
      simp only [timF] at h1
      rw [nI_clamp (by omega), e1]
      refine s0_has hC hs (by omega) ?_
      rw [b2_0, nI_1, e1, nl_mul]
      refine ⟨fun q => ⟨vp_n (by omega) (by decide), s0_fed hC (by omega) ⟨vp_n (by omega) (by decide), ?_⟩⟩, fun q => ?_⟩
      · rw [if_pos (Classical.not_not.mp q)] at h1
        rw [e1, nl_mul, nr_add]
        refine s0_fed hC (by omega) ?_
        have := oq_lt (T := V 106) (i := 3 * f i)
        have := oq_lt (T := V 106) (i := 3 * f i + 2)
        rw [oc_q, oc_q, nI_add, nI_leI (by omega) (by omega), nI_ltI (by omega) (by omega)]
        refine ⟨fun q2 => ih (i + 1) _ (by omega) (by omega) (by rw [if_pos q2] at h1; exact h1), fun q2 => ?_⟩
        rw [if_neg (by omega)] at h1
        rw [← h1] at h
        exact h
      · rw [if_neg q] at h1
        exact ih (i + 1) c (by omega) (by omega) h1
  exact key n 0 0 (by omega) (by omega) rfl
theorem s6_worthOf {n s : Nat} {f : Nat → Nat} (hT : TW E) (hn : n ≤ 10) (hs : s < 2 ^ 31) (hf : ∀ j, j < n → V 244 j = nI (f j) ∧ f j < 10) (h : k (if timF (V 220) s f n 0 0 = true then nI (sN (fun j => wo1 (V 220) s (f j)) n) else 0) V) : c6_worthOf E (nI s) (nI n) V k := by
  refine n6_worthOf (b6_worthOf_0 hT ?_)
  have key : ∀ r i c, i + r = n → c ≤ 255 * i → timF (V 220) s f r i c = timF (V 220) s f n 0 0 → w6_worthOf E k 8 [some (vr 214), some (vi (nI s)), some (vi (nI n)), some (vi (nI c)), some (vi (nI (sN (fun j => wo1 (V 220) s (f j)) i))), some (vi (nI i)), none] [] V := by
    intro r
    induction r with
    | zero =>
      intro i c hi hc h1
      have : i = n := by omega
      subst this
      refine b6_worthOf_8 hT ⟨fun _ => ?_, fun q => absurd q (nI_nlt (Nat.le_refl _) (by omega))⟩
      rw [← h1] at h
      exact h
    | succ r ih =>
      intro i c hi hc h1
      refine b6_worthOf_8 hT ⟨fun q => absurd q (nI_ge (by omega) (by omega)), fun _ => ⟨vp_n (by omega) (by decide), ?_⟩⟩
      have ⟨e1, l1⟩ := hf i (by omega)
      simp only [timF] at h1
      rw [nI_clamp (by omega), e1]
      refine s6_has hT hs (by omega) ?_
      rw [b2_0, nI_1, nl_mul]
      have ih := ih (i + 1)
      simp only [sN] at ih
      refine ⟨fun q => s6_octet hT (by omega) ?_, fun q => ?_⟩
      · have q := Classical.not_not.mp q
        rw [if_pos q] at h1
        rw [nr_add, nr_add]
        refine s6_octet hT (by omega) (s6_octet hT (by omega) ?_)
        have := oq_lt (T := V 220) (i := 3 * f i)
        have := oq_lt (T := V 220) (i := 3 * f i + 2)
        rw [oc_q, oc_q, oc_q, nI_add, nI_add, nI_leI (by omega) (by omega), nI_ltI (by omega) (by omega)]
        refine ⟨fun q2 => ?_, fun q2 => ?_⟩
        · have ih := ih (c + oq (V 220) (3 * f i)) (by omega) (by omega) (by rw [if_pos q2] at h1; exact h1)
          unfold wo1 at ih ⊢
          rwa [if_pos q] at ih
        · rw [if_neg (by omega)] at h1
          rw [← h1] at h
          exact h
      · rw [if_neg q] at h1
        have ih := ih c (by omega) (by omega) h1
        unfold wo1 at ih ⊢
        rwa [if_neg q, Nat.add_zero] at ih
  exact key n 0 0 (by omega) (by omega) rfl
theorem ccar_loop {n : Nat} {z : Int32} (hC : CM E tl) (hn : n ≤ 10) (hf : ∀ j, j < n → V 213 j = nI (rowR (V 106) n j)) (h : k z V) :
    ∀ r s a, s + r = 2 ^ n → a ≤ 2550 → nI (crF (V 106) n r s a) = z → w0_carried E k 68 [some (vr 16), some (vi (nI n)), some (vi (nI a)), some (vi (nI s))] [] V := by
  have h2 : 2 ^ n ≤ 1024 := Nat.pow_le_pow_right (n := 2) (j := 10) (by decide) hn
  intro r
  induction r with
  | zero =>
    intro s a hi ha h1
    have : s = 2 ^ n := by omega
    subst this
    refine b0_carried_68 hC ⟨fun _ => by simp only [crF] at h1; rw [h1]; exact h, fun q => absurd q ?_⟩
    rw [shl1 (by omega)]
    exact nI_nlt (Nat.le_refl _) (by omega)
  | succ r ih =>
    intro s a hi ha h1
    simp only [crF] at h1
    refine b0_carried_68 hC ⟨fun q => absurd q ?_, fun _ => s0_isInTime hC hn (by omega) (fun j hj => ⟨hf j hj, Nat.lt_of_lt_of_le (rowR_lt n j hj) hn⟩) ?_⟩
    · rw [shl1 (by omega)]; exact nI_ge (by omega) (by omega)
    · rw [nI_1]
      by_cases q : timF (V 106) s (rowR (V 106) n) n 0 0 = true
      · rw [if_pos q] at h1 ⊢
        refine ⟨fun z => absurd z (by decide), fun _ => s0_sumOf (w := 3) (f := 1) hC (by omega) hn (fun i hi => by omega) ?_⟩
        have := smN_le (T := V 106) (s := s) (w := 3) (f := 1) n
        rw [mx_n (by omega) (by omega)]
        exact ih (s + 1) _ (by omega) (by omega) h1
      · rw [if_neg q] at h1 ⊢
        exact ⟨fun _ => ih (s + 1) a (by omega) ha h1, fun z => absurd rfl z⟩
theorem tcar_loop {n : Nat} {z : Int32} (hT : TW E) (hn : n ≤ 10) (hf : ∀ j, j < n → V 244 j = nI (rowR (V 220) n j)) (h : k z V) :
    ∀ r s a, s + r = 2 ^ n → a ≤ 2550 → nI (crF (V 220) n r s a) = z → w6_carried E k 68 [some (vr 214), some (vi (nI n)), some (vi (nI a)), some (vi (nI s))] [] V := by
  have h2 : 2 ^ n ≤ 1024 := Nat.pow_le_pow_right (n := 2) (j := 10) (by decide) hn
  intro r
  induction r with
  | zero =>
    intro s a hi ha h1
    have : s = 2 ^ n := by omega
    subst this
    refine b6_carried_68 hT ⟨fun _ => by simp only [crF] at h1; rw [h1]; exact h, fun q => absurd q ?_⟩
    rw [shl1 (by omega)]
    exact nI_nlt (Nat.le_refl _) (by omega)
  | succ r ih =>
    intro s a hi ha h1
    simp only [crF] at h1
    refine b6_carried_68 hT ⟨fun q => absurd q ?_, fun _ => s6_worthOf hT hn (by omega) (fun j hj => ⟨hf j hj, Nat.lt_of_lt_of_le (rowR_lt n j hj) hn⟩) ?_⟩
    · rw [shl1 (by omega)]; exact nI_ge (by omega) (by omega)
    · have := smN_le (T := V 220) (s := s) (w := 3) (f := 1) n
      rw [rowR_sum, ← smN_s]
      by_cases q : timF (V 220) s (rowR (V 220) n) n 0 0 = true
      · rw [if_pos q] at h1 ⊢
        refine s6_max hT (by omega) (by omega) ?_
        rw [nI_1]
        exact ih (s + 1) _ (by omega) (by omega) h1
      · rw [if_neg q] at h1 ⊢
        refine s6_max (b := 0) hT (by omega) (by decide) ?_
        rw [nI_1, Nat.max_eq_left (by omega)]
        exact ih (s + 1) a (by omega) ha h1
theorem ccar0_loop {n : Nat} {V0 : vT} (hC : CM E tl) (hn : n ≤ 10) (hk : ∀ V', Fr [213] V0 V' → k (caA (V0 106) n n 0) V') :
    ∀ r i, i + r = n → caA (V0 106) n r i = caA (V0 106) n n 0 → w0_carried E k 29 [some (vr 16), some (vi (nI n)), some (vi (nI i)), none] [] V0 := by
  intro r
  induction r with
  | zero =>
    intro i hi h1
    have : i = n := by omega
    subst this
    refine b0_carried_29 hC ⟨fun _ => s0_sorts hC hn fun V1 hr h3 => ?_, fun q => absurd q (nI_nlt (Nat.le_refl _) (by omega))⟩
    have e := h3 106 (by decide)
    rw [← e] at hr h1 hk
    exact ccar_loop (n := i) (z := caA (V1 106) i i 0) hC hn hr (hk V1 h3) (2 ^ i) 0 0 (by omega) (by omega) h1
  | succ r ih =>
    intro i hi h1
    simp only [caA] at h1
    refine b0_carried_29 hC ⟨fun q => absurd q (nI_ge (by omega) (by omega)), fun _ => ?_⟩
    rw [nl_mul, nI_1]
    refine s0_fed hC (by omega) (s0_within hC ?_)
    rw [b2_0]
    refine ⟨fun q => ih (i + 1) (by omega) (by rw [if_pos (Classical.not_not.mp q)] at h1; exact h1), fun q => ?_⟩
    rw [if_neg q] at h1
    have := hk V0 Fr.rf
    rwa [← h1] at this
theorem tcar0_loop {n : Nat} {V0 : vT} (hT : TW E) (hn : n ≤ 10) (hk : ∀ V', Fr [244] V0 V' → k (caA (V0 220) n n 0) V') :
    ∀ r i, i + r = n → caA (V0 220) n r i = caA (V0 220) n n 0 → w6_carried E k 29 [some (vr 214), some (vi (nI n)), some (vi (nI i)), none] [] V0 := by
  intro r
  induction r with
  | zero =>
    intro i hi h1
    have : i = n := by omega
    subst this
    refine b6_carried_29 hT ⟨fun _ => s6_laysRow hT hn fun V1 hr h3 => ?_, fun q => absurd q (nI_nlt (Nat.le_refl _) (by omega))⟩
    have e := h3 220 (by decide)
    rw [← e] at hr h1 hk
    exact tcar_loop (n := i) (z := caA (V1 220) i i 0) hT hn hr (hk V1 h3) (2 ^ i) 0 0 (by omega) (by omega) h1
  | succ r ih =>
    intro i hi h1
    simp only [caA] at h1
    refine b6_carried_29 hT ⟨fun q => absurd q (nI_ge (by omega) (by omega)), fun _ => ?_⟩
    rw [nl_mul, nI_1]
    refine s6_octet hT (by omega) (s6_in hT ?_)
    rw [b2_0]
    refine ⟨fun q => ih (i + 1) (by omega) (by rw [if_pos (Classical.not_not.mp q)] at h1; exact h1), fun q => ?_⟩
    rw [if_neg q] at h1
    have := hk V0 Fr.rf
    rwa [← h1] at this
theorem o_carried (h : Rl E tl V) : c0_carried E x1 V (fun r V1 => c6_carried E x1 V1 (fun r' V2 => r' = r ∧ Rl E tl V2)) := by
  refine n0_carried (b0_carried_0 h.C (s0_within h.C ⟨fun q => n6_carried (b6_carried_0 h.T (s6_in h.T ⟨fun _ => ⟨rfl, h⟩, fun q2 => absurd q q2⟩)), fun q => ?_⟩))
  obtain ⟨n, n1, n2, rfl⟩ := rng (a := 1) (b := 10) (by decide) (by decide) q
  rw [h.tp]
  refine ⟨fun q3 => ?_, fun q3 => n6_carried (b6_carried_0 h.T (s6_in h.T ⟨fun q4 => absurd q4 q, fun _ => ⟨fun q4 => absurd q3 (Int32.not_lt.mpr q4), fun _ => ⟨rfl, h⟩⟩⟩))⟩
  refine ccar0_loop (n := n) h.C (by omega) (fun V1 h1 => ?_) n 0 (by omega) rfl
  have e214 : V1 214 = V 214 := (h1 214 (by decide)).trans (up2_n (by decide))
  refine n6_carried (b6_carried_0 h.T (s6_in h.T ⟨fun q4 => absurd q4 q, fun _ => ⟨fun _ => ?_, fun q4 => absurd q3 ?_⟩⟩))
  · refine tcar0_loop (n := n) h.T (by omega) (fun V2 h2 => ⟨?_, ?_⟩) n 0 (by omega) rfl
    · rw [up2_n (by decide), h1 220 (by decide), up2_n (by decide), up2_n (by decide), h.tap]
    · have hl := h.lay
      have c1 : ∀ o, o ≠ 213 → o ≠ 16 → V1 o = V o := fun o a b => (h1 o (by simpa using a)).trans (up2_n b)
      refine h.tap0 (V1 := V1) (S := [244]) (T := [6]) (fun o ho => c1 o (by unfold Kc at ho; omega) (by unfold Kc at ho; omega)) (fun o _ _ => c1 o (by omega) (by omega)) ⟨fun o ho h2' => (h2 o ho).trans (up2_n h2'), fun j hj => by rw [h2 214 (by decide), up2_r, upd_n (by simpa using hj)]⟩ (by simp) (by simp) (fv_c fun o _ _ => c1 o (by omega) (by omega)) (c1 17 (by decide) (by decide)) (c1 106 (by decide) (by decide)) (by rw [h1 16 (by decide), up2_s]) (by rw [h2 214 (by decide), up2_s]) (by rw [h1 16 (by decide), up2_r, upd_n (by decide)])
  · rw [e214] at q4; exact Int32.not_le.mpr q4
end OPS8
