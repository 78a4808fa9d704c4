/-! BOTH OBJECTS, call by call: when it comes, when it is over, what is asked -/
/-- minutes gone until C, at most r more -/
def wtA (L : lawT) (Kd : nT) (C : nT → Prop) [DecidablePred C] : Nat → Nat → nT → Int32
  | 0, k, N => if C N then nI k else -2
  | r + 1, k, N => if C N then nI k else if N 313 < 9999 then wtA L Kd C r (k + 1) (minuteA L Kd N) else -2
section OPS2
variable {E : eT} {V V1 V2 : vT} {tl : Nat} {k : Int32 → vT → Prop} {kv : vT → Prop} {x1 x2 x3 : Int32} {m : Nat} {rk : Int32 → Int32 → nT → Int32} {L : lawT}
theorem clk_eq {N : nT} (h : ∃ a, a ≤ 9999 ∧ N 313 = nI a) : N 313 = 9999 ↔ ¬ N 313 < 9999 := by
  obtain ⟨a, ha, e⟩ := h
  rw [e, neq_l (by omega) (by decide), nlt_l (by omega) (by decide)]
  omega
theorem ccomes_loop {n p : Nat} {V0 : vT} (hC : CM E tl) (hF : FO E 48) (hB : CB V0) (hL : LC E tl L V0) (ht : 48 + 29 ≤ tl ∧ 107 ≤ tl) (hn : n < 2 ^ 31) (hp : p < 96)
    (h : ∀ V' r, r = wtA L (V0 17) (fun N => ¬ N p = 0) n 0 (fv V0 48) → Fz 48 V0 V' → k r V') :
    ∀ r i (V : vT), i + r = n → wtA L (V0 17) (fun N => ¬ N p = 0) r i (fv V 48) = wtA L (V0 17) (fun N => ¬ N p = 0) n 0 (fv V0 48) → OkN (fv V 48) → OkW (fv V 48) (V0 17) → Fz 48 V0 V → w0_comes E k 40 [some (vr 16), none, none, some (vi (nI n)), some (vi (nI p)), some (vi (nI i))] [] V := by
  intro r
  induction r with
  | zero =>
    intro i V hi h1 hb hw h3
    have : i = n := by omega
    subst this
    refine b0_comes_40 hC ⟨fun q => absurd q (nI_nlt (Nat.le_refl _) hn), fun _ => ?_⟩
    rw [nI_clamp (by omega), fv_st V 48 hp]
    simp only [wtA] at h1
    refine ⟨vp_n hp (by decide), fun q => ⟨fun _ => h V _ (by rw [if_neg (fun z => z q)] at h1; exact h1) h3, fun q2 => absurd rfl q2⟩, fun q => h V _ (by rw [if_pos q] at h1; exact h1) h3⟩
  | succ r ih =>
    intro i V hi h1 hb hw h3
    refine b0_comes_40 hC ⟨fun q => absurd q (nI_nlt (by omega) hn), fun _ => ?_⟩
    rw [nI_clamp (by omega), fv_st V 48 hp, fv_m V 48, clk_eq hb.clk]
    simp only [wtA] at h1
    refine ⟨vp_n hp (by decide), fun q => ⟨fun q2 => absurd q2 ?_, fun _ => ⟨fun q3 => ?_, fun q3 => ?_⟩⟩, fun q => h V _ (by rw [if_pos q] at h1; exact h1) h3⟩
    · rw [nI_eq (by omega) hn]; omega
    · have q3 := Classical.not_not.mp q3
      rw [if_neg (fun z => z q), if_pos q3] at h1
      refine s3_minuteGoes hC hF (Fz.cb hB h3 (by decide)) hb.bl (hL.of (h3.lk ht (by decide))) (by decide) ht (by decide) fun V1 e1 a1 => ?_
      rw [h3 17 (by omega) (by omega)] at e1
      have ⟨o1, o2⟩ := hb.minute (L := L) hw q3
      rw [nI_1]
      exact ih (i + 1) V1 (by omega) (by rw [e1]; exact h1) (by rw [e1]; exact o1) (by rw [e1]; exact o2) (h3.tr a1)
    · rw [if_neg (fun z => z q), if_neg q3] at h1
      exact h V _ h1 h3
theorem tcomes_loop {n p : Nat} {V0 : vT} {N0 B : nT} (hT : TW E) (hL : LT E m rk V0) (hi0 : Hi0 N0) (h16 : V0 216 = cpN 315 N0 B) (hn : n < 2 ^ 31) (hp : p < 96)
    (h : ∀ V' r, r = wtA (lawV m rk V0) (V0 218) (fun N => ¬ N p = 0) n 0 (V0 215) → V' 215 = N0 → Z9 V' → Ft [215, 232, 233, 235] [34] V0 V' → k r V') :
    ∀ r i (V : vT), i + r = n → wtA (lawV m rk V0) (V0 218) (fun N => ¬ N p = 0) r i (V 215) = wtA (lawV m rk V0) (V0 218) (fun N => ¬ N p = 0) n 0 (V0 215) → Hi0 (V 215) → Z9 V → Ft [215, 232, 233, 235] [34] V0 V → w6_comes E k 42 [some (vr 214), none, none, some (vi (nI n)), some (vi (nI p)), some (vi (nI i)), none] [] V := by
  have back : ∀ (V : vT) r, r = wtA (lawV m rk V0) (V0 218) (fun N => ¬ N p = 0) n 0 (V0 215) → Hi0 (V 215) → Z9 V → Ft [215, 232, 233, 235] [34] V0 V → c6_copies E 216 215 V (fun V3 => k r V3) := by
    intro V r hr hi hz h3
    refine s6_copies hT (tb_216 hT) (tk_216 hT) (tb_215 hT) (tk_215 hT) (by decide) fun V3 e3 a3 => h V3 r hr ?_ (fun j hj => by rw [a3 233 (by decide)]; exact hz j hj) (h3.tr ⟨fun o ho _ => a3 o (fun e => ho (by simp at e; simp [e])), fun j _ => by rw [a3 214 (by decide)]⟩)
    rw [e3, h3.1 216 (by decide) (by decide), h16, cp_back hi0 hi]
  have hv : vp_in (nI p) 315 := vp_n (by omega) (by decide)
  intro r
  induction r with
  | zero =>
    intro i V hi h1 hh hz h3
    have : i = n := by omega
    subst this
    refine b6_comes_42 hT ?_
    simp (disch := omega) only [nl_add, nI_clamp, Nat.zero_add]
    simp only [wtA] at h1
    refine ⟨hv, fun q => ⟨hv, fun q2 => absurd q2 q, fun _ => back V _ (by rw [if_pos q] at h1; exact h1) hh hz h3⟩, fun q => ⟨fun _ => ⟨hv, fun _ => back V _ (by rw [if_neg (fun z => z q)] at h1; exact h1) hh hz h3, fun q2 => absurd q q2⟩, fun q2 => absurd q2 (nI_nlt (Nat.le_refl _) hn)⟩⟩
  | succ r ih =>
    intro i V hi h1 hh hz h3
    refine b6_comes_42 hT ?_
    simp (disch := omega) only [nl_add, nI_clamp, Nat.zero_add]
    simp only [wtA] at h1
    refine ⟨hv, fun q => ⟨hv, fun q2 => absurd q2 q, fun _ => back V _ (by rw [if_pos q] at h1; exact h1) hh hz h3⟩, fun q => ⟨fun q2 => absurd q2 (nI_ge (by omega) hn), fun _ => ⟨fun q2 => ⟨hv, fun _ => back V _ (by rw [if_neg (fun z => z q), if_neg (Int32.not_lt.mpr q2)] at h1; exact h1) hh hz h3, fun q3 => absurd q q3⟩, fun q2 => s6_minuteGoes hT (hL.ft h3 (by decide) (by decide)) hz fun V1 e1 _ z1 a1 => ?_⟩⟩⟩
    rw [lawV_of (h3.1 228 (by decide) (by decide)) (h3.1 229 (by decide) (by decide)) (h3.1 230 (by decide) (by decide)) (h3.1 231 (by decide) (by decide)), h3.1 218 (by decide) (by decide)] at e1
    rw [if_neg (fun z => z q), if_pos q2] at h1
    rw [nI_1]
    exact ih (i + 1) V1 (by omega) (by rw [e1]; exact h1) (by rw [e1]; exact hh.minute) z1 (h3.tr a1)
theorem cover_loop {n : Nat} {V0 : vT} (hC : CM E tl) (hF : FO E 48) (hB : CB V0) (hL : LC E tl L V0) (ht : 48 + 29 ≤ tl ∧ 107 ≤ tl) (hn : n < 2 ^ 31)
    (h : ∀ V' r, r = wtA L (V0 17) (fun N => faringA N 1 = 0) n 0 (fv V0 48) → Fz 48 V0 V' → k r V') :
    ∀ r i (V : vT), i + r = n → wtA L (V0 17) (fun N => faringA N 1 = 0) r i (fv V 48) = wtA L (V0 17) (fun N => faringA N 1 = 0) n 0 (fv V0 48) → OkN (fv V 48) → OkW (fv V 48) (V0 17) → Fz 48 V0 V → w0_over E k 26 [some (vr 16), some (vi (nI n)), some (vi (nI i))] [] V := by
  intro r
  induction r with
  | zero =>
    intro i V hi h1 hb hw h3
    have : i = n := by omega
    subst this
    refine b0_over_26 hC ⟨fun q => absurd q (nI_nlt (Nat.le_refl _) hn), fun _ => s3_those hC hF ?_⟩
    simp only [wtA] at h1
    refine ⟨fun q => ⟨fun _ => h V _ (by rw [if_neg q] at h1; exact h1) h3, fun q2 => absurd rfl q2⟩, fun q => h V _ (by rw [if_pos q] at h1; exact h1) h3⟩
  | succ r ih =>
    intro i V hi h1 hb hw h3
    refine b0_over_26 hC ⟨fun q => absurd q (nI_nlt (by omega) hn), fun _ => s3_those hC hF ?_⟩
    rw [fv_m V 48, clk_eq hb.clk]
    simp only [wtA] at h1
    refine ⟨fun q => ⟨fun q2 => absurd q2 ?_, fun _ => ⟨fun q3 => ?_, fun q3 => ?_⟩⟩, fun q => h V _ (by rw [if_pos q] at h1; exact h1) h3⟩
    · rw [nI_eq (by omega) hn]; omega
    · have q3 := Classical.not_not.mp q3
      rw [if_neg q, if_pos q3] at h1
      refine s3_minuteGoes hC hF (Fz.cb hB h3 (by decide)) hb.bl (hL.of (h3.lk ht (by decide))) (by decide) ht (by decide) fun V1 e1 a1 => ?_
      rw [h3 17 (by omega) (by omega)] at e1
      have ⟨o1, o2⟩ := hb.minute (L := L) hw q3
      rw [nI_1]
      exact ih (i + 1) V1 (by omega) (by rw [e1]; exact h1) (by rw [e1]; exact o1) (by rw [e1]; exact o2) (h3.tr a1)
    · rw [if_neg q, if_neg q3] at h1
      exact h V _ h1 h3
theorem faringA_pos {N : nT} {x : Int32} : ∃ c, c ≤ 96 ∧ faringA N x = nI c := by
  have : ∀ n, cN (fun p => N p = x) n ≤ n := by
    intro n
    induction n with
    | zero => exact Nat.le_refl _
    | succ n ih => simp only [cN]; split <;> omega
  exact ⟨_, this 96, rfl⟩
theorem faringA_0 {N : nT} {x : Int32} : faringA N x ≤ 0 ↔ faringA N x = 0 := by
  obtain ⟨c, hc, e⟩ := faringA_pos (N := N) (x := x)
  rw [e, nle_l (by omega) (by decide), neq_l (by omega) (by decide)]
  omega
theorem faringA_1 {N : nT} {x : Int32} : 0 < faringA N x ↔ ¬ faringA N x = 0 := by
  rw [← faringA_0, Int32.not_le]
theorem tover_loop {n : Nat} {V0 : vT} {N0 B : nT} (hT : TW E) (hL : LT E m rk V0) (hi0 : Hi0 N0) (h16 : V0 216 = cpN 315 N0 B) (hn : n < 2 ^ 31)
    (h : ∀ V' r, r = wtA (lawV m rk V0) (V0 218) (fun N => faringA N 1 = 0) n 0 (V0 215) → V' 215 = N0 → Z9 V' → Ft [215, 232, 233, 235] [34] V0 V' → k r V') :
    ∀ r i (V : vT), i + r = n → wtA (lawV m rk V0) (V0 218) (fun N => faringA N 1 = 0) r i (V 215) = wtA (lawV m rk V0) (V0 218) (fun N => faringA N 1 = 0) n 0 (V0 215) → Hi0 (V 215) → Z9 V → Ft [215, 232, 233, 235] [34] V0 V → w6_over E k 25 [some (vr 214), some (vi (nI n)), some (vi (nI i)), none] [] V := by
  have back : ∀ (V : vT) r, r = wtA (lawV m rk V0) (V0 218) (fun N => faringA N 1 = 0) n 0 (V0 215) → Hi0 (V 215) → Z9 V → Ft [215, 232, 233, 235] [34] V0 V → c6_copies E 216 215 V (fun V3 => k r V3) := by
    intro V r hr hi hz h3
    refine s6_copies hT (tb_216 hT) (tk_216 hT) (tb_215 hT) (tk_215 hT) (by decide) fun V3 e3 a3 => h V3 r hr ?_ (fun j hj => by rw [a3 233 (by decide)]; exact hz j hj) (h3.tr ⟨fun o ho _ => a3 o (fun e => ho (by simp at e; simp [e])), fun j _ => by rw [a3 214 (by decide)]⟩)
    rw [e3, h3.1 216 (by decide) (by decide), h16, cp_back hi0 hi]
  intro r
  induction r with
  | zero =>
    intro i V hi h1 hh hz h3
    have : i = n := by omega
    subst this
    simp only [wtA] at h1
    refine b6_over_25 hT (s6_faring hT ?_)
    rw [faringA_0, faringA_1]
    refine ⟨fun q => s6_faring hT ⟨fun q2 => absurd q q2, fun _ => back V _ (by rw [if_pos q] at h1; exact h1) hh hz h3⟩, fun q => ⟨fun _ => s6_faring hT ⟨fun _ => back V _ (by rw [if_neg q] at h1; exact h1) hh hz h3, fun q2 => absurd q2 q⟩, fun q2 => absurd q2 (nI_nlt (Nat.le_refl _) hn)⟩⟩
  | succ r ih =>
    intro i V hi h1 hh hz h3
    simp only [wtA] at h1
    refine b6_over_25 hT (s6_faring hT ?_)
    rw [faringA_0, faringA_1]
    refine ⟨fun q => s6_faring hT ⟨fun q2 => absurd q q2, fun _ => back V _ (by rw [if_pos q] at h1; exact h1) hh hz h3⟩, fun q => ⟨fun q2 => absurd q2 (nI_ge (by omega) hn), fun _ => ⟨fun q2 => s6_faring hT ⟨fun _ => back V _ (by rw [if_neg q, if_neg (Int32.not_lt.mpr q2)] at h1; exact h1) hh hz h3, fun q3 => absurd q3 q⟩, fun q2 => s6_minuteGoes hT (hL.ft h3 (by decide) (by decide)) hz fun V1 e1 _ z1 a1 => ?_⟩⟩⟩
    rw [lawV_of (h3.1 228 (by decide) (by decide)) (h3.1 229 (by decide) (by decide)) (h3.1 230 (by decide) (by decide)) (h3.1 231 (by decide) (by decide)), h3.1 218 (by decide) (by decide)] at e1
    rw [if_neg q, if_pos q2] at h1
    rw [nI_1]
    exact ih (i + 1) V1 (by omega) (by rw [e1]; exact h1) (by rw [e1]; exact hh.minute) z1 (h3.tr a1)
theorem o_over (h : Rl E tl V) : c0_over E x1 V (fun r V1 => c6_over E x1 V1 (fun r' V2 => r' = r ∧ Rl E tl V2)) := by
  obtain ⟨m, rk, l1, l2, l3⟩ := h.law
  refine n0_over (b0_over_0 h.C (s0_within h.C ⟨fun q => ?_, fun q => ?_⟩))
  · obtain ⟨n, n1, n2, rfl⟩ := rng (a := 1) (b := 100) (by decide) (by decide) q
    refine h.then fun V1 e1 a1 => cover_loop (n := n) h.C h.F48 (h.cb.fc a1 (by decide)) (l1.of (a1.fd.lk (h.lk (by decide)) (by decide))) (h.lk (by decide)) (by omega) (fun V2 r hr a2 => ?_) n 0 V1 (by omega) rfl (by rw [e1]; exact h.ok) (by rw [e1, a1 17 (by omega) (by omega), h.kin]; exact h.okw) Fz.rf
    have a3 := a1.fd.tr a2
    have z3 := a3.tz (by decide)
    have e215 := z3 215 (by decide) (by decide)
    rw [e1, a1 17 (by omega) (by omega), h.kin] at hr
    refine n6_over (b6_over_0 h.T (s6_in h.T ⟨fun _ => s6_copies h.T (tb_215 h.T) (tk_215 h.T) (tb_216 h.T) (tk_216 h.T) (by decide) fun V3 e3 a4 => ?_, fun q2 => absurd q2 q⟩))
    have f4 : Ft [215, 216, 232, 233, 235] [34] V2 V3 := ⟨fun o ho _ => a4 o (fun e => ho (by simp at e; simp [e])), fun j _ => by rw [a4 214 (by decide)]⟩
    have e3' : V3 216 = cpN 315 (V 215) (V 216) := by rw [e3, e215, z3 216 (by decide) (by decide)]
    have lt3 : LT E m rk V3 := (l2.tz z3).ft f4 (by decide) (by decide)
    have le3 : lawV m rk V3 = lawV m rk V := (lawV_of (a4 228 (by decide)) (a4 229 (by decide)) (a4 230 (by decide)) (a4 231 (by decide))).trans (lawV_tz z3)
    have e5 : V3 215 = V 215 := (a4 215 (by decide)).trans e215
    have e6 : V3 218 = V 218 := (a4 218 (by decide)).trans (z3 218 (by decide) (by decide))
    have z9 : Z9 V3 := fun j hj => by rw [a4 233 (by decide)]; exact (h.z9.tz z3) j hj
    refine tover_loop (n := n) (N0 := V 215) (B := V 216) h.T lt3 h.h215 ?_ (by omega) (fun V4 r' hr' e4 z4 a5 => ⟨?_, h.back a3 (f4.tr (a5.sub (fun o ho => by simp at ho ⊢; omega) (fun _ z => z))) e4 z4⟩) n 0 V3 (by omega) rfl (by rw [e5]; exact h.h215) z9 Ft.rf
    · exact e3'
    · rw [hr', le3, e6, e5, hr]
  · exact n6_over (b6_over_0 h.T (s6_in h.T ⟨fun q2 => absurd q q2, fun _ => ⟨rfl, h⟩⟩))
theorem spot_at {x1 x2 : Int32} : ((0 ≤ x1 ∧ x1 < 12) ∧ (0 ≤ x2 ∧ x2 < 8)) ↔ ((0 ≤ x1 ∧ x1 ≤ 11) ∧ (0 ≤ x2 ∧ x2 ≤ 7)) := by
  have e1 : x1 < 12 ↔ x1 ≤ 11 := by rw [Int32.lt_iff_toInt_lt, Int32.le_iff_toInt_le]; change _ < (12 : Int) ↔ _ ≤ (11 : Int); omega
  have e2 : x2 < 8 ↔ x2 ≤ 7 := by rw [Int32.lt_iff_toInt_lt, Int32.le_iff_toInt_le]; change _ < (8 : Int) ↔ _ ≤ (7 : Int); omega
  rw [e1, e2]
theorem spot_n {x1 x2 : Int32} (h : (0 ≤ x1 ∧ x1 ≤ 11) ∧ (0 ≤ x2 ∧ x2 ≤ 7)) : ∃ p, p < 96 ∧ 12 * x2 + x1 = nI p := by
  obtain ⟨a, ha, rfl⟩ := nat_of (b := 11) (by decide) h.1.1 h.1.2
  obtain ⟨b, hb, rfl⟩ := nat_of (b := 7) (by decide) h.2.1 h.2.2
  exact ⟨12 * b + a, by omega, by rw [nl_mul, nI_add]⟩
theorem nI_m1 {p : Nat} (hp : p < 96) : nI p ≠ -1 := fun e => nomatch (oI_m1 (o := some p) (fun q' hq' => by cases hq'; omega)).mp e
theorem o_comes (h : Rl E tl V) : c0_comes E x1 x2 x3 V (fun r V1 => c6_comes E x1 x2 x3 V1 (fun r' V2 => r' = r ∧ Rl E tl V2)) := by
  obtain ⟨m, rk, l1, l2, l3⟩ := h.law
  refine n0_comes (b0_comes_0 h.C (s0_placeAt h.C ?_))
  by_cases hs : (0 ≤ x1 ∧ x1 ≤ 11) ∧ (0 ≤ x2 ∧ x2 ≤ 7)
  case neg =>
    rw [if_neg (fun z => hs (spot_at.mp z))]
    exact ⟨fun _ => n6_comes (b6_comes_0 h.T (s6_isSpot h.T ⟨fun _ => ⟨rfl, h⟩, fun z => absurd (b2_f hs) z⟩)), fun z => absurd rfl z⟩
  rw [if_pos (spot_at.mpr hs)]
  obtain ⟨p, hp, ep⟩ := spot_n hs
  rw [ep]
  refine ⟨fun z => absurd z (nI_m1 hp), fun _ => s0_within h.C ⟨fun q => ?_, fun q => ?_⟩⟩
  · obtain ⟨n, n1, n2, rfl⟩ := rng (a := 1) (b := 100) (by decide) (by decide) q
    refine h.then fun V1 e1 a1 => ccomes_loop (n := n) (p := p) h.C h.F48 (h.cb.fc a1 (by decide)) (l1.of (a1.fd.lk (h.lk (by decide)) (by decide))) (h.lk (by decide)) (by omega) hp (fun V2 r hr a2 => ?_) n 0 V1 (by omega) rfl (by rw [e1]; exact h.ok) (by rw [e1, a1 17 (by omega) (by omega), h.kin]; exact h.okw) Fz.rf
    have a3 := a1.fd.tr a2
    have z3 := a3.tz (by decide)
    have e215 := z3 215 (by decide) (by decide)
    rw [e1, a1 17 (by omega) (by omega), h.kin] at hr
    refine n6_comes (b6_comes_0 h.T (s6_isSpot h.T ⟨fun z => absurd z (by rw [b2_t hs]; decide), fun _ => s6_in h.T ⟨fun _ => s6_copies h.T (tb_215 h.T) (tk_215 h.T) (tb_216 h.T) (tk_216 h.T) (by decide) fun V3 e3 a4 => ?_, fun q2 => absurd q2 q⟩⟩))
    have f4 : Ft [215, 216, 232, 233, 235] [34] V2 V3 := ⟨fun o ho _ => a4 o (fun e => ho (by simp at e; simp [e])), fun j _ => by rw [a4 214 (by decide)]⟩
    have e3' : V3 216 = cpN 315 (V 215) (V 216) := by rw [e3, e215, z3 216 (by decide) (by decide)]
    have lt3 : LT E m rk V3 := (l2.tz z3).ft f4 (by decide) (by decide)
    have le3 : lawV m rk V3 = lawV m rk V := (lawV_of (a4 228 (by decide)) (a4 229 (by decide)) (a4 230 (by decide)) (a4 231 (by decide))).trans (lawV_tz z3)
    have e5 : V3 215 = V 215 := (a4 215 (by decide)).trans e215
    have e6 : V3 218 = V 218 := (a4 218 (by decide)).trans (z3 218 (by decide) (by decide))
    have z9 : Z9 V3 := fun j hj => by rw [a4 233 (by decide)]; exact (h.z9.tz z3) j hj
    rw [ep]
    refine tcomes_loop (n := n) (p := p) (N0 := V 215) (B := V 216) h.T lt3 h.h215 e3' (by omega) hp (fun V4 r' hr' e4 z4 a5 => ⟨?_, h.back a3 (f4.tr (a5.sub (fun o ho => by simp at ho ⊢; omega) (fun _ z => z))) e4 z4⟩) n 0 V3 (by omega) rfl (by rw [e5]; exact h.h215) z9 Ft.rf
    rw [hr', le3, e6, e5, hr]
  · exact n6_comes (b6_comes_0 h.T (s6_isSpot h.T ⟨fun z => absurd z (by rw [b2_t hs]; decide), fun _ => s6_in h.T ⟨fun q2 => absurd q q2, fun _ => ⟨rfl, h⟩⟩⟩))
theorem o_placeIs (h : Rl E tl V) : c0_placeIs E x1 x2 x3 V (fun r V1 => c6_placeIs E x1 x2 x3 V1 (fun r' V2 => r' = r ∧ Rl E tl V2)) := by
  refine n0_placeIs (b0_placeIs_0 h.C (s0_placeAt h.C ?_))
  by_cases hs : (0 ≤ x1 ∧ x1 ≤ 11) ∧ (0 ≤ x2 ∧ x2 ≤ 7)
  case neg =>
    rw [if_neg (fun z => hs (spot_at.mp z))]
    exact ⟨fun z => absurd rfl z, fun _ => n6_placeIs (b6_placeIs_0 h.T (s6_isSpot h.T ⟨fun z => absurd (b2_f hs) z, fun _ => ⟨rfl, h⟩⟩))⟩
  rw [if_pos (spot_at.mpr hs)]
  obtain ⟨p, hp, ep⟩ := spot_n hs
  rw [ep]
  have hv := vp_n hp (N := 96) (by decide)
  have hv1 := vp_n (k := p) (N := 315) (by omega) (by decide)
  have hv2 := vp_n (k := 96 + p) (N := 315) (by omega) (by decide)
  have key : ∀ r, ((x3 = 0 → r = V 218 p) ∧ (x3 = 1 → r = V 215 p) ∧ (x3 = 2 → r = V 215 (96 + p)) ∧ (x3 = 3 → r = thingsA (V 215) p) ∧ (x3 = 4 → r = valuesA (V 215) p) ∧ (x3 = 5 → r = sumsA (V 215) p) ∧ (¬ x3 = 0 → ¬ x3 = 1 → ¬ x3 = 2 → ¬ x3 = 3 → ¬ x3 = 4 → ¬ x3 = 5 → r = -1)) → c6_placeIs E x1 x2 x3 V (fun r' V2 => r' = r ∧ Rl E tl V2) := by
    intro r ⟨r0, r1, r2, r3, r4, r5, r6⟩
    refine n6_placeIs (b6_placeIs_0 h.T (s6_isSpot h.T ⟨fun _ => ?_, fun z => absurd z (by rw [b2_t hs]; decide)⟩))
    rw [ep]
    simp (disch := omega) only [nl_add, nI_clamp, Nat.zero_add]
    exact ⟨fun q => ⟨hv, (r0 q).symm, h⟩, fun q => ⟨hv1, (r1 q).symm, h⟩, fun q => ⟨hv2, (r2 q).symm, h⟩, fun q => s6_thingsAt h.T ⟨(r3 q).symm, h⟩, fun q => s6_valuesAt h.T ⟨(r4 q).symm, h⟩, fun q => s6_sumsAt h.T ⟨(r5 q).symm, h⟩, fun a b c d e f => ⟨(r6 a b c d e f).symm, h⟩⟩
  refine ⟨fun _ => ?_, fun z => absurd z (nI_m1 hp)⟩
  simp (disch := omega) only [nI_clamp]
  have e20 : V 20 p = fv V 19 p := fv_st V 19 hp
  have e21 : V 21 p = fv V 19 (96 + p) := fv_le V 19 hp
  rw [e20, e21, h.row, h.kin]
  refine ⟨fun q => ⟨hv, key _ ?_⟩, fun q => ⟨hv, key _ ?_⟩, fun q => ⟨hv, key _ ?_⟩, fun q => s3_thingsAt h.C h.F19 h.bl (key _ ?_), fun q => s3_valueAt h.C h.F19 h.bl (key _ ?_), fun q => s3_sumsAt h.C h.F19 h.bl (key _ ?_), fun a b c d e f => key _ ?_⟩
  · subst q; exact ⟨fun _ => rfl, fun z => absurd z (by decide), fun z => absurd z (by decide), fun z => absurd z (by decide), fun z => absurd z (by decide), fun z => absurd z (by decide), fun z => absurd rfl z⟩
  · subst q; exact ⟨fun z => absurd z (by decide), fun _ => rfl, fun z => absurd z (by decide), fun z => absurd z (by decide), fun z => absurd z (by decide), fun z => absurd z (by decide), fun _ z => absurd rfl z⟩
  · subst q; exact ⟨fun z => absurd z (by decide), fun z => absurd z (by decide), fun _ => rfl, fun z => absurd z (by decide), fun z => absurd z (by decide), fun z => absurd z (by decide), fun _ _ z => absurd rfl z⟩
  · subst q; rw [h.row]; exact ⟨fun z => absurd z (by decide), fun z => absurd z (by decide), fun z => absurd z (by decide), fun _ => rfl, fun z => absurd z (by decide), fun z => absurd z (by decide), fun _ _ _ z => absurd rfl z⟩
  · subst q; rw [h.row]; exact ⟨fun z => absurd z (by decide), fun z => absurd z (by decide), fun z => absurd z (by decide), fun z => absurd z (by decide), fun _ => rfl, fun z => absurd z (by decide), fun _ _ _ _ z => absurd rfl z⟩
  · subst q; rw [h.row]; exact ⟨fun z => absurd z (by decide), fun z => absurd z (by decide), fun z => absurd z (by decide), fun z => absurd z (by decide), fun z => absurd z (by decide), fun _ => rfl, fun _ _ _ _ _ z => absurd rfl z⟩
  · exact ⟨fun z => absurd z a, fun z => absurd z b, fun z => absurd z c, fun z => absurd z d, fun z => absurd z e, fun z => absurd z f, fun _ _ _ _ _ _ => rfl⟩
end OPS2
