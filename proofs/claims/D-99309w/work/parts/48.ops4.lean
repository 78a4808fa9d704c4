/-! BOTH OBJECTS, call by call: kept and undone, the check, counts -/
theorem fv_c {V V' : vT} {f : Nat} (h : ∀ o, f ≤ o → o < f + 29 → V' o = V o) : fv V' f = fv V f := fv_fr fun o a b _ _ => h o a b
theorem OkN.tak {Kd A : nT} (h : OkN A) : OkN (takA Kd A) ∧ OkW (takA Kd A) Kd := by
  have e : ∀ j, 192 ≤ j → takA Kd A j = A j := fun j hj => by unfold takA; rw [if_neg (by omega), if_neg (by omega)]
  have e0 : ∀ p, p < 96 → takA Kd A p = if Kd p = 1 then A p else 0 := fun p hp => by unfold takA; rw [if_pos hp]
  refine ⟨⟨fun p hp h1 => ?_, fun i hi => ?_, fun i hi => ?_, fun i hi => ?_, ?_⟩, fun p hp h1 => ?_⟩
  · rw [e0 p hp] at h1
    unfold takA
    rw [if_neg (by omega), if_pos (by omega), show 96 + p - 96 = p by omega, if_neg h1]
  · rw [e _ (by omega), e _ (by omega)]; exact h.bl i hi
  · rw [e _ (by omega)]; exact h.val i hi
  · rw [e _ (by omega)]; exact h.sum i hi
  · rw [e _ (by omega)]; exact h.clk
  · rw [e0 p hp, if_neg h1]
def unA (Kd N : nT) (n : Nat) : nT := fun j => if (j < n ∧ Kd j ≠ 1) ∨ (96 ≤ j ∧ j < 96 + n ∧ Kd (j - 96) ≠ 1) then 0 else N j
theorem unA_0 {Kd N : nT} : unA Kd N 0 = N := by funext j; unfold unA; rw [if_neg (by omega)]
theorem unA_f {Kd N : nT} {n : Nat} (h : Kd n = 1) : unA Kd N (n + 1) = unA Kd N n := by
  funext j
  unfold unA
  have e : ((j < n + 1 ∧ Kd j ≠ 1) ∨ (96 ≤ j ∧ j < 96 + (n + 1) ∧ Kd (j - 96) ≠ 1)) ↔ ((j < n ∧ Kd j ≠ 1) ∨ (96 ≤ j ∧ j < 96 + n ∧ Kd (j - 96) ≠ 1)) := by
    by_cases h1 : j = n
    · subst h1; simp [h]; omega
    · by_cases h2 : j = 96 + n
      · subst h2; rw [show 96 + n - 96 = n by omega]; simp [h]; omega
      · have a : j < n + 1 ↔ j < n := by omega
        have b : j < 96 + (n + 1) ↔ j < 96 + n := by omega
        rw [a, b]
  simp only [e]
theorem unA_t {Kd N : nT} {n : Nat} (hn : n < 96) (h : ¬ Kd n = 1) : upd (upd (unA Kd N n) n 0) (96 + n) 0 = unA Kd N (n + 1) := by
  funext j
  unfold unA upd
  by_cases h2 : j = 96 + n
  · subst h2
    rw [if_pos rfl, if_pos]
    right
    exact ⟨by omega, by omega, by rw [show 96 + n - 96 = n by omega]; exact h⟩
  · rw [if_neg h2]
    by_cases h1 : j = n
    · subst h1; rw [if_pos rfl, if_pos (Or.inl ⟨by omega, h⟩)]
    · rw [if_neg h1]
      have a : j < n + 1 ↔ j < n := by omega
      have b : (96 ≤ j ∧ j < 96 + (n + 1) ∧ Kd (j - 96) ≠ 1) ↔ (96 ≤ j ∧ j < 96 + n ∧ Kd (j - 96) ≠ 1) := by
        constructor <;> rintro ⟨x, y, z⟩ <;> exact ⟨x, by omega, z⟩
      simp only [a, b]
theorem unA_tak {Kd A : nT} (h : OkN A) : unA Kd A 96 = takA Kd A := by
  funext j
  unfold unA takA
  by_cases h1 : j < 96
  · rw [if_pos h1]
    by_cases hk : Kd j = 1
    · rw [if_pos hk, if_neg]
      rintro (q | q)
      · exact q.2 hk
      · omega
    · rw [if_neg hk, if_pos (Or.inl ⟨h1, hk⟩)]
  rw [if_neg h1]
  by_cases h2 : j < 192
  · rw [if_pos h2]
    by_cases hk : Kd (j - 96) = 1
    · rw [if_pos hk, if_neg]
      · split
        · rfl
        · rename_i h3
          have := h.left (j - 96) (by omega) h3
          rw [show 96 + (j - 96) = j by omega] at this
          exact this
      · rintro (q | q)
        · omega
        · exact q.2.2 hk
    · rw [if_neg hk, if_pos (Or.inr ⟨by omega, by omega, hk⟩), if_neg (by decide)]
  · rw [if_neg h2, if_neg]
    rintro (q | q) <;> omega
section OPS4
variable {E : eT} {V V1 V2 : vT} {tl : Nat} {k : Int32 → vT → Prop} {kv : vT → Prop} {x1 x2 x3 : Int32} {m : Nat} {rk : Int32 → Int32 → nT → Int32} {L : lawT}
theorem o_keep (h : Rl E tl V) : c0_keep E V (fun r V1 => c6_keep E V1 (fun r' V2 => r' = r ∧ Rl E tl V2)) := by
  have f0 : fv (up2 V 16 8 1) 19 = fv V 19 := fv_c fun o a _ => up2_n (by omega)
  refine n0_keep (b0_keep_0 h.C (s3_takes h.C h.F77 h.F19 (by decide) (by decide) (by decide) (by rw [f0]; exact h.bl) fun V1 e1 a1 => ?_))
  rw [f0, up2_n (by decide), h.row, h.kin, takA_id h.ok h.okw] at e1
  have c1 : ∀ o, (o < 77 ∨ 106 ≤ o) → o ≠ 18 → V1 o = up2 V 16 8 1 o := fun o q q2 => a1 o (by omega) q2
  have d1 : ∀ o, (o < 77 ∨ 106 ≤ o) → o ≠ 18 → o ≠ 16 → V1 o = V o := fun o q q2 q3 => (c1 o q q2).trans (up2_n q3)
  have f1 : fv V1 19 = V 215 := by rw [← h.row]; exact fv_fr fun o _ _ _ _ => d1 o (by omega) (by omega) (by omega)
  refine n6_keep (b6_keep_0 h.T (s6_copies h.T (tb_215 h.T) (tk_215 h.T) (tb_217 h.T) (tk_217 h.T) (by decide) fun V2 e2 a2 => ?_))
  rw [up2_n (by decide), up2_n (by decide), d1 215 (by decide) (by decide) (by decide), d1 217 (by decide) (by decide) (by decide), cpN_all h.h215 h.hi] at e2
  have c2 : ∀ o, o ≠ 217 → o ≠ 214 → V2 o = V1 o := fun o q q2 => (a2 o (by simp; exact q)).trans (up2_n q2)
  have d2 : ∀ o, (o < 77 ∨ 106 ≤ o) → o ≠ 18 → o ≠ 16 → o ≠ 214 → o ≠ 217 → V2 o = V o := fun o q q2 q3 q4 q5 => (c2 o q5 q4).trans (d1 o q q2 q3)
  have e214 : ∀ j, V2 214 j = upd (V 214) 45 1 j := fun j => by rw [a2 214 (by decide), up2_r, d1 214 (by decide) (by decide) (by decide)]
  have e16 : ∀ j, V2 16 j = upd (V 16) 8 1 j := fun j => by rw [c2 16 (by decide) (by decide), c1 16 (by decide) (by decide), up2_r]
  have ht := h.lay
  have g19 : fv V2 19 = fv V1 19 := fv_c fun o _ _ => c2 o (by omega) (by omega)
  have g77 : fv V2 77 = fv V1 77 := fv_c fun o _ _ => c2 o (by omega) (by omega)
  have e215 : V2 215 = V 215 := d2 215 (by decide) (by decide) (by decide) (by decide) (by decide)
  refine ⟨by rw [fv_m V1 19, f1, e215], ?_⟩
  obtain ⟨m, rk, l1, l2, l3⟩ := h.law
  have el : lawV m rk V2 = lawV m rk V := lawV_of (d2 228 (by decide) (by decide) (by decide) (by decide) (by decide)) (d2 229 (by decide) (by decide) (by decide) (by decide) (by decide)) (d2 230 (by decide) (by decide) (by decide) (by decide) (by decide)) (d2 231 (by decide) (by decide) (by decide) (by decide) (by decide))
  have e218 : V2 218 = V 218 := d2 218 (by decide) (by decide) (by decide) (by decide) (by decide)
  refine ⟨⟨h.C, h.T, h.lay, h.cb.fr (d2 1 (by decide) (by decide) (by decide) (by decide) (by decide)) (d2 2 (by decide) (by decide) (by decide) (by decide) (by decide))⟩,
    ⟨by rw [g19, f1, e215], by rw [e218, d2 17 (by decide) (by decide) (by decide) (by decide) (by decide)]; exact h.kin, by rw [e215]; exact h.ok, by rw [e215, e218]; exact h.okw, fun j hj => by rw [d2 233 (by decide) (by decide) (by decide) (by decide) (by decide)]; exact h.z9 j hj⟩,
    ⟨by rw [d2 106 (by decide) (by decide) (by decide) (by decide) (by decide), d2 220 (by decide) (by decide) (by decide) (by decide) (by decide)]; exact h.tap, by rw [e16, e214, upd_n (by decide), upd_n (by decide)]; exact h.tp, by rw [e214, upd_n (by decide)]; exact h.tpn⟩,
    ⟨by rw [e16, e214, upd_s, upd_s], by rw [e2]; exact h.h215, fun _ => ⟨by rw [g77, e1, e2], by rw [e2]; exact h.ok⟩⟩,
    m, rk, by rw [el]; exact l1.of (fun o ho => d2 o (by omega) (by omega) (by omega) (by omega) (by omega)), l2.of (by rw [e214, upd_n (by decide)]) (d2 227 (by decide) (by decide) (by decide) (by decide) (by decide)) (d2 229 (by decide) (by decide) (by decide) (by decide) (by decide)) (d2 230 (by decide) (by decide) (by decide) (by decide) (by decide)) (d2 231 (by decide) (by decide) (by decide) (by decide) (by decide)), by rw [d2 tl (by omega) (by omega) (by omega) (by omega) (by omega)]; exact l3⟩
theorem tundo_loop {V0 : vT} {N : nT} (hT : TW E) (h : ∀ V', V' 215 = unA (V0 218) N 96 → Fr [215] V0 V' → k 1 V') :
    ∀ r p (V : vT), p + r = 96 → V 215 = unA (V0 218) N p → Fr [215] V0 V → w6_undo E k 22 [some (vr 214), some (vi (nI p))] [] V := by
  intro r
  induction r with
  | zero =>
    intro p V hp h1 h3
    have : p = 96 := by omega
    subst this
    exact b6_undo_22 hT ⟨fun _ => h V h1 h3, fun q => absurd q (by decide)⟩
  | succ r ih =>
    intro p V hp h1 h3
    refine b6_undo_22 hT ⟨fun q => absurd q ?_, fun _ => s6_isWoodN hT (by omega) ⟨fun q => ?_, fun q => ?_⟩⟩
    · simp (disch := omega) only [lle_n]; omega
    · rw [b2_0] at q
      have q := Classical.not_not.mp q
      rw [h3 218 (by decide)] at q
      simp only [nI_1]
      exact ih (p + 1) V (by omega) (by rw [unA_f q]; exact h1) h3
    · rw [b2_0, h3 218 (by decide)] at q
      refine n6_becomesWhole (b6_becomesWhole_0 hT ?_)
      simp (disch := omega) only [nl_add, nI_clamp, Nat.zero_add, nI_1]
      refine ⟨vp_n (by omega) (by decide), vp_n (by omega) (by decide), ih (p + 1) _ (by omega) ?_ ((h3.up (by decide)).up (by decide))⟩
      rw [up2_r, up2_r, h1, unA_t (by omega) q]
theorem o_undo (h : Rl E tl V) : c0_undo E V (fun r V1 => c6_undo E V1 (fun r' V2 => r' = r ∧ Rl E tl V2)) := by
  refine n0_undo (b0_undo_0 h.C ?_)
  rw [h.kept]
  refine ⟨fun q => ?_, fun q => n6_undo (b6_undo_0 h.T ⟨fun q2 => absurd q q2, fun _ => ⟨rfl, h⟩⟩)⟩
  obtain ⟨k1, k2⟩ := h.krow q
  refine s3_takes h.C h.F19 h.F77 (by decide) (by decide) (by decide) (by rw [k1]; exact k2.bl) fun V1 e1 a1 => ?_
  rw [k1, h.kin] at e1
  have z1 := a1.fd.tz (by decide)
  refine n6_undo (b6_undo_0 h.T ⟨fun _ => s6_copies h.T (tb_217 h.T) (tk_217 h.T) (tb_215 h.T) (tk_215 h.T) (by decide) fun V2 e2 a2 => ?_, fun q2 => absurd (by rw [z1 214 (by decide) (by decide)] at q2; exact q2) q⟩)
  rw [z1 217 (by decide) (by decide), z1 215 (by decide) (by decide), cpN_all h.hi h.h215] at e2
  refine tundo_loop (V0 := V2) (N := V 217) h.T (fun V3 e3 a3 => ⟨rfl, ?_⟩) 96 0 V2 rfl (by rw [unA_0]; exact e2) Fr.rf
  have e218 : V2 218 = V 218 := (a2 218 (by decide)).trans (z1 218 (by decide) (by decide))
  rw [e218, unA_tak k2] at e3
  have a4 : Ft [215] [] V1 V3 := ⟨fun o ho _ => (a3 o ho).trans (a2 o ho), fun j _ => by rw [a3 214 (by decide), a2 214 (by decide)]⟩
  have e218' : V3 218 = V 218 := (a3 218 (by decide)).trans e218
  have ⟨o1, o2⟩ := k2.tak (Kd := V 218)
  refine h.go (a1.fd.kc (by decide) (by decide) h.lay) z1 a4 (by simp) (by simp) (by rw [e1, e3]) ?_ (by rw [e3]; exact o1) (by rw [e3, e218']; exact o2) ?_ ?_ ?_ ?_ ?_
  · rw [e218', a1 17 (by omega) (by omega)]; exact h.kin
  · intro j hj; rw [a4.1 233 (by decide) (by decide)]; exact h.z9.tz z1 j hj
  · rw [a1 106 (by omega) (by omega), a4.1 220 (by decide) (by decide), z1 220 (by decide) (by decide)]; exact h.tap
  · rw [a1 16 (by omega) (by omega), a4.2 6 (by simp), z1 214 (by decide) (by decide)]; exact h.tp
  · rw [a4.2 6 (by simp), z1 214 (by decide) (by decide)]; exact h.tpn
  · rw [a1 16 (by omega) (by omega)]
/-- the tape's octets -/
def oc (T : nT) (i : Nat) : Int32 := T i &&& 255
theorem s0_fed {i : Nat} (hC : CM E tl) (hi : i < 260) (h : k (oc (V 106) i) V) : c0_fed E (nI i) V k := by
  refine n0_fed (b0_fed_0 hC ⟨vp_n hi (by decide), ?_⟩)
  rwa [nI_clamp (by omega)]
theorem s6_octet {i : Nat} (hT : TW E) (hi : i < 260) (h : k (oc (V 220) i) V) : c6_octet E (nI i) V k := by
  refine n6_octet (b6_octet_0 hT ⟨vp_n hi (by decide), ?_⟩)
  rwa [nI_clamp (by omega)]
def exA (N : nT) (i : Nat) : Int32 := if N (192 + i) = 1 ∧ N (288 + i) = 0 then rmd (N (240 + i)) 256 else 0
theorem exA_0 {N : nT} {i : Nat} (h : ¬ (N (192 + i) = 1 ∧ N (288 + i) = 0)) : exA N i = 0 := if_neg h
theorem exA_1 {N : nT} {i : Nat} (h : N (192 + i) = 1 ∧ N (288 + i) = 0) : exA N i = rmd (N (240 + i)) 256 := if_pos h
def ckA (T N : nT) : Nat → Nat → Int32
  | 0, _ => -1
  | r + 1, i => if oc T i = exA N i then ckA T N r (i + 1) else nI i
theorem tcheck_loop {n : Nat} {z : Int32} (hT : TW E) (hn : n ≤ 24) (hz : z = ckA (V 220) (V 215) n 0) (h : k z V) :
    ∀ r i, i + r = n → ckA (V 220) (V 215) r i = z → w6_check E k 28 [some (vr 214), some (vi (nI n)), some (vi (nI i))] [] V := by
  intro r
  induction r with
  | zero =>
    intro i hi h1
    have : i = n := by omega
    subst this
    simp only [ckA] at h1
    exact b6_check_28 hT ⟨fun _ => by rw [h1]; exact h, fun q => absurd q (nI_nlt (Nat.le_refl _) (by omega))⟩
  | succ r ih =>
    intro i hi h1
    simp only [ckA] at h1
    refine b6_check_28 hT ⟨fun q => absurd q (nI_ge (by omega) (by omega)), fun _ => s6_octet hT (by omega) (s6_isThingN hT (by omega) ?_)⟩
    simp (disch := omega) only [nl_add, nI_clamp, nI_1, b2_0]
    refine ⟨fun q => ?_, fun q => ⟨vp_n (by omega) (by decide), fun q2 => ?_, fun q2 => ⟨vp_n (by omega) (by decide), ?_⟩⟩⟩
    · rw [exA_0 (fun w => q w.1)] at h1
      exact ⟨fun q3 => ih (i + 1) (by omega) (by rw [if_pos q3] at h1; exact h1), fun q3 => by rw [if_neg q3] at h1; rw [h1]; exact h⟩
    · rw [exA_0 (fun w => q2 w.2)] at h1
      exact ⟨fun q3 => ih (i + 1) (by omega) (by rw [if_pos q3] at h1; exact h1), fun q3 => by rw [if_neg q3] at h1; rw [h1]; exact h⟩
    · rw [exA_1 ⟨Classical.not_not.mp q, q2⟩] at h1
      exact ⟨fun q3 => ih (i + 1) (by omega) (by rw [if_pos q3] at h1; exact h1), fun q3 => by rw [if_neg q3] at h1; rw [h1]; exact h⟩
theorem s0_isThingV {i : Nat} (hC : CM E tl) (hF : FO E 19) (hb : Bl (fv V 19)) (hi : i < 24) (hk : k (b2 (fv V 19 (192 + i) = 1)) V) : c0_isThing E (nI i) V k := by
  refine n0_isThing (b0_isThing_0 hC (s0_in hC ⟨fun q => ?_, fun q => ?_⟩))
  · rw [b2_0] at q
    exact absurd ⟨nI_pos' (by omega), (nI_ltI (b := 24) (by omega) (by decide)).mpr hi⟩ q
  · simp (disch := omega) only [nI_clamp]
    have e3 : V (19 + 5 + i) 3 = fv V 19 (192 + i) := fv_t3 V 19 (by omega)
    rw [e3]
    refine ⟨vp_n (by omega) (by decide), fun q2 => ?_, fun q2 => ?_⟩
    · rwa [b2_f (fun z => by rw [q2] at z; exact absurd z (by decide))] at hk
    · rwa [b2_t (((hb i (by omega)).1).resolve_left q2)] at hk
theorem ccheck_loop {n : Nat} {z : Int32} (hC : CM E tl) (hF : FO E 19) (ho : OkN (fv V 19)) (hn : n ≤ 24) (hz : z = ckA (V 106) (fv V 19) n 0) (h : k z V) :
    ∀ r i, i + r = n → ckA (V 106) (fv V 19) r i = z → w0_check E k 28 [some (vr 16), some (vi (nI n)), some (vi (nI i))] [] V := by
  intro r
  induction r with
  | zero =>
    intro i hi h1
    have : i = n := by omega
    subst this
    simp only [ckA] at h1
    exact b0_check_28 hC ⟨fun _ => by rw [h1]; exact h, fun q => absurd q (nI_nlt (Nat.le_refl _) (by omega))⟩
  | succ r ih =>
    intro i hi h1
    simp only [ckA] at h1
    refine b0_check_28 hC ⟨fun q => absurd q (nI_ge (by omega) (by omega)), fun _ => s0_fed hC (by omega) (s0_isThingV hC hF ho.bl (by omega) ?_)⟩
    simp (disch := omega) only [nI_clamp, nI_1, b2_0]
    have e1 : V (19 + 5 + i) 1 = fv V 19 (240 + i) := fv_t1 V 19 (by omega)
    have e4 : V (19 + 5 + i) 4 = fv V 19 (288 + i) := fv_t4 V 19 (by omega)
    have e5 : fv V 19 (240 + i) &&& 255 = rmd (fv V 19 (240 + i)) 256 := by
      obtain ⟨a, ha, e⟩ := ho.val i (by omega)
      rw [e, pk_andN (n := a) (m := 255) (by omega) 8 (by decide)]
      exact (rmd_n (a := a) (b := 256) (by omega) (by decide) (by decide)).symm
    rw [e1, e4, e5]
    refine ⟨fun q => ?_, fun q => ⟨vp_n (by omega) (by decide), fun q2 => ?_, fun q2 => ⟨vp_n (by omega) (by decide), ?_⟩⟩⟩
    · rw [exA_0 (fun w => q w.1)] at h1
      exact ⟨fun q3 => ih (i + 1) (by omega) (by rw [if_pos q3] at h1; exact h1), fun q3 => by rw [if_neg q3] at h1; rw [h1]; exact h⟩
    · rw [exA_0 (fun w => q2 w.2)] at h1
      exact ⟨fun q3 => ih (i + 1) (by omega) (by rw [if_pos q3] at h1; exact h1), fun q3 => by rw [if_neg q3] at h1; rw [h1]; exact h⟩
    · rw [exA_1 ⟨Classical.not_not.mp q, q2⟩] at h1
      exact ⟨fun q3 => ih (i + 1) (by omega) (by rw [if_pos q3] at h1; exact h1), fun q3 => by rw [if_neg q3] at h1; rw [h1]; exact h⟩
/-- the tape used up by both: the frames -/
theorem Rl.tz0 (h : Rl E tl V) : Rl E tl (up2 (up2 V 16 7 0) 214 6 0) := by
  have ht := h.lay
  refine h.tap0 (V1 := up2 V 16 7 0) (S := []) (T := [6]) (fun o ho => up2_n (by unfold Kc at ho; omega)) (fun o _ _ => up2_n (by omega)) (Ft.rf.uf (by decide)) (by simp) (by simp) (fv_c fun o _ _ => up2_n (by omega)) (up2_n (by decide)) (up2_n (by decide)) (by rw [up2_s]) (by rw [up2_s]) (by rw [up2_r, upd_n (by decide)])
theorem o_check (h : Rl E tl V) : c0_check E x1 V (fun r V1 => c6_check E x1 V1 (fun r' V2 => r' = r ∧ Rl E tl V2)) := by
  refine n0_check (b0_check_0 h.C (s0_within h.C ⟨fun q => n6_check (b6_check_0 h.T (s6_in h.T ⟨fun _ => ⟨rfl, h⟩, fun q2 => absurd q q2⟩)), fun q => ?_⟩))
  obtain ⟨n, n1, n2, rfl⟩ := rng (a := 0) (b := 24) (by decide) (by decide) q
  rw [h.tp]
  refine ⟨fun q2 => ?_, fun q2 => n6_check (b6_check_0 h.T (s6_in h.T ⟨fun q3 => absurd q3 q, fun _ => ⟨fun q3 => absurd q2 (Int32.not_lt.mpr q3), fun _ => ⟨rfl, h⟩⟩⟩))⟩
  have f1 : fv (up2 V 16 7 0) 19 = V 215 := by rw [← h.row]; exact fv_c fun o _ _ => up2_n (by omega)
  refine ccheck_loop (n := n) h.C h.F19 (by rw [f1]; exact h.ok) (by omega) rfl ?_ n 0 (by omega) rfl
  refine n6_check (b6_check_0 h.T (s6_in h.T ⟨fun q3 => absurd q3 q, fun _ => ⟨fun _ => ?_, fun q3 => absurd q2 ?_⟩⟩))
  · refine tcheck_loop (n := n) h.T (by omega) rfl ⟨?_, h.tz0⟩ n 0 (by omega) rfl
    rw [f1, up2_n (by decide), up2_n (by decide), up2_n (by decide), up2_n (by decide), up2_n (by decide), h.tap]
  · rw [up2_n (by decide)] at q3; exact Int32.not_le.mpr q3
end OPS4
