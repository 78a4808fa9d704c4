/-! BOTH OBJECTS, call by call: minutes, trials -/
theorem le_tr {x y z : Int32} (h : x ≤ y) (h1 : y ≤ z) : x ≤ z := by
  rw [Int32.le_iff_toInt_le] at *; omega
theorem rng {x : Int32} {a b : Nat} (hb : b < 2 ^ 31) (ha : a < 2 ^ 31) (h : ¬ b2 (nI a ≤ x ∧ x ≤ nI b) = 0) : ∃ n, a ≤ n ∧ n ≤ b ∧ x = nI n := by
  rw [b2_0] at h
  have h := Classical.not_not.mp h
  obtain ⟨j, hj, rfl⟩ := nat_of hb (le_tr (nI_pos' ha) h.1) h.2
  exact ⟨j, (nI_leI ha (by omega)).mp h.1, hj, rfl⟩
theorem in_le {x : Int32} {a b : Nat} (hb : a = b + 1) (h : a < 2 ^ 31) : b2 (0 ≤ x ∧ x < nI a) = b2 (0 ≤ x ∧ x ≤ nI b) := by
  refine b2_c (and_congr_right fun _ => ?_)
  rw [Int32.lt_iff_toInt_lt, Int32.le_iff_toInt_le, nI_toInt (by omega), nI_toInt (by omega)]
  omega
theorem cp_back {A B C : nT} (ha : Hi0 A) (hc : Hi0 C) : cpN 315 (cpN 315 A B) C = A := by
  funext j
  unfold cpN
  by_cases h : j < 315
  · rw [if_pos h, if_pos h]
  · rw [if_neg h, ha j (by omega), hc j (by omega)]
section OPS1
variable {E : eT} {V V1 V2 : vT} {tl : Nat} {k : Int32 → vT → Prop} {kv : vT → Prop} {x1 x2 x3 : Int32} {m : Nat} {rk : Int32 → Int32 → nT → Int32}
theorem Rl.lk (h : Rl E tl V) {f : Nat} (hf : f + 29 ≤ 77) : (f + 29 ≤ tl ∧ 107 ≤ tl) := by have := h.lay; omega
theorem Rl.h215 (h : Rl E tl V) : Hi0 (V 215) := by rw [← h.row]; exact fv_hi
theorem o_minutes (h : Rl E tl V) : c0_minutes E x1 V (fun r V1 => c6_minutes E x1 V1 (fun r' V2 => r' = r ∧ Rl E tl V2)) := by
  obtain ⟨m, rk, l1, l2, l3⟩ := h.law
  refine n0_minutes (b0_minutes_0 h.C (s0_within h.C ⟨fun q => ?_, fun q => ?_⟩))
  · exact n6_minutes (b6_minutes_0 h.T (s6_in h.T ⟨fun q2 => absurd q q2, fun _ => ⟨rfl, h⟩⟩))
  · obtain ⟨n, n1, n2, rfl⟩ := rng (a := 1) (b := 100) (by decide) (by decide) q
    refine s3_goes h.C h.F19 h.cb h.bl l1 (by decide) (h.lk (by decide)) (by decide) (by omega) fun V1 e1 a1 => s3_those h.C h.F19 ?_
    have z1 := a1.tz (by decide)
    rw [h.row, h.kin] at e1
    refine n6_minutes (b6_minutes_0 h.T (s6_in h.T ⟨fun _ => s6_minutesGo h.T (l2.tz z1) (h.z9.tz z1) (by omega) fun V2 e2 _ z2 a2 => s6_faring h.T ?_, fun q2 => absurd q2 q⟩))
    rw [lawV_tz z1, z1 218 (by decide) (by decide), z1 215 (by decide) (by decide), ← e1] at e2
    have ⟨o1, o2⟩ := h.ok.minutes (L := lawV m rk V) n h.okw
    rw [← e1, ← e2] at o1 o2
    have e18 : V2 218 = V 218 := (a2.1 218 (by decide) (by decide)).trans (z1 218 (by decide) (by decide))
    refine ⟨by rw [e2], h.go (a1.kc (by decide) (by decide) h.lay) z1 a2 (by simp) (by simp) e2.symm ?_ o1 (by rw [e18]; exact o2) z2 ?_ ?_ ?_ ?_⟩
    · rw [e18, a1 17 (by omega) (by omega)]; exact h.kin
    · rw [a1 106 (by omega) (by omega), a2.1 220 (by decide) (by decide), z1 220 (by decide) (by decide)]; exact h.tap
    · rw [a1 16 (by omega) (by omega), a2.2 6 (by simp), z1 214 (by decide) (by decide)]; exact h.tp
    · rw [a2.2 6 (by simp), z1 214 (by decide) (by decide)]; exact h.tpn
    · rw [a1 16 (by omega) (by omega)]
/-- what a trial tells -/
def triA (N0 N : nT) (x : Int32) : Int32 := if x = 0 then faringA N 1 else if x = 1 then faringA N 2 else if x = 2 then lostA N - lostA N0 else if x = 3 then goneA N else ruinsA N
theorem csumsLeft_loop (hC : CM E tl) (hF : FO E 48) (hb : Bl (fv V 48)) (h : k (ruinsA (fv V 48)) V) : ∀ m i, i + m = 96 → w0_sumsLeft E k 4 [some (vr 16), some (vi (sI (fun p => if fv V 48 p = 0 then 0 else sumsA (fv V 48) p) i)), some (vi (nI i))] [] V := by
  intro m
  induction m with
  | zero =>
    intro i hi
    have : i = 96 := by omega
    subst this
    exact b0_sumsLeft_4 hC ⟨fun _ => h, fun h1 => absurd h1 (by decide)⟩
  | succ m ih =>
    intro i hi
    have ih := ih (i + 1) (by omega)
    refine b0_sumsLeft_4 hC ⟨fun h1 => absurd h1 ?_, fun _ => ?_⟩
    · simp (disch := omega) only [lle_n]; omega
    · simp (disch := omega) only [nI_clamp, nI_1]
      rw [fv_st V 48 (p := i) (by omega)]
      simp only [sI] at ih
      refine ⟨vp_n (by omega) (by decide), fun h1 => s3_sumsAt hC hF hb ?_, fun h1 => ?_⟩
      · rwa [if_neg h1] at ih
      · rwa [if_pos h1] at ih
theorem s0_sumsLeft (hC : CM E tl) (hF : FO E 48) (hb : Bl (fv V 48)) (h : k (ruinsA (fv V 48)) V) : c0_sumsLeft E V k :=
  n0_sumsLeft (b0_sumsLeft_0 hC (csumsLeft_loop hC hF hb h 96 0 rfl))
/-- a fire tried: the other one is as the first, no twin's row is written -/
theorem Rl.then (h : Rl E tl V) (hk : ∀ V1, fv V1 48 = V 215 → Fc 48 V V1 → kv V1) : c3_takes E 48 19 V kv := by
  refine s3_takes h.C h.F48 h.F19 (by decide) (by decide) (by decide) h.bl fun V1 e1 a1 => hk V1 ?_ a1
  rw [h.row, h.kin, takA_id h.ok h.okw] at e1
  exact e1
theorem s0_tried {n : Nat} (h : Rl E tl V) (hL : LC E tl (lawV m rk V) V) (n1 : 1 ≤ n) (n2 : n ≤ 100) (hx : 0 ≤ x2 ∧ x2 ≤ 4)
    (hk : ∀ V', Fz 48 V V' → k (triA (V 215) (minutesA (lawV m rk V) (V 218) n (V 215)) x2) V') : c0_tried E (nI n) x2 V k := by
  have e0 : b2 (0 ≤ x2 ∧ x2 < 5) = b2 (0 ≤ x2 ∧ x2 ≤ 4) := in_le (a := 5) (b := 4) rfl (by decide)
  refine n0_tried (b0_tried_0 h.C (s0_within h.C ⟨fun q => ?_, fun q => s0_in h.C ⟨fun q2 => h.then fun V1 e1 a1 => ?_, fun q2 => ?_⟩⟩))
  · rw [b2_0] at q
    exact absurd ⟨(nI_leI (a := 1) (by decide) (by omega)).mpr n1, (nI_leI (b := 100) (by omega) (by decide)).mpr n2⟩ q
  · have z1 := a1.fd.tz (by decide)
    refine s3_goes h.C h.F48 (h.cb.fc a1 (by decide)) (by rw [e1]; exact h.ok.bl) (hL.of (a1.fd.lk (h.lk (by decide)) (by decide))) (by decide) (h.lk (by decide)) (by decide) (by omega) fun V2 e2 a2 => ?_
    have hk := hk V2 (a1.fd.tr a2)
    rw [e1, a1 17 (by omega) (by omega), h.kin] at e2
    have e19 : fv V2 19 = V 215 := by rw [fv_oz a2 (by decide) (by decide), fv_o a1 (by decide) (by decide), h.row]
    have hb2 : Bl (fv V2 48) := by rw [e2]; exact h.ok.bl.minutes n
    have hb3 : Bl (fv V2 19) := by rw [e19]; exact h.ok.bl
    rw [← e2, ← e19] at hk
    unfold triA at hk
    refine ⟨fun q3 => s3_those h.C h.F48 ?_, fun q3 => s3_those h.C h.F48 ?_, fun q3 => s3_lost h.C h.F48 hb2 (s3_lost h.C h.F19 hb3 ?_), fun q3 => s3_gone h.C h.F48 hb2 ?_, fun p0 p1 p2 p3 => s0_sumsLeft h.C h.F48 hb2 ?_⟩
    · rwa [if_pos q3] at hk
    · subst q3; exact hk
    · subst q3; exact hk
    · subst q3; exact hk
    · rwa [if_neg p0, if_neg p1, if_neg p2, if_neg p3] at hk
  · rw [e0, b2_0] at q2
    exact absurd hx q2
theorem s6_tried {n : Nat} (hT : TW E) (hL : LT E m rk V) (hz : Z9 V) (hi : Hi0 (V 215)) (n1 : 1 ≤ n) (n2 : n ≤ 100) (hx : 0 ≤ x2 ∧ x2 ≤ 4)
    (hk : ∀ V', V' 215 = V 215 → Z9 V' → Ft [215, 216, 232, 233, 235] [34] V V' → k (triA (V 215) (minutesA (lawV m rk V) (V 218) n (V 215)) x2) V') : c6_tried E (nI n) x2 V k := by
  refine n6_tried (b6_tried_0 hT (s6_in hT ⟨fun q => ?_, fun q => s6_in hT ⟨fun q2 => s6_copies hT (tb_215 hT) (tk_215 hT) (tb_216 hT) (tk_216 hT) (by decide) fun V1 e1 a1 => ?_, fun q2 => ?_⟩⟩))
  · rw [b2_0] at q
    exact absurd ⟨(nI_leI (a := 1) (by decide) (by omega)).mpr n1, (nI_leI (b := 100) (by omega) (by decide)).mpr n2⟩ q
  · have f1 : Ft [215, 216, 232, 233, 235] [34] V V1 := ⟨fun o ho _ => a1 o (fun e => ho (by simp at e; simp [e])), fun j _ => by rw [a1 214 (by decide)]⟩
    refine s6_minutesGo hT (hL.of (by rw [a1 214 (by decide)]) (a1 _ (by decide)) (a1 _ (by decide)) (a1 _ (by decide)) (a1 _ (by decide))) (fun j hj => by rw [a1 233 (by decide)]; exact hz j hj) (by omega) fun V2 e2 l2 z2 a2 => ?_
    have f2 : Ft [215, 216, 232, 233, 235] [34] V V2 := f1.tr (a2.sub (fun o ho => by simp at ho ⊢; omega) (fun _ z => z))
    rw [a1 215 (by decide), a1 218 (by decide), lawV_of (a1 228 (by decide)) (a1 229 (by decide)) (a1 230 (by decide)) (a1 231 (by decide))] at e2
    have h16 : V2 216 = cpN 315 (V 215) (V 216) := (a2.1 216 (by decide) (by decide)).trans e1
    rw [← e2] at hk
    rw [a1 215 (by decide)] at l2
    have hi2 : Hi0 (V2 215) := by rw [e2]; exact hi.minutes n
    have back : ∀ r, r = triA (V 215) (V2 215) x2 → c6_copies E 216 215 V2 (fun V3 => k r V3) := by
      intro r hr
      subst hr
      refine s6_copies hT (tb_216 hT) (tk_216 hT) (tb_215 hT) (tk_215 hT) (by decide) fun V3 e3 a3 => hk V3 ?_ (fun j hj => by rw [a3 233 (by decide)]; exact z2 j hj) (f2.tr ⟨fun o ho _ => a3 o (fun e => ho (by simp at e; simp [e])), fun j _ => by rw [a3 214 (by decide)]⟩)
      rw [e3, h16, cp_back hi hi2]
    unfold triA at back
    refine ⟨fun q3 => s6_faring hT (back _ ?_), fun q3 => s6_faring hT (back _ ?_), fun q3 => back _ ?_, fun q3 => s6_goneSet hT (back _ ?_), fun p0 p1 p2 p3 => s6_sumsInRuins hT (back _ ?_)⟩
    · rw [if_pos q3]
    · subst q3; rfl
    · subst q3; rw [l2]; rfl
    · subst q3; rfl
    · rw [if_neg p0, if_neg p1, if_neg p2, if_neg p3]
  · rw [b2_0] at q2
    exact absurd hx q2
theorem Ft.lo {S T : List Nat} (a : Ft S T V V1) (o : Nat) (h : o ∉ S) (h2 : o ≠ 214) : V1 o = V o := a.1 o h h2
/-- a trial done: all as it was -/
theorem Rl.back (h : Rl E tl V) (a : Fz 48 V V1) (b : Ft [215, 216, 232, 233, 235] [34] V1 V2) (e : V2 215 = V 215) (z : Z9 V2) : Rl E tl V2 := by
  have z1 := a.tz (by decide)
  have e18 : V2 218 = V 218 := (b.1 218 (by decide) (by decide)).trans (z1 218 (by decide) (by decide))
  refine h.go (a.kc (by decide) (by decide) h.lay) z1 b (by simp) (by simp) ?_ ?_ (by rw [e]; exact h.ok) (by rw [e, e18]; exact h.okw) z ?_ ?_ ?_ ?_
  · rw [e, fv_oz a (by decide) (by decide)]; exact h.row
  · rw [e18, a 17 (by omega) (by omega)]; exact h.kin
  · rw [a 106 (by omega) (by omega), b.1 220 (by decide) (by decide), z1 220 (by decide) (by decide)]; exact h.tap
  · rw [a 16 (by omega) (by omega), b.2 6 (by simp), z1 214 (by decide) (by decide)]; exact h.tp
  · rw [b.2 6 (by simp), z1 214 (by decide) (by decide)]; exact h.tpn
  · rw [a 16 (by omega) (by omega)]
theorem o_tried (h : Rl E tl V) : c0_tried E x1 x2 V (fun r V1 => c6_tried E x1 x2 V1 (fun r' V2 => r' = r ∧ Rl E tl V2)) := by
  have e0 : b2 (0 ≤ x2 ∧ x2 < 5) = b2 (0 ≤ x2 ∧ x2 ≤ 4) := in_le (a := 5) (b := 4) rfl (by decide)
  obtain ⟨m, rk, l1, l2, l3⟩ := h.law
  by_cases q : b2 (1 ≤ x1 ∧ x1 ≤ 100) = 0
  · refine n0_tried (b0_tried_0 h.C (s0_within h.C ⟨fun _ => ?_, fun q2 => absurd q q2⟩))
    exact n6_tried (b6_tried_0 h.T (s6_in h.T ⟨fun _ => ⟨rfl, h⟩, fun q2 => absurd q q2⟩))
  by_cases q2 : b2 (0 ≤ x2 ∧ x2 ≤ 4) = 0
  · refine n0_tried (b0_tried_0 h.C (s0_within h.C ⟨fun q3 => absurd q3 q, fun _ => s0_in h.C ⟨fun q3 => absurd (e0.trans q2) q3, fun _ => ?_⟩⟩))
    exact n6_tried (b6_tried_0 h.T (s6_in h.T ⟨fun q3 => absurd q3 q, fun _ => s6_in h.T ⟨fun q3 => absurd q2 q3, fun _ => ⟨rfl, h⟩⟩⟩))
  obtain ⟨n, n1, n2, rfl⟩ := rng (a := 1) (b := 100) (by decide) (by decide) q
  rw [b2_0] at q2
  have q2 := Classical.not_not.mp q2
  refine s0_tried h l1 n1 n2 q2 fun V1 a1 => ?_
  have z1 := a1.tz (by decide)
  have e1 := z1 215 (by decide) (by decide)
  refine s6_tried h.T (l2.tz z1) (h.z9.tz z1) (by rw [e1]; exact h.h215) n1 n2 q2 fun V2 e2 z2 a2 => ⟨?_, h.back a1 a2 (e2.trans e1) z2⟩
  rw [lawV_tz z1, e1, z1 218 (by decide) (by decide)]
end OPS1
