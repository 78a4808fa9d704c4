/-! THE COMPONENT: its methods walked, block by block (1) -/
theorem b0_feed_0 {E : eT} {Q : Int32 → vT → Prop} {V : vT} {tl : Nat} {x1 x2 x3 x4 x5 : Int32} (hC : CM E tl) (h : (((V 16 7) + 20) ≤ 260 → c0_push E x1 V (fun V17 => c0_push E x2 V17 (fun V22 => c0_push E x3 V22 (fun V27 => c0_push E x4 V27 (fun V33 => c0_push E x5 V33 (fun V39 => Q (V39 16 7) V39)))))) ∧ (260 < ((V 16 7) + 20) → Q (-1) V)) : w0_feed E Q 0 [some (vr 16), some (vi x1), some (vi x2), some (vi x3), some (vi x4), some (vi x5)] [] V := by
  refine wp_aload_n dX0_feed_0 rfl ?_
  refine wp_geti dX0_feed_1 fk0_106_0 (cb_16 hC) (ck_16 hC) rfl ?_
  refine wp_bipush (v := 20) dX0_feed_4 rfl ?_
  refine wp_iadd dX0_feed_6 ?_
  refine wp_sipush (v := 260) dX0_feed_7 rfl ?_
  refine wp_icmp_le 15 dX0_feed_10 (by decide) (fun hc => ?_) (fun hc => ?_)
  · replace h := h.1 hc
    refine wp_aload_n dX0_feed_15 rfl ?_
    refine wp_iload_n dX0_feed_16 rfl ?_
    refine wq_VV1 lk0_109 rfl (cb_16 hC) (ck_16 hC) dX0_feed_17 h (rmQ_ok (by decide) (by decide)) ⟨Nat.le_refl _, Nat.le_refl _⟩ (Nat.le_of_ble_eq_true rfl) (fun V17 h => ?_)
    refine wp_aload_n dX0_feed_20 rfl ?_
    refine wp_iload_n dX0_feed_21 rfl ?_
    refine wq_VV1 lk0_109 rfl (cb_16 hC) (ck_16 hC) dX0_feed_22 h (rmQ_ok (by decide) (by decide)) ⟨Nat.le_refl _, Nat.le_refl _⟩ (Nat.le_of_ble_eq_true rfl) (fun V22 h => ?_)
    refine wp_aload_n dX0_feed_25 rfl ?_
    refine wp_iload_n dX0_feed_26 rfl ?_
    refine wq_VV1 lk0_109 rfl (cb_16 hC) (ck_16 hC) dX0_feed_27 h (rmQ_ok (by decide) (by decide)) ⟨Nat.le_refl _, Nat.le_refl _⟩ (Nat.le_of_ble_eq_true rfl) (fun V27 h => ?_)
    refine wp_aload_n dX0_feed_30 rfl ?_
    refine wp_iload dX0_feed_31 rfl ?_
    refine wq_VV1 lk0_109 rfl (cb_16 hC) (ck_16 hC) dX0_feed_33 h (rmQ_ok (by decide) (by decide)) ⟨Nat.le_refl _, Nat.le_refl _⟩ (Nat.le_of_ble_eq_true rfl) (fun V33 h => ?_)
    refine wp_aload_n dX0_feed_36 rfl ?_
    refine wp_iload dX0_feed_37 rfl ?_
    refine wq_VV1 lk0_109 rfl (cb_16 hC) (ck_16 hC) dX0_feed_39 h (rmQ_ok (by decide) (by decide)) ⟨Nat.le_refl _, Nat.le_refl _⟩ (Nat.le_of_ble_eq_true rfl) (fun V39 h => ?_)
    refine wp_aload_n dX0_feed_42 rfl ?_
    refine wp_geti dX0_feed_43 fk0_106_0 (cb_16 hC) (ck_16 hC) rfl ?_
    exact wp_iret dX0_feed_46 rfl ⟨_, rfl, rfl, rfl, rfl, h⟩
  · replace h := h.2 (Int32.not_le.mp hc)
    refine wp_iconst (v := (-1)) dX0_feed_13 rfl ?_
    exact wp_iret dX0_feed_14 rfl ⟨_, rfl, rfl, rfl, rfl, h⟩
theorem n0_feed {E : eT} {Q : Int32 → vT → Prop} {V : vT} {x1 x2 x3 x4 x5 : Int32} (h : w0_feed E Q 0 [some (vr 16), some (vi x1), some (vi x2), some (vi x3), some (vi x4), some (vi x5)] [] V) : c0_feed E x1 x2 x3 x4 x5 V Q := MOk.enter [some (vr 16), some (vi x1), some (vi x2), some (vi x3), some (vi x4), some (vi x5)] pn_X0 rfl rfl (Nat.le_of_ble_eq_true rfl) rfl h
theorem b0_push_0 {E : eT} {Q : vT → Prop} {V : vT} {tl : Nat} {x1 : Int32} (hC : CM E tl) (h : w0_push E Q 3 [some (vr 16), some (vi x1), some (vi 24)] [] V) : w0_push E Q 0 [some (vr 16), some (vi x1), none] [] V := by
  refine wp_bipush (v := 24) dX0_push_0 rfl ?_
  refine wi3_2 dX0_push_2 ?_
  exact h
theorem b0_push_3 {E : eT} {Q : vT → Prop} {V : vT} {tl : Nat} {x1 x2 : Int32} (hC : CM E tl) (h : (x2 < 0 → Q V) ∧ (0 ≤ x2 → vp_in (V 16 7) 260 ∧ (w0_push E Q 3 [some (vr 16), some (vi x1), some (vi (x2 + (-8)))] [] (up2 (up2 V 106 ((V 16 7).toNatClampNeg) (((x1 >>> (x2 &&& 31)).toInt8.toInt32).toInt8.toInt32)) 16 7 (((up2 V 106 ((V 16 7).toNatClampNeg) (((x1 >>> (x2 &&& 31)).toInt8.toInt32).toInt8.toInt32)) 16 7) + 1))))) : w0_push E Q 3 [some (vr 16), some (vi x1), some (vi x2)] [] V := by
  refine wp_iload_n dX0_push_3 rfl ?_
  refine wp_if_lt 36 dX0_push_4 (by decide) (fun hc => ?_) (fun hc => ?_)
  · replace h := h.1 hc
    exact wp_vret dX0_push_36 ⟨rfl, rfl, rfl, rfl, h⟩
  · replace h := h.2 (Int32.not_lt.mp hc)
    refine wp_aload_n dX0_push_7 rfl ?_
    refine wp_getrs dX0_push_8 fk0_57_0 (cb_16 hC) (ck_16 hC) rfl (cr_5 hC) ?_
    refine wp_aload_n dX0_push_11 rfl ?_
    refine wp_geti dX0_push_12 fk0_106_0 (cb_16 hC) (ck_16 hC) rfl ?_
    refine wp_iload_n dX0_push_15 rfl ?_
    refine wp_iload_n dX0_push_16 rfl ?_
    refine wp_ishr dX0_push_17 ?_
    refine wp_i2b dX0_push_18 ?_
    refine wp_bast dX0_push_19 (cb_106 hC) (ck_106 hC) h.1 ?_
    replace h := h.2
    refine wp_aload_n dX0_push_20 rfl ?_
    refine wp_dup dX0_push_21 ?_
    refine wp_geti dX0_push_22 fk0_106_0 (cb_16 hC) (ck_16 hC) rfl ?_
    refine wp_iconst (v := 1) dX0_push_25 rfl ?_
    refine wp_iadd dX0_push_26 ?_
    refine wp_puti dX0_push_27 fp0_106_0 (cb_16 hC) (ck_16 hC) rfl ?_
    refine wc3_2 (-8) dX0_push_30 rfl ?_
    refine wp_goto 3 dX0_push_33 (by decide) ?_
    exact h
theorem n0_push {E : eT} {Q : vT → Prop} {V : vT} {x1 : Int32} (h : w0_push E Q 0 [some (vr 16), some (vi x1), none] [] V) : c0_push E x1 V Q := MOk.enter [some (vr 16), some (vi x1), none] pn_X0 rfl rfl (Nat.le_of_ble_eq_true rfl) rfl h
theorem b0_within_0 {E : eT} {Q : Int32 → vT → Prop} {V : vT} {tl : Nat} {x1 x2 x3 : Int32} (hC : CM E tl) (h : (x1 < x2 → Q 0 V) ∧ (x2 ≤ x1 → (x3 < x1 → Q 0 V) ∧ (x1 ≤ x3 → Q 1 V))) : w0_within E Q 0 [some (vi x1), some (vi x2), some (vi x3)] [] V := by
  refine wp_iload_n dX0_within_0 rfl ?_
  refine wp_iload_n dX0_within_1 rfl ?_
  refine wp_icmp_lt 14 dX0_within_2 (by decide) (fun hc => ?_) (fun hc => ?_)
  · replace h := h.1 hc
    refine wp_iconst (v := 0) dX0_within_14 rfl ?_
    exact wp_iret dX0_within_15 rfl ⟨_, rfl, rfl, rfl, rfl, h⟩
  · replace h := h.2 (Int32.not_lt.mp hc)
    refine wp_iload_n dX0_within_5 rfl ?_
    refine wp_iload_n dX0_within_6 rfl ?_
    refine wp_icmp_gt 14 dX0_within_7 (by decide) (fun hc => ?_) (fun hc => ?_)
    · replace h := h.1 hc
      refine wp_iconst (v := 0) dX0_within_14 rfl ?_
      exact wp_iret dX0_within_15 rfl ⟨_, rfl, rfl, rfl, rfl, h⟩
    · replace h := h.2 (Int32.not_lt.mp hc)
      refine wp_iconst (v := 1) dX0_within_10 rfl ?_
      refine wp_goto 15 dX0_within_11 (by decide) ?_
      exact wp_iret dX0_within_15 rfl ⟨_, rfl, rfl, rfl, rfl, h⟩
theorem n0_within {E : eT} {Q : Int32 → vT → Prop} {V : vT} {x1 x2 x3 : Int32} (h : w0_within E Q 0 [some (vi x1), some (vi x2), some (vi x3)] [] V) : c0_within E x1 x2 x3 V Q := MOk.enter [some (vi x1), some (vi x2), some (vi x3)] pn_X0 rfl rfl (Nat.le_of_ble_eq_true rfl) rfl h
theorem b0_minutes_0 {E : eT} {Q : Int32 → vT → Prop} {V : vT} {tl : Nat} {x1 : Int32} (hC : CM E tl) (h : c0_within E x1 1 100 V (fun r4 V4 => (r4 = 0 → Q (-1) V4) ∧ (¬ r4 = 0 → c3_goes E 19 x1 V4 (fun V15 => c3_those E 19 1 V15 (fun r19 V19 => Q r19 V19))))) : w0_minutes E Q 0 [some (vr 16), some (vi x1)] [] V := by
  refine wp_iload_n dX0_minutes_0 rfl ?_
  refine wp_iconst (v := 1) dX0_minutes_1 rfl ?_
  refine wp_bipush (v := 100) dX0_minutes_2 rfl ?_
  refine wq_SI3 lk0_113 dX0_minutes_4 h (rmQ_ok (by decide) (by decide)) ⟨Nat.le_refl _, Nat.le_refl _⟩ (Nat.le_of_ble_eq_true rfl) (fun r4 V4 h => ?_)
  refine wp_if_eq 25 dX0_minutes_7 (by decide) (fun hc => ?_) (fun hc => ?_)
  · replace h := h.1 hc
    refine wp_iconst (v := (-1)) dX0_minutes_25 rfl ?_
    exact wp_iret dX0_minutes_26 rfl ⟨_, rfl, rfl, rfl, rfl, h⟩
  · replace h := h.2 hc
    refine wp_aload_n dX0_minutes_10 rfl ?_
    refine wp_getrs dX0_minutes_11 fk0_47_0 (cb_16 hC) (ck_16 hC) rfl (cr_2 hC) ?_
    refine wp_iload_n dX0_minutes_14 rfl ?_
    refine wq_VR1 lk0_150 rfl (FO.b0 (cf_19 hC)) (FO.k0 (cf_19 hC)) dX0_minutes_15 h (rmQ_ok (by decide) (by decide)) ⟨Nat.le_refl _, Nat.le_refl _⟩ (Nat.le_of_ble_eq_true rfl) (fun r15 V15 h => ?_)
    obtain ⟨rfl, h⟩ := h
    refine wp_iconst (v := 1) dX0_minutes_18 rfl ?_
    refine wq_VI1 lk0_154 rfl (FO.b0 (cf_19 hC)) (FO.k0 (cf_19 hC)) dX0_minutes_19 h (rmQ_ok (by decide) (by decide)) ⟨Nat.le_refl _, Nat.le_refl _⟩ (Nat.le_of_ble_eq_true rfl) (fun r19 V19 h => ?_)
    refine wp_goto 26 dX0_minutes_22 (by decide) ?_
    exact wp_iret dX0_minutes_26 rfl ⟨_, rfl, rfl, rfl, rfl, h⟩
theorem n0_minutes {E : eT} {Q : Int32 → vT → Prop} {V : vT} {x1 : Int32} (h : w0_minutes E Q 0 [some (vr 16), some (vi x1)] [] V) : c0_minutes E x1 V Q := MOk.enter [some (vr 16), some (vi x1)] pn_X0 rfl rfl (Nat.le_of_ble_eq_true rfl) rfl h
theorem b0_next_0 {E : eT} {Q : Int32 → vT → Prop} {V : vT} {tl : Nat} {x1 x2 : Int32} (hC : CM E tl) (h : vp_in x2 4 ∧ (vp_in x2 4 ∧ (c0_placeAt E ((rmd x1 12) + (V 1 ((x2).toNatClampNeg))) ((x1 / 12) + (V 2 ((x2).toNatClampNeg))) V (fun r20 V20 => Q r20 V20)))) : w0_next E Q 0 [some (vi x1), some (vi x2)] [] V := by
  refine wp_iload_n dX0_next_0 rfl ?_
  refine wp_bipush (v := 12) dX0_next_1 rfl ?_
  refine wp_irm dX0_next_3 (by decide) ?_
  refine wp_gets (v := .inr (some 1)) dX0_next_4 q877 (fun _ h9 => h9.2.2.2.1.1) ?_
  refine wp_iload_n dX0_next_7 rfl ?_
  refine wp_iald dX0_next_8 (cb_1 hC).2 (ck_1 hC) h.1 ?_
  replace h := h.2
  refine wp_iadd dX0_next_9 ?_
  refine wp_iload_n dX0_next_10 rfl ?_
  refine wp_bipush (v := 12) dX0_next_11 rfl ?_
  refine wp_idiv dX0_next_13 (by decide) ?_
  refine wp_gets (v := .inr (some 2)) dX0_next_14 q879 (fun _ h9 => h9.2.2.2.1.2.1) ?_
  refine wp_iload_n dX0_next_17 rfl ?_
  refine wp_iald dX0_next_18 (cb_2 hC).2 (ck_2 hC) h.1 ?_
  replace h := h.2
  refine wp_iadd dX0_next_19 ?_
  refine wq_SI2 lk0_23 dX0_next_20 h (rmQ_ok (by decide) (by decide)) ⟨Nat.le_refl _, Nat.le_refl _⟩ (Nat.le_of_ble_eq_true rfl) (fun r20 V20 h => ?_)
  exact wp_iret dX0_next_23 rfl ⟨_, rfl, rfl, rfl, rfl, h⟩
theorem n0_next {E : eT} {Q : Int32 → vT → Prop} {V : vT} {x1 x2 : Int32} (h : w0_next E Q 0 [some (vi x1), some (vi x2)] [] V) : c0_next E x1 x2 V Q := MOk.enter [some (vi x1), some (vi x2)] pn_X0 rfl rfl (Nat.le_of_ble_eq_true rfl) rfl h
theorem b0_placeAt_0 {E : eT} {Q : Int32 → vT → Prop} {V : vT} {tl : Nat} {x1 x2 : Int32} (hC : CM E tl) (h : c0_in E x1 12 V (fun r3 V3 => (r3 = 0 → Q (-1) V3) ∧ (¬ r3 = 0 → c0_in E x2 8 V3 (fun r12 V12 => (r12 = 0 → Q (-1) V12) ∧ (¬ r12 = 0 → Q ((12 * x2) + x1) V12))))) : w0_placeAt E Q 0 [some (vi x1), some (vi x2)] [] V := by
  refine wp_iload_n dX0_placeAt_0 rfl ?_
  refine wp_bipush (v := 12) dX0_placeAt_1 rfl ?_
  refine wq_SI2 lk0_12 dX0_placeAt_3 h (rmQ_ok (by decide) (by decide)) ⟨Nat.le_refl _, Nat.le_refl _⟩ (Nat.le_of_ble_eq_true rfl) (fun r3 V3 h => ?_)
  refine wp_if_eq 27 dX0_placeAt_6 (by decide) (fun hc => ?_) (fun hc => ?_)
  · replace h := h.1 hc
    refine wp_iconst (v := (-1)) dX0_placeAt_27 rfl ?_
    exact wp_iret dX0_placeAt_28 rfl ⟨_, rfl, rfl, rfl, rfl, h⟩
  · replace h := h.2 hc
    refine wp_iload_n dX0_placeAt_9 rfl ?_
    refine wp_bipush (v := 8) dX0_placeAt_10 rfl ?_
    refine wq_SI2 lk0_12 dX0_placeAt_12 h (rmQ_ok (by decide) (by decide)) ⟨Nat.le_refl _, Nat.le_refl _⟩ (Nat.le_of_ble_eq_true rfl) (fun r12 V12 h => ?_)
    refine wp_if_eq 27 dX0_placeAt_15 (by decide) (fun hc => ?_) (fun hc => ?_)
    · replace h := h.1 hc
      refine wp_iconst (v := (-1)) dX0_placeAt_27 rfl ?_
      exact wp_iret dX0_placeAt_28 rfl ⟨_, rfl, rfl, rfl, rfl, h⟩
    · replace h := h.2 hc
      refine wp_bipush (v := 12) dX0_placeAt_18 rfl ?_
      refine wp_iload_n dX0_placeAt_20 rfl ?_
      refine wp_imul dX0_placeAt_21 ?_
      refine wp_iload_n dX0_placeAt_22 rfl ?_
      refine wp_iadd dX0_placeAt_23 ?_
      refine wp_goto 28 dX0_placeAt_24 (by decide) ?_
      exact wp_iret dX0_placeAt_28 rfl ⟨_, rfl, rfl, rfl, rfl, h⟩
theorem n0_placeAt {E : eT} {Q : Int32 → vT → Prop} {V : vT} {x1 x2 : Int32} (h : w0_placeAt E Q 0 [some (vi x1), some (vi x2)] [] V) : c0_placeAt E x1 x2 V Q := MOk.enter [some (vi x1), some (vi x2)] pn_X0 rfl rfl (Nat.le_of_ble_eq_true rfl) rfl h
theorem b0_in_0 {E : eT} {Q : Int32 → vT → Prop} {V : vT} {tl : Nat} {x1 x2 : Int32} (hC : CM E tl) (h : (x1 < 0 → Q 0 V) ∧ (0 ≤ x1 → (x2 ≤ x1 → Q 0 V) ∧ (x1 < x2 → Q 1 V))) : w0_in E Q 0 [some (vi x1), some (vi x2)] [] V := by
  refine wp_iload_n dX0_in_0 rfl ?_
  refine wp_if_lt 13 dX0_in_1 (by decide) (fun hc => ?_) (fun hc => ?_)
  · replace h := h.1 hc
    refine wp_iconst (v := 0) dX0_in_13 rfl ?_
    exact wp_iret dX0_in_14 rfl ⟨_, rfl, rfl, rfl, rfl, h⟩
  · replace h := h.2 (Int32.not_lt.mp hc)
    refine wp_iload_n dX0_in_4 rfl ?_
    refine wp_iload_n dX0_in_5 rfl ?_
    refine wp_icmp_ge 13 dX0_in_6 (by decide) (fun hc => ?_) (fun hc => ?_)
    · replace h := h.1 hc
      refine wp_iconst (v := 0) dX0_in_13 rfl ?_
      exact wp_iret dX0_in_14 rfl ⟨_, rfl, rfl, rfl, rfl, h⟩
    · replace h := h.2 (Int32.not_le.mp hc)
      refine wp_iconst (v := 1) dX0_in_9 rfl ?_
      refine wp_goto 14 dX0_in_10 (by decide) ?_
      exact wp_iret dX0_in_14 rfl ⟨_, rfl, rfl, rfl, rfl, h⟩
theorem n0_in {E : eT} {Q : Int32 → vT → Prop} {V : vT} {x1 x2 : Int32} (h : w0_in E Q 0 [some (vi x1), some (vi x2)] [] V) : c0_in E x1 x2 V Q := MOk.enter [some (vi x1), some (vi x2)] pn_X0 rfl rfl (Nat.le_of_ble_eq_true rfl) rfl h
theorem b0_held_0 {E : eT} {Q : Int32 → vT → Prop} {V : vT} {tl : Nat} {x1 x2 : Int32} (hC : CM E tl) (h : Q (mxI 0 (mnI x2 x1)) V) : w0_held E Q 0 [some (vi x1), some (vi x2)] [] V := by
  refine wp_iconst (v := 0) dX0_held_0 rfl ?_
  refine wp_iload_n dX0_held_1 rfl ?_
  refine wp_iload_n dX0_held_2 rfl ?_
  refine wp_mmin dX0_held_3 q962 q454 q124 q455 (by decide) (Nat.le_of_ble_eq_true rfl) (Nat.le_refl _) (Nat.le_refl _) ?_
  refine wp_mmax dX0_held_6 q963 q451 q124 q452 (by decide) (Nat.le_of_ble_eq_true rfl) (Nat.le_refl _) (Nat.le_refl _) ?_
  exact wp_iret dX0_held_9 rfl ⟨_, rfl, rfl, rfl, rfl, h⟩
theorem n0_held {E : eT} {Q : Int32 → vT → Prop} {V : vT} {x1 x2 : Int32} (h : w0_held E Q 0 [some (vi x1), some (vi x2)] [] V) : c0_held E x1 x2 V Q := MOk.enter [some (vi x1), some (vi x2)] pn_X0 rfl rfl (Nat.le_of_ble_eq_true rfl) rfl h
theorem b0_tried_0 {E : eT} {Q : Int32 → vT → Prop} {V : vT} {tl : Nat} {x1 x2 : Int32} (hC : CM E tl) (h : c0_within E x1 1 100 V (fun r4 V4 => (r4 = 0 → Q (-1) V4) ∧ (¬ r4 = 0 → c0_in E x2 5 V4 (fun r12 V12 => (¬ r12 = 0 → c3_takes E 48 19 V12 (fun V28 => c3_goes E 48 x1 V28 (fun V32 => (x2 = 0 → c3_those E 48 1 V32 (fun r73 V73 => Q r73 V73)) ∧ (x2 = 1 → c3_those E 48 2 V32 (fun r82 V82 => Q r82 V82)) ∧ (x2 = 2 → c3_lost E 48 V32 (fun r90 V90 => c3_lost E 19 V90 (fun r97 V97 => Q (r90 - r97) V97))) ∧ (x2 = 3 → c3_gone E 48 V32 (fun r106 V106 => Q r106 V106)) ∧ (¬ x2 = 0 → ¬ x2 = 1 → ¬ x2 = 2 → ¬ x2 = 3 → c0_sumsLeft E V32 (fun r111 V111 => Q r111 V111))))) ∧ (r12 = 0 → Q (-1) V12))))) : w0_tried E Q 0 [some (vr 16), some (vi x1), some (vi x2)] [] V := by
  refine wp_iload_n dX0_tried_0 rfl ?_
  refine wp_iconst (v := 1) dX0_tried_1 rfl ?_
  refine wp_bipush (v := 100) dX0_tried_2 rfl ?_
  refine wq_SI3 lk0_113 dX0_tried_4 h (rmQ_ok (by decide) (by decide)) ⟨Nat.le_refl _, Nat.le_refl _⟩ (Nat.le_of_ble_eq_true rfl) (fun r4 V4 h => ?_)
  refine wp_if_eq 18 dX0_tried_7 (by decide) (fun hc => ?_) (fun hc => ?_)
  · replace h := h.1 hc
    refine wp_iconst (v := (-1)) dX0_tried_18 rfl ?_
    exact wp_iret dX0_tried_19 rfl ⟨_, rfl, rfl, rfl, rfl, h⟩
  · replace h := h.2 hc
    refine wp_iload_n dX0_tried_10 rfl ?_
    refine wp_iconst (v := 5) dX0_tried_11 rfl ?_
    refine wq_SI2 lk0_12 dX0_tried_12 h (rmQ_ok (by decide) (by decide)) ⟨Nat.le_refl _, Nat.le_refl _⟩ (Nat.le_of_ble_eq_true rfl) (fun r12 V12 h => ?_)
    refine wp_if_ne 20 dX0_tried_15 (by decide) (fun hc => ?_) (fun hc => ?_)
    · replace h := h.1 hc
      refine wp_aload_n dX0_tried_20 rfl ?_
      refine wp_getrs dX0_tried_21 fk0_51_0 (cb_16 hC) (ck_16 hC) rfl (cr_3 hC) ?_
      refine wp_aload_n dX0_tried_24 rfl ?_
      refine wp_getrs dX0_tried_25 fk0_47_0 (cb_16 hC) (ck_16 hC) rfl (cr_2 hC) ?_
      refine wq_VR1 lk0_139 rfl (FO.b0 (cf_48 hC)) (FO.k0 (cf_48 hC)) dX0_tried_28 h (rmQ_ok (by decide) (by decide)) ⟨Nat.le_refl _, Nat.le_refl _⟩ (Nat.le_of_ble_eq_true rfl) (fun r28 V28 h => ?_)
      obtain ⟨rfl, h⟩ := h
      refine wp_iload_n dX0_tried_31 rfl ?_
      refine wq_VR1 lk0_150 rfl (FO.b0 (cf_48 hC)) (FO.k0 (cf_48 hC)) dX0_tried_32 h (rmQ_ok (by decide) (by decide)) ⟨Nat.le_refl _, Nat.le_refl _⟩ (Nat.le_of_ble_eq_true rfl) (fun r32 V32 h => ?_)
      obtain ⟨rfl, h⟩ := h
      refine wp_pop dX0_tried_35 ?_
      refine wp_iload_n dX0_tried_36 rfl ?_
      by_cases hc0 : x2 = 0
      · replace h := h.1 hc0
        rw [hc0]
        refine wp_tableIn 68 dX0_tried_37 (by decide) (by decide) rfl (by decide) ?_
        refine wp_aload_n dX0_tried_68 rfl ?_
        refine wp_getrs dX0_tried_69 fk0_51_0 (cb_16 hC) (ck_16 hC) rfl (cr_3 hC) ?_
        refine wp_iconst (v := 1) dX0_tried_72 rfl ?_
        refine wq_VI1 lk0_154 rfl (FO.b0 (cf_48 hC)) (FO.k0 (cf_48 hC)) dX0_tried_73 h (rmQ_ok (by decide) (by decide)) ⟨Nat.le_refl _, Nat.le_refl _⟩ (Nat.le_of_ble_eq_true rfl) (fun r73 V73 h => ?_)
        exact wp_iret dX0_tried_76 rfl ⟨_, rfl, rfl, rfl, rfl, h⟩
      · skip
        by_cases hc1 : x2 = 1
        · replace h := h.2.1 hc1
          rw [hc1]
          refine wp_tableIn 77 dX0_tried_37 (by decide) (by decide) rfl (by decide) ?_
          refine wp_aload_n dX0_tried_77 rfl ?_
          refine wp_getrs dX0_tried_78 fk0_51_0 (cb_16 hC) (ck_16 hC) rfl (cr_3 hC) ?_
          refine wp_iconst (v := 2) dX0_tried_81 rfl ?_
          refine wq_VI1 lk0_154 rfl (FO.b0 (cf_48 hC)) (FO.k0 (cf_48 hC)) dX0_tried_82 h (rmQ_ok (by decide) (by decide)) ⟨Nat.le_refl _, Nat.le_refl _⟩ (Nat.le_of_ble_eq_true rfl) (fun r82 V82 h => ?_)
          exact wp_iret dX0_tried_85 rfl ⟨_, rfl, rfl, rfl, rfl, h⟩
        · skip
          by_cases hc2 : x2 = 2
          · replace h := h.2.2.1 hc2
            rw [hc2]
            refine wp_tableIn 86 dX0_tried_37 (by decide) (by decide) rfl (by decide) ?_
            refine wp_aload_n dX0_tried_86 rfl ?_
            refine wp_getrs dX0_tried_87 fk0_51_0 (cb_16 hC) (ck_16 hC) rfl (cr_3 hC) ?_
            refine wq_VI0 lk0_164 rfl (FO.b0 (cf_48 hC)) (FO.k0 (cf_48 hC)) dX0_tried_90 h (rmQ_ok (by decide) (by decide)) ⟨Nat.le_refl _, Nat.le_refl _⟩ (Nat.le_of_ble_eq_true rfl) (fun r90 V90 h => ?_)
            refine wp_aload_n dX0_tried_93 rfl ?_
            refine wp_getrs dX0_tried_94 fk0_47_0 (cb_16 hC) (ck_16 hC) rfl (cr_2 hC) ?_
            refine wq_VI0 lk0_164 rfl (FO.b0 (cf_19 hC)) (FO.k0 (cf_19 hC)) dX0_tried_97 h (rmQ_ok (by decide) (by decide)) ⟨Nat.le_refl _, Nat.le_refl _⟩ (Nat.le_of_ble_eq_true rfl) (fun r97 V97 h => ?_)
            refine wp_isub dX0_tried_100 ?_
            exact wp_iret dX0_tried_101 rfl ⟨_, rfl, rfl, rfl, rfl, h⟩
          · skip
            by_cases hc3 : x2 = 3
            · replace h := h.2.2.2.1 hc3
              rw [hc3]
              refine wp_tableIn 102 dX0_tried_37 (by decide) (by decide) rfl (by decide) ?_
              refine wp_aload_n dX0_tried_102 rfl ?_
              refine wp_getrs dX0_tried_103 fk0_51_0 (cb_16 hC) (ck_16 hC) rfl (cr_3 hC) ?_
              refine wq_VI0 lk0_167 rfl (FO.b0 (cf_48 hC)) (FO.k0 (cf_48 hC)) dX0_tried_106 h (rmQ_ok (by decide) (by decide)) ⟨Nat.le_refl _, Nat.le_refl _⟩ (Nat.le_of_ble_eq_true rfl) (fun r106 V106 h => ?_)
              exact wp_iret dX0_tried_109 rfl ⟨_, rfl, rfl, rfl, rfl, h⟩
            · skip
              replace h := h.2.2.2.2 hc0 hc1 hc2 hc3
              refine wp_tableD 110 dX0_tried_37 (fun j9 h8 h9 => ?_) (by decide) ?_
              · rcases (show j9 = 0 ∨ j9 = 1 ∨ j9 = 2 ∨ j9 = 3 by omega) with rfl | rfl | rfl | rfl
                · exact absurd h9 (tab_ne hc0 (by decide))
                · exact absurd h9 (tab_ne hc1 (by decide))
                · exact absurd h9 (tab_ne hc2 (by decide))
                · exact absurd h9 (tab_ne hc3 (by decide))
              refine wp_aload_n dX0_tried_110 rfl ?_
              refine wq_VI0 lk0_169 rfl (cb_16 hC) (ck_16 hC) dX0_tried_111 h (rmQ_ok (by decide) (by decide)) ⟨Nat.le_refl _, Nat.le_refl _⟩ (Nat.le_of_ble_eq_true rfl) (fun r111 V111 h => ?_)
              exact wp_iret dX0_tried_114 rfl ⟨_, rfl, rfl, rfl, rfl, h⟩
    · replace h := h.2 hc
      refine wp_iconst (v := (-1)) dX0_tried_18 rfl ?_
      exact wp_iret dX0_tried_19 rfl ⟨_, rfl, rfl, rfl, rfl, h⟩
theorem n0_tried {E : eT} {Q : Int32 → vT → Prop} {V : vT} {x1 x2 : Int32} (h : w0_tried E Q 0 [some (vr 16), some (vi x1), some (vi x2)] [] V) : c0_tried E x1 x2 V Q := MOk.enter [some (vr 16), some (vi x1), some (vi x2)] pn_X0 rfl rfl (Nat.le_of_ble_eq_true rfl) rfl h
theorem b0_sumsLeft_0 {E : eT} {Q : Int32 → vT → Prop} {V : vT} {tl : Nat} (hC : CM E tl) (h : w0_sumsLeft E Q 4 [some (vr 16), some (vi 0), some (vi 0)] [] V) : w0_sumsLeft E Q 0 [some (vr 16), none, none] [] V := by
  refine wp_iconst (v := 0) dX0_sumsLeft_0 rfl ?_
  refine wi3_1 dX0_sumsLeft_1 ?_
  refine wp_iconst (v := 0) dX0_sumsLeft_2 rfl ?_
  refine wi3_2 dX0_sumsLeft_3 ?_
  exact h
theorem b0_sumsLeft_4 {E : eT} {Q : Int32 → vT → Prop} {V : vT} {tl : Nat} {x1 x2 : Int32} (hC : CM E tl) (h : (96 ≤ x2 → Q x1 V) ∧ (x2 < 96 → vp_in x2 96 ∧ ((¬ (V 49 ((x2).toNatClampNeg)) = 0 → c3_sumsAt E 48 x2 V (fun r32 V32 => w0_sumsLeft E Q 4 [some (vr 16), some (vi (x1 + r32)), some (vi (x2 + 1))] [] V32)) ∧ ((V 49 ((x2).toNatClampNeg)) = 0 → w0_sumsLeft E Q 4 [some (vr 16), some (vi (x1 + 0)), some (vi (x2 + 1))] [] V)))) : w0_sumsLeft E Q 4 [some (vr 16), some (vi x1), some (vi x2)] [] V := by
  refine wp_iload_n dX0_sumsLeft_4 rfl ?_
  refine wp_bipush (v := 96) dX0_sumsLeft_5 rfl ?_
  refine wp_icmp_ge 43 dX0_sumsLeft_7 (by decide) (fun hc => ?_) (fun hc => ?_)
  · replace h := h.1 hc
    refine wp_iload_n dX0_sumsLeft_43 rfl ?_
    exact wp_iret dX0_sumsLeft_44 rfl ⟨_, rfl, rfl, rfl, rfl, h⟩
  · replace h := h.2 (Int32.not_le.mp hc)
    refine wp_iload_n dX0_sumsLeft_10 rfl ?_
    refine wp_aload_n dX0_sumsLeft_11 rfl ?_
    refine wp_getrs dX0_sumsLeft_12 fk0_51_0 (cb_16 hC) (ck_16 hC) rfl (cr_3 hC) ?_
    refine wp_getrs dX0_sumsLeft_15 fk0_158_2 (FO.b0 (cf_48 hC)) (FO.k0 (cf_48 hC)) rfl (FO.r0 (cf_48 hC)) ?_
    refine wp_iload_n dX0_sumsLeft_18 rfl ?_
    refine wp_iald dX0_sumsLeft_19 (FO.b1 (cf_48 hC)).2 (FO.k1 (cf_48 hC)) h.1 ?_
    replace h := h.2
    refine wp_if_ne 27 dX0_sumsLeft_20 (by decide) (fun hc => ?_) (fun hc => ?_)
    · replace h := h.1 hc
      refine wp_aload_n dX0_sumsLeft_27 rfl ?_
      refine wp_getrs dX0_sumsLeft_28 fk0_51_0 (cb_16 hC) (ck_16 hC) rfl (cr_3 hC) ?_
      refine wp_iload_n dX0_sumsLeft_31 rfl ?_
      refine wq_VI1 lk0_161 rfl (FO.b0 (cf_48 hC)) (FO.k0 (cf_48 hC)) dX0_sumsLeft_32 h (rmQ_ok (by decide) (by decide)) ⟨Nat.le_refl _, Nat.le_refl _⟩ (Nat.le_of_ble_eq_true rfl) (fun r32 V32 h => ?_)
      refine wp_iadd dX0_sumsLeft_35 ?_
      refine wi3_1 dX0_sumsLeft_36 ?_
      refine wc3_2 1 dX0_sumsLeft_37 rfl ?_
      refine wp_goto 4 dX0_sumsLeft_40 (by decide) ?_
      exact h
    · replace h := h.2 hc
      refine wp_iconst (v := 0) dX0_sumsLeft_23 rfl ?_
      refine wp_goto 35 dX0_sumsLeft_24 (by decide) ?_
      refine wp_iadd dX0_sumsLeft_35 ?_
      refine wi3_1 dX0_sumsLeft_36 ?_
      refine wc3_2 1 dX0_sumsLeft_37 rfl ?_
      refine wp_goto 4 dX0_sumsLeft_40 (by decide) ?_
      exact h
theorem n0_sumsLeft {E : eT} {Q : Int32 → vT → Prop} {V : vT} (h : w0_sumsLeft E Q 0 [some (vr 16), none, none] [] V) : c0_sumsLeft E V Q := MOk.enter [some (vr 16), none, none] pn_X0 rfl rfl (Nat.le_of_ble_eq_true rfl) rfl h
theorem b0_placeIs_0 {E : eT} {Q : Int32 → vT → Prop} {V : vT} {tl : Nat} {x1 x2 x3 : Int32} (hC : CM E tl) (h : c0_placeAt E x1 x2 V (fun r2 V2 => (¬ r2 = (-1) → (x3 = 0 → vp_in r2 96 ∧ (Q (V2 17 ((r2).toNatClampNeg)) V2)) ∧ (x3 = 1 → vp_in r2 96 ∧ (Q (V2 20 ((r2).toNatClampNeg)) V2)) ∧ (x3 = 2 → vp_in r2 96 ∧ (Q (V2 21 ((r2).toNatClampNeg)) V2)) ∧ (x3 = 3 → c3_thingsAt E 19 r2 V2 (fun r92 V92 => Q r92 V92)) ∧ (x3 = 4 → c3_valueAt E 19 r2 V2 (fun r102 V102 => Q r102 V102)) ∧ (x3 = 5 → c3_sumsAt E 19 r2 V2 (fun r112 V112 => Q r112 V112)) ∧ (¬ x3 = 0 → ¬ x3 = 1 → ¬ x3 = 2 → ¬ x3 = 3 → ¬ x3 = 4 → ¬ x3 = 5 → Q (-1) V2)) ∧ (r2 = (-1) → Q (-1) V2))) : w0_placeIs E Q 0 [some (vr 16), some (vi x1), some (vi x2), some (vi x3), none] [] V := by
  refine wp_iload_n dX0_placeIs_0 rfl ?_
  refine wp_iload_n dX0_placeIs_1 rfl ?_
  refine wq_SI2 lk0_23 dX0_placeIs_2 h (rmQ_ok (by decide) (by decide)) ⟨Nat.le_refl _, Nat.le_refl _⟩ (Nat.le_of_ble_eq_true rfl) (fun r2 V2 h => ?_)
  refine wi5_4 dX0_placeIs_5 ?_
  refine wp_iload dX0_placeIs_7 rfl ?_
  refine wp_iconst (v := (-1)) dX0_placeIs_9 rfl ?_
  refine wp_icmp_ne 15 dX0_placeIs_10 (by decide) (fun hc => ?_) (fun hc => ?_)
  · replace h := h.1 hc
    refine wp_iload_n dX0_placeIs_15 rfl ?_
    by_cases hc0 : x3 = 0
    · replace h := h.1 hc0
      rw [hc0]
      refine wp_tableIn 56 dX0_placeIs_16 (by decide) (by decide) rfl (by decide) ?_
      refine wp_aload_n dX0_placeIs_56 rfl ?_
      refine wp_getrs dX0_placeIs_57 fk0_32_0 (cb_16 hC) (ck_16 hC) rfl (cr_0 hC) ?_
      refine wp_iload dX0_placeIs_60 rfl ?_
      refine wp_iald dX0_placeIs_62 (cb_17 hC).2 (ck_17 hC) h.1 ?_
      replace h := h.2
      exact wp_iret dX0_placeIs_63 rfl ⟨_, rfl, rfl, rfl, rfl, h⟩
    · skip
      by_cases hc1 : x3 = 1
      · replace h := h.2.1 hc1
        rw [hc1]
        refine wp_tableIn 64 dX0_placeIs_16 (by decide) (by decide) rfl (by decide) ?_
        refine wp_aload_n dX0_placeIs_64 rfl ?_
        refine wp_getrs dX0_placeIs_65 fk0_47_0 (cb_16 hC) (ck_16 hC) rfl (cr_2 hC) ?_
        refine wp_getrs dX0_placeIs_68 fk0_158_2 (FO.b0 (cf_19 hC)) (FO.k0 (cf_19 hC)) rfl (FO.r0 (cf_19 hC)) ?_
        refine wp_iload dX0_placeIs_71 rfl ?_
        refine wp_iald dX0_placeIs_73 (FO.b1 (cf_19 hC)).2 (FO.k1 (cf_19 hC)) h.1 ?_
        replace h := h.2
        exact wp_iret dX0_placeIs_74 rfl ⟨_, rfl, rfl, rfl, rfl, h⟩
      · skip
        by_cases hc2 : x3 = 2
        · replace h := h.2.2.1 hc2
          rw [hc2]
          refine wp_tableIn 75 dX0_placeIs_16 (by decide) (by decide) rfl (by decide) ?_
          refine wp_aload_n dX0_placeIs_75 rfl ?_
          refine wp_getrs dX0_placeIs_76 fk0_47_0 (cb_16 hC) (ck_16 hC) rfl (cr_2 hC) ?_
          refine wp_getrs dX0_placeIs_79 fk0_172_2 (FO.b0 (cf_19 hC)) (FO.k0 (cf_19 hC)) rfl (FO.r1 (cf_19 hC)) ?_
          refine wp_iload dX0_placeIs_82 rfl ?_
          refine wp_iald dX0_placeIs_84 (FO.b2 (cf_19 hC)).2 (FO.k2 (cf_19 hC)) h.1 ?_
          replace h := h.2
          exact wp_iret dX0_placeIs_85 rfl ⟨_, rfl, rfl, rfl, rfl, h⟩
        · skip
          by_cases hc3 : x3 = 3
          · replace h := h.2.2.2.1 hc3
            rw [hc3]
            refine wp_tableIn 86 dX0_placeIs_16 (by decide) (by decide) rfl (by decide) ?_
            refine wp_aload_n dX0_placeIs_86 rfl ?_
            refine wp_getrs dX0_placeIs_87 fk0_47_0 (cb_16 hC) (ck_16 hC) rfl (cr_2 hC) ?_
            refine wp_iload dX0_placeIs_90 rfl ?_
            refine wq_VI1 lk0_175 rfl (FO.b0 (cf_19 hC)) (FO.k0 (cf_19 hC)) dX0_placeIs_92 h (rmQ_ok (by decide) (by decide)) ⟨Nat.le_refl _, Nat.le_refl _⟩ (Nat.le_of_ble_eq_true rfl) (fun r92 V92 h => ?_)
            exact wp_iret dX0_placeIs_95 rfl ⟨_, rfl, rfl, rfl, rfl, h⟩
          · skip
            by_cases hc4 : x3 = 4
            · replace h := h.2.2.2.2.1 hc4
              rw [hc4]
              refine wp_tableIn 96 dX0_placeIs_16 (by decide) (by decide) rfl (by decide) ?_
              refine wp_aload_n dX0_placeIs_96 rfl ?_
              refine wp_getrs dX0_placeIs_97 fk0_47_0 (cb_16 hC) (ck_16 hC) rfl (cr_2 hC) ?_
              refine wp_iload dX0_placeIs_100 rfl ?_
              refine wq_VI1 lk0_178 rfl (FO.b0 (cf_19 hC)) (FO.k0 (cf_19 hC)) dX0_placeIs_102 h (rmQ_ok (by decide) (by decide)) ⟨Nat.le_refl _, Nat.le_refl _⟩ (Nat.le_of_ble_eq_true rfl) (fun r102 V102 h => ?_)
              exact wp_iret dX0_placeIs_105 rfl ⟨_, rfl, rfl, rfl, rfl, h⟩
            · skip
              by_cases hc5 : x3 = 5
              · replace h := h.2.2.2.2.2.1 hc5
                rw [hc5]
                refine wp_tableIn 106 dX0_placeIs_16 (by decide) (by decide) rfl (by decide) ?_
                refine wp_aload_n dX0_placeIs_106 rfl ?_
                refine wp_getrs dX0_placeIs_107 fk0_47_0 (cb_16 hC) (ck_16 hC) rfl (cr_2 hC) ?_
                refine wp_iload dX0_placeIs_110 rfl ?_
                refine wq_VI1 lk0_161 rfl (FO.b0 (cf_19 hC)) (FO.k0 (cf_19 hC)) dX0_placeIs_112 h (rmQ_ok (by decide) (by decide)) ⟨Nat.le_refl _, Nat.le_refl _⟩ (Nat.le_of_ble_eq_true rfl) (fun r112 V112 h => ?_)
                exact wp_iret dX0_placeIs_115 rfl ⟨_, rfl, rfl, rfl, rfl, h⟩
              · skip
                replace h := h.2.2.2.2.2.2 hc0 hc1 hc2 hc3 hc4 hc5
                refine wp_tableD 116 dX0_placeIs_16 (fun j9 h8 h9 => ?_) (by decide) ?_
                · rcases (show j9 = 0 ∨ j9 = 1 ∨ j9 = 2 ∨ j9 = 3 ∨ j9 = 4 ∨ j9 = 5 by omega) with rfl | rfl | rfl | rfl | rfl | rfl
                  · exact absurd h9 (tab_ne hc0 (by decide))
                  · exact absurd h9 (tab_ne hc1 (by decide))
                  · exact absurd h9 (tab_ne hc2 (by decide))
                  · exact absurd h9 (tab_ne hc3 (by decide))
                  · exact absurd h9 (tab_ne hc4 (by decide))
                  · exact absurd h9 (tab_ne hc5 (by decide))
                refine wp_iconst (v := (-1)) dX0_placeIs_116 rfl ?_
                exact wp_iret dX0_placeIs_117 rfl ⟨_, rfl, rfl, rfl, rfl, h⟩
  · replace h := h.2 hc
    refine wp_iconst (v := (-1)) dX0_placeIs_13 rfl ?_
    exact wp_iret dX0_placeIs_14 rfl ⟨_, rfl, rfl, rfl, rfl, h⟩
theorem n0_placeIs {E : eT} {Q : Int32 → vT → Prop} {V : vT} {x1 x2 x3 : Int32} (h : w0_placeIs E Q 0 [some (vr 16), some (vi x1), some (vi x2), some (vi x3), none] [] V) : c0_placeIs E x1 x2 x3 V Q := MOk.enter [some (vr 16), some (vi x1), some (vi x2), some (vi x3), none] pn_X0 rfl rfl (Nat.le_of_ble_eq_true rfl) rfl h
theorem b0_thingIs_0 {E : eT} {Q : Int32 → vT → Prop} {V : vT} {tl : Nat} {x1 x2 : Int32} (hC : CM E tl) (h : c0_isThing E x1 V (fun r2 V2 => (¬ r2 = 0 → vp_in x1 24 ∧ ((x2 = 0 → Q (V2 (19 + 5 + ((x1).toNatClampNeg)) 0) V2) ∧ (x2 = 1 → Q (V2 (19 + 5 + ((x1).toNatClampNeg)) 1) V2) ∧ (x2 = 2 → Q (V2 (19 + 5 + ((x1).toNatClampNeg)) 2) V2) ∧ (x2 = 3 → ((V2 (19 + 5 + ((x1).toNatClampNeg)) 4) = 0 → Q 0 V2) ∧ (¬ (V2 (19 + 5 + ((x1).toNatClampNeg)) 4) = 0 → Q 1 V2)) ∧ (x2 = 4 → c4_paid E (19 + 5 + ((x1).toNatClampNeg)) V2 (fun r85 V85 => Q r85 V85)) ∧ (¬ x2 = 0 → ¬ x2 = 1 → ¬ x2 = 2 → ¬ x2 = 3 → ¬ x2 = 4 → Q (-1) V2))) ∧ (r2 = 0 → Q (-1) V2))) : w0_thingIs E Q 0 [some (vr 16), some (vi x1), some (vi x2), none] [] V := by
  refine wp_aload_n dX0_thingIs_0 rfl ?_
  refine wp_iload_n dX0_thingIs_1 rfl ?_
  refine wq_VI1 lk0_181 rfl (cb_16 hC) (ck_16 hC) dX0_thingIs_2 h (rmQ_ok (by decide) (by decide)) ⟨Nat.le_refl _, Nat.le_refl _⟩ (Nat.le_of_ble_eq_true rfl) (fun r2 V2 h => ?_)
  refine wp_if_ne 10 dX0_thingIs_5 (by decide) (fun hc => ?_) (fun hc => ?_)
  · replace h := h.1 hc
    refine wp_aload_n dX0_thingIs_10 rfl ?_
    refine wp_getrs dX0_thingIs_11 fk0_47_0 (cb_16 hC) (ck_16 hC) rfl (cr_2 hC) ?_
    refine wp_getrs dX0_thingIs_14 fk0_96_2 (FO.b0 (cf_19 hC)) (FO.k0 (cf_19 hC)) rfl (FO.r3 (cf_19 hC)) ?_
    refine wp_iload_n dX0_thingIs_17 rfl ?_
    have hi18 := h.1.nat.2
    refine wp_aalds dX0_thingIs_18 (FO.b4 (cf_19 hC)).2 (FO.k4 (cf_19 hC)) (by decide) h.1 (FO.rt (cf_19 hC) hi18) ?_
    replace h := h.2
    refine wa4_3 dX0_thingIs_19 ?_
    refine wp_iload_n dX0_thingIs_20 rfl ?_
    by_cases hc0 : x2 = 0
    · replace h := h.1 hc0
      rw [hc0]
      refine wp_tableIn 56 dX0_thingIs_21 (by decide) (by decide) rfl (by decide) ?_
      refine wp_aload_n dX0_thingIs_56 rfl ?_
      refine wp_geti dX0_thingIs_57 fk0_185_3 (FO.bt (cf_19 hC) hi18) (FO.kt (cf_19 hC) hi18) rfl ?_
      exact wp_iret dX0_thingIs_60 rfl ⟨_, rfl, rfl, rfl, rfl, h⟩
    · skip
      by_cases hc1 : x2 = 1
      · replace h := h.2.1 hc1
        rw [hc1]
        refine wp_tableIn 61 dX0_thingIs_21 (by decide) (by decide) rfl (by decide) ?_
        refine wp_aload_n dX0_thingIs_61 rfl ?_
        refine wp_geti dX0_thingIs_62 fk0_188_3 (FO.bt (cf_19 hC) hi18) (FO.kt (cf_19 hC) hi18) rfl ?_
        exact wp_iret dX0_thingIs_65 rfl ⟨_, rfl, rfl, rfl, rfl, h⟩
      · skip
        by_cases hc2 : x2 = 2
        · replace h := h.2.2.1 hc2
          rw [hc2]
          refine wp_tableIn 66 dX0_thingIs_21 (by decide) (by decide) rfl (by decide) ?_
          refine wp_aload_n dX0_thingIs_66 rfl ?_
          refine wp_geti dX0_thingIs_67 fk0_191_3 (FO.bt (cf_19 hC) hi18) (FO.kt (cf_19 hC) hi18) rfl ?_
          exact wp_iret dX0_thingIs_70 rfl ⟨_, rfl, rfl, rfl, rfl, h⟩
        · skip
          by_cases hc3 : x2 = 3
          · replace h := h.2.2.2.1 hc3
            rw [hc3]
            refine wp_tableIn 71 dX0_thingIs_21 (by decide) (by decide) rfl (by decide) ?_
            refine wp_aload_n dX0_thingIs_71 rfl ?_
            refine wp_geti dX0_thingIs_72 fk0_194_3 (FO.bt (cf_19 hC) hi18) (FO.kt (cf_19 hC) hi18) rfl ?_
            refine wp_if_eq 82 dX0_thingIs_75 (by decide) (fun hc => ?_) (fun hc => ?_)
            · replace h := h.1 hc
              refine wp_iconst (v := 0) dX0_thingIs_82 rfl ?_
              exact wp_iret dX0_thingIs_83 rfl ⟨_, rfl, rfl, rfl, rfl, h⟩
            · replace h := h.2 hc
              refine wp_iconst (v := 1) dX0_thingIs_78 rfl ?_
              refine wp_goto 83 dX0_thingIs_79 (by decide) ?_
              exact wp_iret dX0_thingIs_83 rfl ⟨_, rfl, rfl, rfl, rfl, h⟩
          · skip
            by_cases hc4 : x2 = 4
            · replace h := h.2.2.2.2.1 hc4
              rw [hc4]
              refine wp_tableIn 84 dX0_thingIs_21 (by decide) (by decide) rfl (by decide) ?_
              refine wp_aload_n dX0_thingIs_84 rfl ?_
              refine wq_VI0 lk0_197 rfl (FO.bt (cf_19 hC) hi18) (FO.kt (cf_19 hC) hi18) dX0_thingIs_85 h (rmQ_ok (by decide) (by decide)) ⟨Nat.le_refl _, Nat.le_refl _⟩ (Nat.le_of_ble_eq_true rfl) (fun r85 V85 h => ?_)
              exact wp_iret dX0_thingIs_88 rfl ⟨_, rfl, rfl, rfl, rfl, h⟩
            · skip
              replace h := h.2.2.2.2.2 hc0 hc1 hc2 hc3 hc4
              refine wp_tableD 89 dX0_thingIs_21 (fun j9 h8 h9 => ?_) (by decide) ?_
              · rcases (show j9 = 0 ∨ j9 = 1 ∨ j9 = 2 ∨ j9 = 3 ∨ j9 = 4 by omega) with rfl | rfl | rfl | rfl | rfl
                · exact absurd h9 (tab_ne hc0 (by decide))
                · exact absurd h9 (tab_ne hc1 (by decide))
                · exact absurd h9 (tab_ne hc2 (by decide))
                · exact absurd h9 (tab_ne hc3 (by decide))
                · exact absurd h9 (tab_ne hc4 (by decide))
              refine wp_iconst (v := (-1)) dX0_thingIs_89 rfl ?_
              exact wp_iret dX0_thingIs_90 rfl ⟨_, rfl, rfl, rfl, rfl, h⟩
  · replace h := h.2 hc
    refine wp_iconst (v := (-1)) dX0_thingIs_8 rfl ?_
    exact wp_iret dX0_thingIs_9 rfl ⟨_, rfl, rfl, rfl, rfl, h⟩
theorem n0_thingIs {E : eT} {Q : Int32 → vT → Prop} {V : vT} {x1 x2 : Int32} (h : w0_thingIs E Q 0 [some (vr 16), some (vi x1), some (vi x2), none] [] V) : c0_thingIs E x1 x2 V Q := MOk.enter [some (vr 16), some (vi x1), some (vi x2), none] pn_X0 rfl rfl (Nat.le_of_ble_eq_true rfl) rfl h
theorem b0_isThing_0 {E : eT} {Q : Int32 → vT → Prop} {V : vT} {tl : Nat} {x1 : Int32} (hC : CM E tl) (h : c0_in E x1 24 V (fun r3 V3 => (r3 = 0 → Q 0 V3) ∧ (¬ r3 = 0 → vp_in x1 24 ∧ (((V3 (19 + 5 + ((x1).toNatClampNeg)) 3) = 0 → Q 0 V3) ∧ (¬ (V3 (19 + 5 + ((x1).toNatClampNeg)) 3) = 0 → Q 1 V3))))) : w0_isThing E Q 0 [some (vr 16), some (vi x1)] [] V := by
  refine wp_iload_n dX0_isThing_0 rfl ?_
  refine wp_bipush (v := 24) dX0_isThing_1 rfl ?_
  refine wq_SI2 lk0_12 dX0_isThing_3 h (rmQ_ok (by decide) (by decide)) ⟨Nat.le_refl _, Nat.le_refl _⟩ (Nat.le_of_ble_eq_true rfl) (fun r3 V3 h => ?_)
  refine wp_if_eq 28 dX0_isThing_6 (by decide) (fun hc => ?_) (fun hc => ?_)
  · replace h := h.1 hc
    refine wp_iconst (v := 0) dX0_isThing_28 rfl ?_
    exact wp_iret dX0_isThing_29 rfl ⟨_, rfl, rfl, rfl, rfl, h⟩
  · replace h := h.2 hc
    refine wp_aload_n dX0_isThing_9 rfl ?_
    refine wp_getrs dX0_isThing_10 fk0_47_0 (cb_16 hC) (ck_16 hC) rfl (cr_2 hC) ?_
    refine wp_getrs dX0_isThing_13 fk0_96_2 (FO.b0 (cf_19 hC)) (FO.k0 (cf_19 hC)) rfl (FO.r3 (cf_19 hC)) ?_
    refine wp_iload_n dX0_isThing_16 rfl ?_
    have hi17 := h.1.nat.2
    refine wp_aalds dX0_isThing_17 (FO.b4 (cf_19 hC)).2 (FO.k4 (cf_19 hC)) (by decide) h.1 (FO.rt (cf_19 hC) hi17) ?_
    replace h := h.2
    refine wp_geti dX0_isThing_18 fk0_100_3 (FO.bt (cf_19 hC) hi17) (FO.kt (cf_19 hC) hi17) rfl ?_
    refine wp_if_eq 28 dX0_isThing_21 (by decide) (fun hc => ?_) (fun hc => ?_)
    · replace h := h.1 hc
      refine wp_iconst (v := 0) dX0_isThing_28 rfl ?_
      exact wp_iret dX0_isThing_29 rfl ⟨_, rfl, rfl, rfl, rfl, h⟩
    · replace h := h.2 hc
      refine wp_iconst (v := 1) dX0_isThing_24 rfl ?_
      refine wp_goto 29 dX0_isThing_25 (by decide) ?_
      exact wp_iret dX0_isThing_29 rfl ⟨_, rfl, rfl, rfl, rfl, h⟩
theorem n0_isThing {E : eT} {Q : Int32 → vT → Prop} {V : vT} {x1 : Int32} (h : w0_isThing E Q 0 [some (vr 16), some (vi x1)] [] V) : c0_isThing E x1 V Q := MOk.enter [some (vr 16), some (vi x1)] pn_X0 rfl rfl (Nat.le_of_ble_eq_true rfl) rfl h
theorem b0_comes_0 {E : eT} {Q : Int32 → vT → Prop} {V : vT} {tl : Nat} {x1 x2 x3 : Int32} (hC : CM E tl) (h : c0_placeAt E x1 x2 V (fun r2 V2 => (r2 = (-1) → Q (-1) V2) ∧ (¬ r2 = (-1) → c0_within E x3 1 100 V2 (fun r17 V17 => (¬ r17 = 0 → c3_takes E 48 19 V17 (fun V33 => w0_comes E Q 40 [some (vr 16), none, none, some (vi x3), some (vi r2), some (vi 0)] [] V33)) ∧ (r17 = 0 → Q (-1) V17))))) : w0_comes E Q 0 [some (vr 16), some (vi x1), some (vi x2), some (vi x3), none, none] [] V := by
  refine wp_iload_n dX0_comes_0 rfl ?_
  refine wp_iload_n dX0_comes_1 rfl ?_
  refine wq_SI2 lk0_23 dX0_comes_2 h (rmQ_ok (by decide) (by decide)) ⟨Nat.le_refl _, Nat.le_refl _⟩ (Nat.le_of_ble_eq_true rfl) (fun r2 V2 h => ?_)
  refine wi6_4 dX0_comes_5 ?_
  refine wp_iload dX0_comes_7 rfl ?_
  refine wp_iconst (v := (-1)) dX0_comes_9 rfl ?_
  refine wp_icmp_eq 23 dX0_comes_10 (by decide) (fun hc => ?_) (fun hc => ?_)
  · replace h := h.1 hc
    refine wp_iconst (v := (-1)) dX0_comes_23 rfl ?_
    exact wp_iret dX0_comes_24 rfl ⟨_, rfl, rfl, rfl, rfl, h⟩
  · replace h := h.2 hc
    refine wp_iload_n dX0_comes_13 rfl ?_
    refine wp_iconst (v := 1) dX0_comes_14 rfl ?_
    refine wp_bipush (v := 100) dX0_comes_15 rfl ?_
    refine wq_SI3 lk0_113 dX0_comes_17 h (rmQ_ok (by decide) (by decide)) ⟨Nat.le_refl _, Nat.le_refl _⟩ (Nat.le_of_ble_eq_true rfl) (fun r17 V17 h => ?_)
    refine wp_if_ne 25 dX0_comes_20 (by decide) (fun hc => ?_) (fun hc => ?_)
    · replace h := h.1 hc
      refine wp_aload_n dX0_comes_25 rfl ?_
      refine wp_getrs dX0_comes_26 fk0_51_0 (cb_16 hC) (ck_16 hC) rfl (cr_3 hC) ?_
      refine wp_aload_n dX0_comes_29 rfl ?_
      refine wp_getrs dX0_comes_30 fk0_47_0 (cb_16 hC) (ck_16 hC) rfl (cr_2 hC) ?_
      refine wq_VR1 lk0_139 rfl (FO.b0 (cf_48 hC)) (FO.k0 (cf_48 hC)) dX0_comes_33 h (rmQ_ok (by decide) (by decide)) ⟨Nat.le_refl _, Nat.le_refl _⟩ (Nat.le_of_ble_eq_true rfl) (fun r33 V33 h => ?_)
      obtain ⟨rfl, h⟩ := h
      refine wp_pop dX0_comes_36 ?_
      refine wp_iconst (v := 0) dX0_comes_37 rfl ?_
      refine wi6_5 dX0_comes_38 ?_
      exact wp_drop [some (vr 16), none, none, some (vi x3), some (vi r2), some (vi 0)] ⟨rfl, ⟨rfl, ⟨rfl, ⟨rfl, trivial⟩⟩⟩⟩ h
    · replace h := h.2 hc
      refine wp_iconst (v := (-1)) dX0_comes_23 rfl ?_
      exact wp_iret dX0_comes_24 rfl ⟨_, rfl, rfl, rfl, rfl, h⟩
theorem b0_comes_40 {E : eT} {Q : Int32 → vT → Prop} {V : vT} {tl : Nat} {x3 x4 x5 : Int32} (hC : CM E tl) (h : (x3 < x5 → Q (-2) V) ∧ (x5 ≤ x3 → vp_in x4 96 ∧ (((V 49 ((x4).toNatClampNeg)) = 0 → (x5 = x3 → Q (-2) V) ∧ (¬ x5 = x3 → (¬ (V 48 5) = 9999 → c3_minuteGoes E 48 V (fun V88 => w0_comes E Q 40 [some (vr 16), none, none, some (vi x3), some (vi x4), some (vi (x5 + 1))] [] V88)) ∧ ((V 48 5) = 9999 → Q (-2) V))) ∧ (¬ (V 49 ((x4).toNatClampNeg)) = 0 → Q x5 V)))) : w0_comes E Q 40 [some (vr 16), none, none, some (vi x3), some (vi x4), some (vi x5)] [] V := by
  refine wp_iload dX0_comes_40 rfl ?_
  refine wp_iload_n dX0_comes_42 rfl ?_
  refine wp_icmp_gt 97 dX0_comes_43 (by decide) (fun hc => ?_) (fun hc => ?_)
  · replace h := h.1 hc
    refine wp_bipush (v := (-2)) dX0_comes_97 rfl ?_
    exact wp_iret dX0_comes_99 rfl ⟨_, rfl, rfl, rfl, rfl, h⟩
  · replace h := h.2 (Int32.not_lt.mp hc)
    refine wp_aload_n dX0_comes_46 rfl ?_
    refine wp_getrs dX0_comes_47 fk0_51_0 (cb_16 hC) (ck_16 hC) rfl (cr_3 hC) ?_
    refine wp_getrs dX0_comes_50 fk0_158_2 (FO.b0 (cf_48 hC)) (FO.k0 (cf_48 hC)) rfl (FO.r0 (cf_48 hC)) ?_
    refine wp_iload dX0_comes_53 rfl ?_
    refine wp_iald dX0_comes_55 (FO.b1 (cf_48 hC)).2 (FO.k1 (cf_48 hC)) h.1 ?_
    replace h := h.2
    refine wp_if_eq 62 dX0_comes_56 (by decide) (fun hc => ?_) (fun hc => ?_)
    · replace h := h.1 hc
      refine wp_iload dX0_comes_62 rfl ?_
      refine wp_iload_n dX0_comes_64 rfl ?_
      refine wp_icmp_eq 81 dX0_comes_65 (by decide) (fun hc => ?_) (fun hc => ?_)
      · replace h := h.1 hc
        refine wp_bipush (v := (-2)) dX0_comes_81 rfl ?_
        exact wp_iret dX0_comes_83 rfl ⟨_, rfl, rfl, rfl, rfl, h⟩
      · replace h := h.2 hc
        refine wp_aload_n dX0_comes_68 rfl ?_
        refine wp_getrs dX0_comes_69 fk0_51_0 (cb_16 hC) (ck_16 hC) rfl (cr_3 hC) ?_
        refine wp_geti dX0_comes_72 fk0_200_2 (FO.b0 (cf_48 hC)) (FO.k0 (cf_48 hC)) rfl ?_
        refine wp_sipush (v := 9999) dX0_comes_75 rfl ?_
        refine wp_icmp_ne 84 dX0_comes_78 (by decide) (fun hc => ?_) (fun hc => ?_)
        · replace h := h.1 hc
          refine wp_aload_n dX0_comes_84 rfl ?_
          refine wp_getrs dX0_comes_85 fk0_51_0 (cb_16 hC) (ck_16 hC) rfl (cr_3 hC) ?_
          refine wq_VV0 lk0_203 rfl (FO.b0 (cf_48 hC)) (FO.k0 (cf_48 hC)) dX0_comes_88 h (rmQ_ok (by decide) (by decide)) ⟨Nat.le_refl _, Nat.le_refl _⟩ (Nat.le_of_ble_eq_true rfl) (fun V88 h => ?_)
          refine wc6_5 1 dX0_comes_91 rfl ?_
          refine wp_goto 40 dX0_comes_94 (by decide) ?_
          exact h
        · replace h := h.2 hc
          refine wp_bipush (v := (-2)) dX0_comes_81 rfl ?_
          exact wp_iret dX0_comes_83 rfl ⟨_, rfl, rfl, rfl, rfl, h⟩
    · replace h := h.2 hc
      refine wp_iload dX0_comes_59 rfl ?_
      exact wp_iret dX0_comes_61 rfl ⟨_, rfl, rfl, rfl, rfl, h⟩
theorem n0_comes {E : eT} {Q : Int32 → vT → Prop} {V : vT} {x1 x2 x3 : Int32} (h : w0_comes E Q 0 [some (vr 16), some (vi x1), some (vi x2), some (vi x3), none, none] [] V) : c0_comes E x1 x2 x3 V Q := MOk.enter [some (vr 16), some (vi x1), some (vi x2), some (vi x3), none, none] pn_X0 rfl rfl (Nat.le_of_ble_eq_true rfl) rfl h
theorem b0_over_0 {E : eT} {Q : Int32 → vT → Prop} {V : vT} {tl : Nat} {x1 : Int32} (hC : CM E tl) (h : c0_within E x1 1 100 V (fun r4 V4 => (¬ r4 = 0 → c3_takes E 48 19 V4 (fun V20 => w0_over E Q 26 [some (vr 16), some (vi x1), some (vi 0)] [] V20)) ∧ (r4 = 0 → Q (-1) V4))) : w0_over E Q 0 [some (vr 16), some (vi x1), none] [] V := by
  refine wp_iload_n dX0_over_0 rfl ?_
  refine wp_iconst (v := 1) dX0_over_1 rfl ?_
  refine wp_bipush (v := 100) dX0_over_2 rfl ?_
  refine wq_SI3 lk0_113 dX0_over_4 h (rmQ_ok (by decide) (by decide)) ⟨Nat.le_refl _, Nat.le_refl _⟩ (Nat.le_of_ble_eq_true rfl) (fun r4 V4 h => ?_)
  refine wp_if_ne 12 dX0_over_7 (by decide) (fun hc => ?_) (fun hc => ?_)
  · replace h := h.1 hc
    refine wp_aload_n dX0_over_12 rfl ?_
    refine wp_getrs dX0_over_13 fk0_51_0 (cb_16 hC) (ck_16 hC) rfl (cr_3 hC) ?_
    refine wp_aload_n dX0_over_16 rfl ?_
    refine wp_getrs dX0_over_17 fk0_47_0 (cb_16 hC) (ck_16 hC) rfl (cr_2 hC) ?_
    refine wq_VR1 lk0_139 rfl (FO.b0 (cf_48 hC)) (FO.k0 (cf_48 hC)) dX0_over_20 h (rmQ_ok (by decide) (by decide)) ⟨Nat.le_refl _, Nat.le_refl _⟩ (Nat.le_of_ble_eq_true rfl) (fun r20 V20 h => ?_)
    obtain ⟨rfl, h⟩ := h
    refine wp_pop dX0_over_23 ?_
    refine wp_iconst (v := 0) dX0_over_24 rfl ?_
    refine wi3_2 dX0_over_25 ?_
    exact h
  · replace h := h.2 hc
    refine wp_iconst (v := (-1)) dX0_over_10 rfl ?_
    exact wp_iret dX0_over_11 rfl ⟨_, rfl, rfl, rfl, rfl, h⟩
theorem b0_over_26 {E : eT} {Q : Int32 → vT → Prop} {V : vT} {tl : Nat} {x1 x2 : Int32} (hC : CM E tl) (h : (x1 < x2 → Q (-2) V) ∧ (x2 ≤ x1 → c3_those E 48 1 V (fun r36 V36 => (¬ r36 = 0 → (x2 = x1 → Q (-2) V36) ∧ (¬ x2 = x1 → (¬ (V36 48 5) = 9999 → c3_minuteGoes E 48 V36 (fun V69 => w0_over E Q 26 [some (vr 16), some (vi x1), some (vi (x2 + 1))] [] V69)) ∧ ((V36 48 5) = 9999 → Q (-2) V36))) ∧ (r36 = 0 → Q x2 V36)))) : w0_over E Q 26 [some (vr 16), some (vi x1), some (vi x2)] [] V := by
  refine wp_iload_n dX0_over_26 rfl ?_
  refine wp_iload_n dX0_over_27 rfl ?_
  refine wp_icmp_gt 78 dX0_over_28 (by decide) (fun hc => ?_) (fun hc => ?_)
  · replace h := h.1 hc
    refine wp_bipush (v := (-2)) dX0_over_78 rfl ?_
    exact wp_iret dX0_over_80 rfl ⟨_, rfl, rfl, rfl, rfl, h⟩
  · replace h := h.2 (Int32.not_lt.mp hc)
    refine wp_aload_n dX0_over_31 rfl ?_
    refine wp_getrs dX0_over_32 fk0_51_0 (cb_16 hC) (ck_16 hC) rfl (cr_3 hC) ?_
    refine wp_iconst (v := 1) dX0_over_35 rfl ?_
    refine wq_VI1 lk0_154 rfl (FO.b0 (cf_48 hC)) (FO.k0 (cf_48 hC)) dX0_over_36 h (rmQ_ok (by decide) (by decide)) ⟨Nat.le_refl _, Nat.le_refl _⟩ (Nat.le_of_ble_eq_true rfl) (fun r36 V36 h => ?_)
    refine wp_if_ne 44 dX0_over_39 (by decide) (fun hc => ?_) (fun hc => ?_)
    · replace h := h.1 hc
      refine wp_iload_n dX0_over_44 rfl ?_
      refine wp_iload_n dX0_over_45 rfl ?_
      refine wp_icmp_eq 62 dX0_over_46 (by decide) (fun hc => ?_) (fun hc => ?_)
      · replace h := h.1 hc
        refine wp_bipush (v := (-2)) dX0_over_62 rfl ?_
        exact wp_iret dX0_over_64 rfl ⟨_, rfl, rfl, rfl, rfl, h⟩
      · replace h := h.2 hc
        refine wp_aload_n dX0_over_49 rfl ?_
        refine wp_getrs dX0_over_50 fk0_51_0 (cb_16 hC) (ck_16 hC) rfl (cr_3 hC) ?_
        refine wp_geti dX0_over_53 fk0_200_2 (FO.b0 (cf_48 hC)) (FO.k0 (cf_48 hC)) rfl ?_
        refine wp_sipush (v := 9999) dX0_over_56 rfl ?_
        refine wp_icmp_ne 65 dX0_over_59 (by decide) (fun hc => ?_) (fun hc => ?_)
        · replace h := h.1 hc
          refine wp_aload_n dX0_over_65 rfl ?_
          refine wp_getrs dX0_over_66 fk0_51_0 (cb_16 hC) (ck_16 hC) rfl (cr_3 hC) ?_
          refine wq_VV0 lk0_203 rfl (FO.b0 (cf_48 hC)) (FO.k0 (cf_48 hC)) dX0_over_69 h (rmQ_ok (by decide) (by decide)) ⟨Nat.le_refl _, Nat.le_refl _⟩ (Nat.le_of_ble_eq_true rfl) (fun V69 h => ?_)
          refine wc3_2 1 dX0_over_72 rfl ?_
          refine wp_goto 26 dX0_over_75 (by decide) ?_
          exact h
        · replace h := h.2 hc
          refine wp_bipush (v := (-2)) dX0_over_62 rfl ?_
          exact wp_iret dX0_over_64 rfl ⟨_, rfl, rfl, rfl, rfl, h⟩
    · replace h := h.2 hc
      refine wp_iload_n dX0_over_42 rfl ?_
      exact wp_iret dX0_over_43 rfl ⟨_, rfl, rfl, rfl, rfl, h⟩
theorem n0_over {E : eT} {Q : Int32 → vT → Prop} {V : vT} {x1 : Int32} (h : w0_over E Q 0 [some (vr 16), some (vi x1), none] [] V) : c0_over E x1 V Q := MOk.enter [some (vr 16), some (vi x1), none] pn_X0 rfl rfl (Nat.le_of_ble_eq_true rfl) rfl h
theorem b0_steps_0 {E : eT} {Q : Int32 → vT → Prop} {V : vT} {tl : Nat} {x1 x2 : Int32} (hC : CM E tl) (h : c0_in E x1 96 V (fun r3 V3 => (r3 = 0 → Q (-1) V3) ∧ (¬ r3 = 0 → c0_in E x2 96 V3 (fun r12 V12 => (¬ r12 = 0 → c0_isWood E x1 V12 (fun r22 V22 => (r22 = 0 → Q (-3) V22) ∧ (¬ r22 = 0 → c0_isWood E x2 V22 (fun r30 V30 => (¬ r30 = 0 → c0_laysFrom E x1 V30 (fun V41 => vp_in x2 96 ∧ ((¬ (V41 111 ((x2).toNatClampNeg)) = 268435456 → vp_in x2 96 ∧ (Q (V41 111 ((x2).toNatClampNeg)) V41)) ∧ ((V41 111 ((x2).toNatClampNeg)) = 268435456 → Q (-2) V41)))) ∧ (r30 = 0 → Q (-3) V30))))) ∧ (r12 = 0 → Q (-1) V12))))) : w0_steps E Q 0 [some (vr 16), some (vi x1), some (vi x2)] [] V := by
  refine wp_iload_n dX0_steps_0 rfl ?_
  refine wp_bipush (v := 96) dX0_steps_1 rfl ?_
  refine wq_SI2 lk0_12 dX0_steps_3 h (rmQ_ok (by decide) (by decide)) ⟨Nat.le_refl _, Nat.le_refl _⟩ (Nat.le_of_ble_eq_true rfl) (fun r3 V3 h => ?_)
  refine wp_if_eq 18 dX0_steps_6 (by decide) (fun hc => ?_) (fun hc => ?_)
  · replace h := h.1 hc
    refine wp_iconst (v := (-1)) dX0_steps_18 rfl ?_
    exact wp_iret dX0_steps_19 rfl ⟨_, rfl, rfl, rfl, rfl, h⟩
  · replace h := h.2 hc
    refine wp_iload_n dX0_steps_9 rfl ?_
    refine wp_bipush (v := 96) dX0_steps_10 rfl ?_
    refine wq_SI2 lk0_12 dX0_steps_12 h (rmQ_ok (by decide) (by decide)) ⟨Nat.le_refl _, Nat.le_refl _⟩ (Nat.le_of_ble_eq_true rfl) (fun r12 V12 h => ?_)
    refine wp_if_ne 20 dX0_steps_15 (by decide) (fun hc => ?_) (fun hc => ?_)
    · replace h := h.1 hc
      refine wp_aload_n dX0_steps_20 rfl ?_
      refine wp_iload_n dX0_steps_21 rfl ?_
      refine wq_VI1 lk0_213 rfl (cb_16 hC) (ck_16 hC) dX0_steps_22 h (rmQ_ok (by decide) (by decide)) ⟨Nat.le_refl _, Nat.le_refl _⟩ (Nat.le_of_ble_eq_true rfl) (fun r22 V22 h => ?_)
      refine wp_if_eq 36 dX0_steps_25 (by decide) (fun hc => ?_) (fun hc => ?_)
      · replace h := h.1 hc
        refine wp_bipush (v := (-3)) dX0_steps_36 rfl ?_
        exact wp_iret dX0_steps_38 rfl ⟨_, rfl, rfl, rfl, rfl, h⟩
      · replace h := h.2 hc
        refine wp_aload_n dX0_steps_28 rfl ?_
        refine wp_iload_n dX0_steps_29 rfl ?_
        refine wq_VI1 lk0_213 rfl (cb_16 hC) (ck_16 hC) dX0_steps_30 h (rmQ_ok (by decide) (by decide)) ⟨Nat.le_refl _, Nat.le_refl _⟩ (Nat.le_of_ble_eq_true rfl) (fun r30 V30 h => ?_)
        refine wp_if_ne 39 dX0_steps_33 (by decide) (fun hc => ?_) (fun hc => ?_)
        · replace h := h.1 hc
          refine wp_aload_n dX0_steps_39 rfl ?_
          refine wp_iload_n dX0_steps_40 rfl ?_
          refine wq_VV1 lk0_216 rfl (cb_16 hC) (ck_16 hC) dX0_steps_41 h (rmQ_ok (by decide) (by decide)) ⟨Nat.le_refl _, Nat.le_refl _⟩ (Nat.le_of_ble_eq_true rfl) (fun V41 h => ?_)
          refine wp_aload_n dX0_steps_44 rfl ?_
          refine wp_getrs dX0_steps_45 fk0_68_0 (cb_16 hC) (ck_16 hC) rfl (cr_9 hC) ?_
          refine wp_iload_n dX0_steps_48 rfl ?_
          refine wp_iald dX0_steps_49 (cb_111 hC).2 (ck_111 hC) h.1 ?_
          replace h := h.2
          refine wp_ldc (v := 268435456) dX0_steps_50 q1038 ?_
          refine wp_icmp_ne 60 dX0_steps_52 (by decide) (fun hc => ?_) (fun hc => ?_)
          · replace h := h.1 hc
            refine wp_aload_n dX0_steps_60 rfl ?_
            refine wp_getrs dX0_steps_61 fk0_68_0 (cb_16 hC) (ck_16 hC) rfl (cr_9 hC) ?_
            refine wp_iload_n dX0_steps_64 rfl ?_
            refine wp_iald dX0_steps_65 (cb_111 hC).2 (ck_111 hC) h.1 ?_
            replace h := h.2
            exact wp_iret dX0_steps_66 rfl ⟨_, rfl, rfl, rfl, rfl, h⟩
          · replace h := h.2 hc
            refine wp_bipush (v := (-2)) dX0_steps_55 rfl ?_
            refine wp_goto 66 dX0_steps_57 (by decide) ?_
            exact wp_iret dX0_steps_66 rfl ⟨_, rfl, rfl, rfl, rfl, h⟩
        · replace h := h.2 hc
          refine wp_bipush (v := (-3)) dX0_steps_36 rfl ?_
          exact wp_iret dX0_steps_38 rfl ⟨_, rfl, rfl, rfl, rfl, h⟩
    · replace h := h.2 hc
      refine wp_iconst (v := (-1)) dX0_steps_18 rfl ?_
      exact wp_iret dX0_steps_19 rfl ⟨_, rfl, rfl, rfl, rfl, h⟩
theorem n0_steps {E : eT} {Q : Int32 → vT → Prop} {V : vT} {x1 x2 : Int32} (h : w0_steps E Q 0 [some (vr 16), some (vi x1), some (vi x2)] [] V) : c0_steps E x1 x2 V Q := MOk.enter [some (vr 16), some (vi x1), some (vi x2)] pn_X0 rfl rfl (Nat.le_of_ble_eq_true rfl) rfl h
theorem b0_isWood_0 {E : eT} {Q : Int32 → vT → Prop} {V : vT} {tl : Nat} {x1 : Int32} (hC : CM E tl) (h : c0_in E x1 96 V (fun r3 V3 => (r3 = 0 → Q 0 V3) ∧ (¬ r3 = 0 → vp_in x1 96 ∧ ((¬ (V3 17 ((x1).toNatClampNeg)) = 1 → Q 0 V3) ∧ ((V3 17 ((x1).toNatClampNeg)) = 1 → Q 1 V3))))) : w0_isWood E Q 0 [some (vr 16), some (vi x1)] [] V := by
  refine wp_iload_n dX0_isWood_0 rfl ?_
  refine wp_bipush (v := 96) dX0_isWood_1 rfl ?_
  refine wq_SI2 lk0_12 dX0_isWood_3 h (rmQ_ok (by decide) (by decide)) ⟨Nat.le_refl _, Nat.le_refl _⟩ (Nat.le_of_ble_eq_true rfl) (fun r3 V3 h => ?_)
  refine wp_if_eq 23 dX0_isWood_6 (by decide) (fun hc => ?_) (fun hc => ?_)
  · replace h := h.1 hc
    refine wp_iconst (v := 0) dX0_isWood_23 rfl ?_
    exact wp_iret dX0_isWood_24 rfl ⟨_, rfl, rfl, rfl, rfl, h⟩
  · replace h := h.2 hc
    refine wp_aload_n dX0_isWood_9 rfl ?_
    refine wp_getrs dX0_isWood_10 fk0_32_0 (cb_16 hC) (ck_16 hC) rfl (cr_0 hC) ?_
    refine wp_iload_n dX0_isWood_13 rfl ?_
    refine wp_iald dX0_isWood_14 (cb_17 hC).2 (ck_17 hC) h.1 ?_
    replace h := h.2
    refine wp_iconst (v := 1) dX0_isWood_15 rfl ?_
    refine wp_icmp_ne 23 dX0_isWood_16 (by decide) (fun hc => ?_) (fun hc => ?_)
    · replace h := h.1 hc
      refine wp_iconst (v := 0) dX0_isWood_23 rfl ?_
      exact wp_iret dX0_isWood_24 rfl ⟨_, rfl, rfl, rfl, rfl, h⟩
    · replace h := h.2 hc
      refine wp_iconst (v := 1) dX0_isWood_19 rfl ?_
      refine wp_goto 24 dX0_isWood_20 (by decide) ?_
      exact wp_iret dX0_isWood_24 rfl ⟨_, rfl, rfl, rfl, rfl, h⟩
theorem n0_isWood {E : eT} {Q : Int32 → vT → Prop} {V : vT} {x1 : Int32} (h : w0_isWood E Q 0 [some (vr 16), some (vi x1)] [] V) : c0_isWood E x1 V Q := MOk.enter [some (vr 16), some (vi x1)] pn_X0 rfl rfl (Nat.le_of_ble_eq_true rfl) rfl h
theorem b0_laysFrom_0 {E : eT} {Q : vT → Prop} {V : vT} {tl : Nat} {x1 : Int32} (hC : CM E tl) (h : w0_laysFrom E Q 2 [some (vr 16), some (vi x1), some (vi 0)] [] V) : w0_laysFrom E Q 0 [some (vr 16), some (vi x1), none] [] V := by
  refine wp_iconst (v := 0) dX0_laysFrom_0 rfl ?_
  refine wi3_2 dX0_laysFrom_1 ?_
  exact h
theorem b0_laysFrom_2 {E : eT} {Q : vT → Prop} {V : vT} {tl : Nat} {x1 x2 : Int32} (hC : CM E tl) (h : (96 ≤ x2 → c0_spreads E V (fun V32 => Q V32)) ∧ (x2 < 96 → (¬ x2 = x1 → vp_in x2 96 ∧ (w0_laysFrom E Q 2 [some (vr 16), some (vi x1), some (vi (x2 + 1))] [] (up2 V 111 (x2.toNatClampNeg) 268435456))) ∧ (x2 = x1 → vp_in x2 96 ∧ (w0_laysFrom E Q 2 [some (vr 16), some (vi x1), some (vi (x2 + 1))] [] (up2 V 111 (x2.toNatClampNeg) 0))))) : w0_laysFrom E Q 2 [some (vr 16), some (vi x1), some (vi x2)] [] V := by
  refine wp_iload_n dX0_laysFrom_2 rfl ?_
  refine wp_bipush (v := 96) dX0_laysFrom_3 rfl ?_
  refine wp_icmp_ge 31 dX0_laysFrom_5 (by decide) (fun hc => ?_) (fun hc => ?_)
  · replace h := h.1 hc
    refine wp_aload_n dX0_laysFrom_31 rfl ?_
    refine wq_VV0 lk0_210 rfl (cb_16 hC) (ck_16 hC) dX0_laysFrom_32 h (rmQ_ok (by decide) (by decide)) ⟨Nat.le_refl _, Nat.le_refl _⟩ (Nat.le_of_ble_eq_true rfl) (fun V32 h => ?_)
    exact wp_vret dX0_laysFrom_35 ⟨rfl, rfl, rfl, rfl, h⟩
  · replace h := h.2 (Int32.not_le.mp hc)
    refine wp_aload_n dX0_laysFrom_8 rfl ?_
    refine wp_getrs dX0_laysFrom_9 fk0_68_0 (cb_16 hC) (ck_16 hC) rfl (cr_9 hC) ?_
    refine wp_iload_n dX0_laysFrom_12 rfl ?_
    refine wp_iload_n dX0_laysFrom_13 rfl ?_
    refine wp_iload_n dX0_laysFrom_14 rfl ?_
    refine wp_icmp_ne 22 dX0_laysFrom_15 (by decide) (fun hc => ?_) (fun hc => ?_)
    · replace h := h.1 hc
      refine wp_ldc (v := 268435456) dX0_laysFrom_22 q1038 ?_
      refine wp_iast dX0_laysFrom_24 (cb_111 hC) (ck_111 hC) h.1 ?_
      replace h := h.2
      refine wc3_2 1 dX0_laysFrom_25 rfl ?_
      refine wp_goto 2 dX0_laysFrom_28 (by decide) ?_
      exact h
    · replace h := h.2 hc
      refine wp_iconst (v := 0) dX0_laysFrom_18 rfl ?_
      refine wp_goto 24 dX0_laysFrom_19 (by decide) ?_
      refine wp_iast dX0_laysFrom_24 (cb_111 hC) (ck_111 hC) h.1 ?_
      replace h := h.2
      refine wc3_2 1 dX0_laysFrom_25 rfl ?_
      refine wp_goto 2 dX0_laysFrom_28 (by decide) ?_
      exact h
theorem n0_laysFrom {E : eT} {Q : vT → Prop} {V : vT} {x1 : Int32} (h : w0_laysFrom E Q 0 [some (vr 16), some (vi x1), none] [] V) : c0_laysFrom E x1 V Q := MOk.enter [some (vr 16), some (vi x1), none] pn_X0 rfl rfl (Nat.le_of_ble_eq_true rfl) rfl h
theorem b0_spreads_0 {E : eT} {Q : vT → Prop} {V : vT} {tl : Nat} (hC : CM E tl) (h : w0_spreads E Q 4 [some (vr 16), some (vi 1), some (vi 0), none, none, none] [] V) : w0_spreads E Q 0 [some (vr 16), none, none, none, none, none] [] V := by
  refine wp_iconst (v := 1) dX0_spreads_0 rfl ?_
  refine wi6_1 dX0_spreads_1 ?_
  refine wp_iconst (v := 0) dX0_spreads_2 rfl ?_
  refine wi6_2 dX0_spreads_3 ?_
  exact h
theorem b0_spreads_4 {E : eT} {Q : vT → Prop} {V : vT} {tl : Nat} {x1 x2 : Int32} (hC : CM E tl) (h : (x1 = 0 → Q V) ∧ (¬ x1 = 0 → w0_spreads E Q 12 [some (vr 16), some (vi 0), some (vi x2), some (vi 0), none, none] [] V)) : w0_spreads E Q 4 [some (vr 16), some (vi x1), some (vi x2), none, none, none] [] V := by
  refine wp_iload_n dX0_spreads_4 rfl ?_
  refine wp_if_eq 108 dX0_spreads_5 (by decide) (fun hc => ?_) (fun hc => ?_)
  · replace h := h.1 hc
    exact wp_vret dX0_spreads_108 ⟨rfl, rfl, rfl, rfl, h⟩
  · replace h := h.2 hc
    refine wp_iconst (v := 0) dX0_spreads_8 rfl ?_
    refine wi6_1 dX0_spreads_9 ?_
    refine wp_iconst (v := 0) dX0_spreads_10 rfl ?_
    refine wi6_3 dX0_spreads_11 ?_
    exact h
theorem b0_spreads_12 {E : eT} {Q : vT → Prop} {V : vT} {tl : Nat} {x1 x2 x3 : Int32} (hC : CM E tl) (h : (96 ≤ x3 → w0_spreads E Q 4 [some (vr 16), some (vi x1), some (vi (x2 + 1)), none, none, none] [] V) ∧ (x3 < 96 → w0_spreads E Q 21 [some (vr 16), some (vi x1), some (vi x2), some (vi x3), some (vi 0), none] [] V)) : w0_spreads E Q 12 [some (vr 16), some (vi x1), some (vi x2), some (vi x3), none, none] [] V := by
  refine wp_iload_n dX0_spreads_12 rfl ?_
  refine wp_bipush (v := 96) dX0_spreads_13 rfl ?_
  refine wp_icmp_ge 102 dX0_spreads_15 (by decide) (fun hc => ?_) (fun hc => ?_)
  · replace h := h.1 hc
    refine wc6_2 1 dX0_spreads_102 rfl ?_
    refine wp_goto 4 dX0_spreads_105 (by decide) ?_
    exact wp_drop [some (vr 16), some (vi x1), some (vi (x2 + 1)), none, none, none] ⟨rfl, ⟨rfl, ⟨rfl, trivial⟩⟩⟩ h
  · replace h := h.2 (Int32.not_le.mp hc)
    refine wp_iconst (v := 0) dX0_spreads_18 rfl ?_
    refine wi6_4 dX0_spreads_19 ?_
    exact h
theorem b0_spreads_21 {E : eT} {Q : vT → Prop} {V : vT} {tl : Nat} {x1 x2 x3 x4 : Int32} (hC : CM E tl) (h : (4 ≤ x4 → w0_spreads E Q 12 [some (vr 16), some (vi x1), some (vi x2), some (vi (x3 + 1)), none, none] [] V) ∧ (x4 < 4 → vp_in x3 96 ∧ ((¬ (V 111 ((x3).toNatClampNeg)) = x2 → w0_spreads E Q 12 [some (vr 16), some (vi x1), some (vi x2), some (vi (x3 + 1)), none, none] [] V) ∧ ((V 111 ((x3).toNatClampNeg)) = x2 → c0_next E x3 x4 V (fun r40 V40 => (r40 = (-1) → w0_spreads E Q 21 [some (vr 16), some (vi x1), some (vi x2), some (vi x3), some (vi (x4 + 1)), none] [] V40) ∧ (¬ r40 = (-1) → vp_in r40 96 ∧ ((¬ (V40 17 ((r40).toNatClampNeg)) = 1 → w0_spreads E Q 21 [some (vr 16), some (vi x1), some (vi x2), some (vi x3), some (vi (x4 + 1)), none] [] V40) ∧ ((V40 17 ((r40).toNatClampNeg)) = 1 → vp_in r40 96 ∧ (((x2 + 1) < (V40 111 ((r40).toNatClampNeg)) → vp_in r40 96 ∧ (w0_spreads E Q 21 [some (vr 16), some (vi 1), some (vi x2), some (vi x3), some (vi (x4 + 1)), none] [] (up2 V40 111 (r40.toNatClampNeg) (x2 + 1)))) ∧ ((V40 111 ((r40).toNatClampNeg)) ≤ (x2 + 1) → w0_spreads E Q 21 [some (vr 16), some (vi x1), some (vi x2), some (vi x3), some (vi (x4 + 1)), none] [] V40)))))))))) : w0_spreads E Q 21 [some (vr 16), some (vi x1), some (vi x2), some (vi x3), some (vi x4), none] [] V := by
  refine wp_iload dX0_spreads_21 rfl ?_
  refine wp_iconst (v := 4) dX0_spreads_23 rfl ?_
  refine wp_icmp_ge 96 dX0_spreads_24 (by decide) (fun hc => ?_) (fun hc => ?_)
  · replace h := h.1 hc
    refine wc6_3 1 dX0_spreads_96 rfl ?_
    refine wp_goto 12 dX0_spreads_99 (by decide) ?_
    exact wp_drop [some (vr 16), some (vi x1), some (vi x2), some (vi (x3 + 1)), none, none] ⟨rfl, ⟨rfl, ⟨rfl, ⟨rfl, trivial⟩⟩⟩⟩ h
  · replace h := h.2 (Int32.not_le.mp hc)
    refine wp_aload_n dX0_spreads_27 rfl ?_
    refine wp_getrs dX0_spreads_28 fk0_68_0 (cb_16 hC) (ck_16 hC) rfl (cr_9 hC) ?_
    refine wp_iload_n dX0_spreads_31 rfl ?_
    refine wp_iald dX0_spreads_32 (cb_111 hC).2 (ck_111 hC) h.1 ?_
    replace h := h.2
    refine wp_iload_n dX0_spreads_33 rfl ?_
    refine wp_icmp_ne 96 dX0_spreads_34 (by decide) (fun hc => ?_) (fun hc => ?_)
    · replace h := h.1 hc
      refine wc6_3 1 dX0_spreads_96 rfl ?_
      refine wp_goto 12 dX0_spreads_99 (by decide) ?_
      exact wp_drop [some (vr 16), some (vi x1), some (vi x2), some (vi (x3 + 1)), none, none] ⟨rfl, ⟨rfl, ⟨rfl, ⟨rfl, trivial⟩⟩⟩⟩ h
    · replace h := h.2 hc
      refine wp_iload_n dX0_spreads_37 rfl ?_
      refine wp_iload dX0_spreads_38 rfl ?_
      refine wq_SI2 lk0_206 dX0_spreads_40 h (rmQ_ok (by decide) (by decide)) ⟨Nat.le_refl _, Nat.le_refl _⟩ (Nat.le_of_ble_eq_true rfl) (fun r40 V40 h => ?_)
      refine wi6_5 dX0_spreads_43 ?_
      refine wp_iload dX0_spreads_45 rfl ?_
      refine wp_iconst (v := (-1)) dX0_spreads_47 rfl ?_
      refine wp_icmp_eq 90 dX0_spreads_48 (by decide) (fun hc => ?_) (fun hc => ?_)
      · replace h := h.1 hc
        refine wc6_4 1 dX0_spreads_90 rfl ?_
        refine wp_goto 21 dX0_spreads_93 (by decide) ?_
        exact wp_drop [some (vr 16), some (vi x1), some (vi x2), some (vi x3), some (vi (x4 + 1)), none] ⟨rfl, ⟨rfl, ⟨rfl, ⟨rfl, ⟨rfl, trivial⟩⟩⟩⟩⟩ h
      · replace h := h.2 hc
        refine wp_aload_n dX0_spreads_51 rfl ?_
        refine wp_getrs dX0_spreads_52 fk0_32_0 (cb_16 hC) (ck_16 hC) rfl (cr_0 hC) ?_
        refine wp_iload dX0_spreads_55 rfl ?_
        refine wp_iald dX0_spreads_57 (cb_17 hC).2 (ck_17 hC) h.1 ?_
        replace h := h.2
        refine wp_iconst (v := 1) dX0_spreads_58 rfl ?_
        refine wp_icmp_ne 90 dX0_spreads_59 (by decide) (fun hc => ?_) (fun hc => ?_)
        · replace h := h.1 hc
          refine wc6_4 1 dX0_spreads_90 rfl ?_
          refine wp_goto 21 dX0_spreads_93 (by decide) ?_
          exact wp_drop [some (vr 16), some (vi x1), some (vi x2), some (vi x3), some (vi (x4 + 1)), none] ⟨rfl, ⟨rfl, ⟨rfl, ⟨rfl, ⟨rfl, trivial⟩⟩⟩⟩⟩ h
        · replace h := h.2 hc
          refine wp_aload_n dX0_spreads_62 rfl ?_
          refine wp_getrs dX0_spreads_63 fk0_68_0 (cb_16 hC) (ck_16 hC) rfl (cr_9 hC) ?_
          refine wp_iload dX0_spreads_66 rfl ?_
          refine wp_iald dX0_spreads_68 (cb_111 hC).2 (ck_111 hC) h.1 ?_
          replace h := h.2
          refine wp_iload_n dX0_spreads_69 rfl ?_
          refine wp_iconst (v := 1) dX0_spreads_70 rfl ?_
          refine wp_iadd dX0_spreads_71 ?_
          refine wp_icmp_gt 78 dX0_spreads_72 (by decide) (fun hc => ?_) (fun hc => ?_)
          · replace h := h.1 hc
            refine wp_aload_n dX0_spreads_78 rfl ?_
            refine wp_getrs dX0_spreads_79 fk0_68_0 (cb_16 hC) (ck_16 hC) rfl (cr_9 hC) ?_
            refine wp_iload dX0_spreads_82 rfl ?_
            refine wp_iload_n dX0_spreads_84 rfl ?_
            refine wp_iconst (v := 1) dX0_spreads_85 rfl ?_
            refine wp_iadd dX0_spreads_86 ?_
            refine wp_iast dX0_spreads_87 (cb_111 hC) (ck_111 hC) h.1 ?_
            replace h := h.2
            refine wp_iconst (v := 1) dX0_spreads_88 rfl ?_
            refine wi6_1 dX0_spreads_89 ?_
            refine wc6_4 1 dX0_spreads_90 rfl ?_
            refine wp_goto 21 dX0_spreads_93 (by decide) ?_
            exact wp_drop [some (vr 16), some (vi 1), some (vi x2), some (vi x3), some (vi (x4 + 1)), none] ⟨rfl, ⟨rfl, ⟨rfl, ⟨rfl, ⟨rfl, trivial⟩⟩⟩⟩⟩ h
          · replace h := h.2 (Int32.not_lt.mp hc)
            refine wp_goto 90 dX0_spreads_75 (by decide) ?_
            refine wc6_4 1 dX0_spreads_90 rfl ?_
            refine wp_goto 21 dX0_spreads_93 (by decide) ?_
            exact wp_drop [some (vr 16), some (vi x1), some (vi x2), some (vi x3), some (vi (x4 + 1)), none] ⟨rfl, ⟨rfl, ⟨rfl, ⟨rfl, ⟨rfl, trivial⟩⟩⟩⟩⟩ h
theorem n0_spreads {E : eT} {Q : vT → Prop} {V : vT} (h : w0_spreads E Q 0 [some (vr 16), none, none, none, none, none] [] V) : c0_spreads E V Q := MOk.enter [some (vr 16), none, none, none, none, none] pn_X0 rfl rfl (Nat.le_of_ble_eq_true rfl) rfl h
theorem b0_began_0 {E : eT} {Q : Int32 → vT → Prop} {V : vT} {tl : Nat} {x1 x2 : Int32} (hC : CM E tl) (h : c0_within E x1 0 60 V (fun r4 V4 => (r4 = 0 → Q (-1) V4) ∧ (¬ r4 = 0 → c0_in E x2 2 V4 (fun r12 V12 => (¬ r12 = 0 → w0_began E Q 29 [some (vr 16), some (vi x1), some (vi x2), some (vi 0), some (vi (-2)), some (vi 0)] [] V12) ∧ (r12 = 0 → Q (-1) V12))))) : w0_began E Q 0 [some (vr 16), some (vi x1), some (vi x2), none, none, none] [] V := by
  refine wp_iload_n dX0_began_0 rfl ?_
  refine wp_iconst (v := 0) dX0_began_1 rfl ?_
  refine wp_bipush (v := 60) dX0_began_2 rfl ?_
  refine wq_SI3 lk0_113 dX0_began_4 h (rmQ_ok (by decide) (by decide)) ⟨Nat.le_refl _, Nat.le_refl _⟩ (Nat.le_of_ble_eq_true rfl) (fun r4 V4 h => ?_)
  refine wp_if_eq 18 dX0_began_7 (by decide) (fun hc => ?_) (fun hc => ?_)
  · replace h := h.1 hc
    refine wp_iconst (v := (-1)) dX0_began_18 rfl ?_
    exact wp_iret dX0_began_19 rfl ⟨_, rfl, rfl, rfl, rfl, h⟩
  · replace h := h.2 hc
    refine wp_iload_n dX0_began_10 rfl ?_
    refine wp_iconst (v := 2) dX0_began_11 rfl ?_
    refine wq_SI2 lk0_12 dX0_began_12 h (rmQ_ok (by decide) (by decide)) ⟨Nat.le_refl _, Nat.le_refl _⟩ (Nat.le_of_ble_eq_true rfl) (fun r12 V12 h => ?_)
    refine wp_if_ne 20 dX0_began_15 (by decide) (fun hc => ?_) (fun hc => ?_)
    · replace h := h.1 hc
      refine wp_iconst (v := 0) dX0_began_20 rfl ?_
      refine wi6_3 dX0_began_21 ?_
      refine wp_bipush (v := (-2)) dX0_began_22 rfl ?_
      refine wi6_4 dX0_began_24 ?_
      refine wp_iconst (v := 0) dX0_began_26 rfl ?_
      refine wi6_5 dX0_began_27 ?_
      exact h
    · replace h := h.2 hc
      refine wp_iconst (v := (-1)) dX0_began_18 rfl ?_
      exact wp_iret dX0_began_19 rfl ⟨_, rfl, rfl, rfl, rfl, h⟩
theorem b0_began_29 {E : eT} {Q : Int32 → vT → Prop} {V : vT} {tl : Nat} {x1 x2 x3 x4 x5 : Int32} (hC : CM E tl) (h : (96 ≤ x5 → (¬ x2 = 0 → Q x4 V) ∧ (x2 = 0 → Q x3 V)) ∧ (x5 < 96 → c0_isWood E x5 V (fun r39 V39 => (¬ r39 = 0 → c0_laysFrom E x5 V39 (fun V51 => c0_isSo E x1 V51 (fun r56 V56 => (¬ r56 = 0 → (¬ x4 = (-2) → w0_began E Q 29 [some (vr 16), some (vi x1), some (vi x2), some (vi (x3 + 1)), some (vi x4), some (vi (x5 + 1))] [] V56) ∧ (x4 = (-2) → w0_began E Q 29 [some (vr 16), some (vi x1), some (vi x2), some (vi (x3 + 1)), some (vi x5), some (vi (x5 + 1))] [] V56)) ∧ (r56 = 0 → w0_began E Q 29 [some (vr 16), some (vi x1), some (vi x2), some (vi x3), some (vi x4), some (vi (x5 + 1))] [] V56)))) ∧ (r39 = 0 → w0_began E Q 29 [some (vr 16), some (vi x1), some (vi x2), some (vi x3), some (vi x4), some (vi (x5 + 1))] [] V39)))) : w0_began E Q 29 [some (vr 16), some (vi x1), some (vi x2), some (vi x3), some (vi x4), some (vi x5)] [] V := by
  refine wp_iload dX0_began_29 rfl ?_
  refine wp_bipush (v := 96) dX0_began_31 rfl ?_
  refine wp_icmp_ge 90 dX0_began_33 (by decide) (fun hc => ?_) (fun hc => ?_)
  · replace h := h.1 hc
    refine wp_iload_n dX0_began_90 rfl ?_
    refine wp_if_ne 98 dX0_began_91 (by decide) (fun hc => ?_) (fun hc => ?_)
    · replace h := h.1 hc
      refine wp_iload dX0_began_98 rfl ?_
      exact wp_iret dX0_began_100 rfl ⟨_, rfl, rfl, rfl, rfl, h⟩
    · replace h := h.2 hc
      refine wp_iload_n dX0_began_94 rfl ?_
      refine wp_goto 100 dX0_began_95 (by decide) ?_
      exact wp_iret dX0_began_100 rfl ⟨_, rfl, rfl, rfl, rfl, h⟩
  · replace h := h.2 (Int32.not_le.mp hc)
    refine wp_aload_n dX0_began_36 rfl ?_
    refine wp_iload dX0_began_37 rfl ?_
    refine wq_VI1 lk0_213 rfl (cb_16 hC) (ck_16 hC) dX0_began_39 h (rmQ_ok (by decide) (by decide)) ⟨Nat.le_refl _, Nat.le_refl _⟩ (Nat.le_of_ble_eq_true rfl) (fun r39 V39 h => ?_)
    refine wp_if_ne 48 dX0_began_42 (by decide) (fun hc => ?_) (fun hc => ?_)
    · replace h := h.1 hc
      refine wp_aload_n dX0_began_48 rfl ?_
      refine wp_iload dX0_began_49 rfl ?_
      refine wq_VV1 lk0_216 rfl (cb_16 hC) (ck_16 hC) dX0_began_51 h (rmQ_ok (by decide) (by decide)) ⟨Nat.le_refl _, Nat.le_refl _⟩ (Nat.le_of_ble_eq_true rfl) (fun V51 h => ?_)
      refine wp_aload_n dX0_began_54 rfl ?_
      refine wp_iload_n dX0_began_55 rfl ?_
      refine wq_VI1 lk0_219 rfl (cb_16 hC) (ck_16 hC) dX0_began_56 h (rmQ_ok (by decide) (by decide)) ⟨Nat.le_refl _, Nat.le_refl _⟩ (Nat.le_of_ble_eq_true rfl) (fun r56 V56 h => ?_)
      refine wp_if_ne 65 dX0_began_59 (by decide) (fun hc => ?_) (fun hc => ?_)
      · replace h := h.1 hc
        refine wc6_3 1 dX0_began_65 rfl ?_
        refine wp_iload dX0_began_68 rfl ?_
        refine wp_bipush (v := (-2)) dX0_began_70 rfl ?_
        refine wp_icmp_ne 80 dX0_began_72 (by decide) (fun hc => ?_) (fun hc => ?_)
        · replace h := h.1 hc
          refine wp_iload dX0_began_80 rfl ?_
          refine wi6_4 dX0_began_82 ?_
          refine wc6_5 1 dX0_began_84 rfl ?_
          refine wp_goto 29 dX0_began_87 (by decide) ?_
          exact h
        · replace h := h.2 hc
          refine wp_iload dX0_began_75 rfl ?_
          refine wp_goto 82 dX0_began_77 (by decide) ?_
          refine wi6_4 dX0_began_82 ?_
          refine wc6_5 1 dX0_began_84 rfl ?_
          refine wp_goto 29 dX0_began_87 (by decide) ?_
          exact h
      · replace h := h.2 hc
        refine wp_goto 84 dX0_began_62 (by decide) ?_
        refine wc6_5 1 dX0_began_84 rfl ?_
        refine wp_goto 29 dX0_began_87 (by decide) ?_
        exact h
    · replace h := h.2 hc
      refine wp_goto 84 dX0_began_45 (by decide) ?_
      refine wc6_5 1 dX0_began_84 rfl ?_
      refine wp_goto 29 dX0_began_87 (by decide) ?_
      exact h
theorem n0_began {E : eT} {Q : Int32 → vT → Prop} {V : vT} {x1 x2 : Int32} (h : w0_began E Q 0 [some (vr 16), some (vi x1), some (vi x2), none, none, none] [] V) : c0_began E x1 x2 V Q := MOk.enter [some (vr 16), some (vi x1), some (vi x2), none, none, none] pn_X0 rfl rfl (Nat.le_of_ble_eq_true rfl) rfl h
theorem b0_isSo_0 {E : eT} {Q : Int32 → vT → Prop} {V : vT} {tl : Nat} {x1 : Int32} (hC : CM E tl) (h : w0_isSo E Q 2 [some (vr 16), some (vi x1), some (vi 0)] [] V) : w0_isSo E Q 0 [some (vr 16), some (vi x1), none] [] V := by
  refine wp_iconst (v := 0) dX0_isSo_0 rfl ?_
  refine wi3_2 dX0_isSo_1 ?_
  exact h
theorem b0_isSo_2 {E : eT} {Q : Int32 → vT → Prop} {V : vT} {tl : Nat} {x1 x2 : Int32} (hC : CM E tl) (h : (96 ≤ x2 → Q 1 V) ∧ (x2 < 96 → vp_in x2 96 ∧ ((¬ (V 17 ((x2).toNatClampNeg)) = 1 → w0_isSo E Q 2 [some (vr 16), some (vi x1), some (vi (x2 + 1))] [] V) ∧ ((V 17 ((x2).toNatClampNeg)) = 1 → vp_in x2 96 ∧ ((x1 < (V 111 ((x2).toNatClampNeg)) → vp_in x2 96 ∧ (((V 20 ((x2).toNatClampNeg)) = 0 → w0_isSo E Q 2 [some (vr 16), some (vi x1), some (vi (x2 + 1))] [] V) ∧ (¬ (V 20 ((x2).toNatClampNeg)) = 0 → Q 0 V))) ∧ ((V 111 ((x2).toNatClampNeg)) ≤ x1 → vp_in x2 96 ∧ (((V 20 ((x2).toNatClampNeg)) = 0 → Q 0 V) ∧ (¬ (V 20 ((x2).toNatClampNeg)) = 0 → w0_isSo E Q 2 [some (vr 16), some (vi x1), some (vi (x2 + 1))] [] V)))))))) : w0_isSo E Q 2 [some (vr 16), some (vi x1), some (vi x2)] [] V := by
  refine wp_iload_n dX0_isSo_2 rfl ?_
  refine wp_bipush (v := 96) dX0_isSo_3 rfl ?_
  refine wp_icmp_ge 61 dX0_isSo_5 (by decide) (fun hc => ?_) (fun hc => ?_)
  · replace h := h.1 hc
    refine wp_iconst (v := 1) dX0_isSo_61 rfl ?_
    exact wp_iret dX0_isSo_62 rfl ⟨_, rfl, rfl, rfl, rfl, h⟩
  · replace h := h.2 (Int32.not_le.mp hc)
    refine wp_aload_n dX0_isSo_8 rfl ?_
    refine wp_getrs dX0_isSo_9 fk0_32_0 (cb_16 hC) (ck_16 hC) rfl (cr_0 hC) ?_
    refine wp_iload_n dX0_isSo_12 rfl ?_
    refine wp_iald dX0_isSo_13 (cb_17 hC).2 (ck_17 hC) h.1 ?_
    replace h := h.2
    refine wp_iconst (v := 1) dX0_isSo_14 rfl ?_
    refine wp_icmp_ne 55 dX0_isSo_15 (by decide) (fun hc => ?_) (fun hc => ?_)
    · replace h := h.1 hc
      refine wc3_2 1 dX0_isSo_55 rfl ?_
      refine wp_goto 2 dX0_isSo_58 (by decide) ?_
      exact h
    · replace h := h.2 hc
      refine wp_aload_n dX0_isSo_18 rfl ?_
      refine wp_getrs dX0_isSo_19 fk0_68_0 (cb_16 hC) (ck_16 hC) rfl (cr_9 hC) ?_
      refine wp_iload_n dX0_isSo_22 rfl ?_
      refine wp_iald dX0_isSo_23 (cb_111 hC).2 (ck_111 hC) h.1 ?_
      replace h := h.2
      refine wp_iload_n dX0_isSo_24 rfl ?_
      refine wp_icmp_gt 32 dX0_isSo_25 (by decide) (fun hc => ?_) (fun hc => ?_)
      · replace h := h.1 hc
        refine wp_iconst (v := 0) dX0_isSo_32 rfl ?_
        refine wp_aload_n dX0_isSo_33 rfl ?_
        refine wp_getrs dX0_isSo_34 fk0_47_0 (cb_16 hC) (ck_16 hC) rfl (cr_2 hC) ?_
        refine wp_getrs dX0_isSo_37 fk0_158_2 (FO.b0 (cf_19 hC)) (FO.k0 (cf_19 hC)) rfl (FO.r0 (cf_19 hC)) ?_
        refine wp_iload_n dX0_isSo_40 rfl ?_
        refine wp_iald dX0_isSo_41 (FO.b1 (cf_19 hC)).2 (FO.k1 (cf_19 hC)) h.1 ?_
        replace h := h.2
        refine wp_if_eq 49 dX0_isSo_42 (by decide) (fun hc => ?_) (fun hc => ?_)
        · replace h := h.1 hc
          refine wp_iconst (v := 0) dX0_isSo_49 rfl ?_
          refine wp_icmp_eq 55 dX0_isSo_50 (by decide) (fun _ => ?_) (fun hc => absurd hc (by decide))
          refine wc3_2 1 dX0_isSo_55 rfl ?_
          refine wp_goto 2 dX0_isSo_58 (by decide) ?_
          exact h
        · replace h := h.2 hc
          refine wp_iconst (v := 1) dX0_isSo_45 rfl ?_
          refine wp_goto 50 dX0_isSo_46 (by decide) ?_
          refine wp_icmp_eq 55 dX0_isSo_50 (by decide) (fun hc => absurd hc (by decide)) (fun _ => ?_)
          refine wp_iconst (v := 0) dX0_isSo_53 rfl ?_
          exact wp_iret dX0_isSo_54 rfl ⟨_, rfl, rfl, rfl, rfl, h⟩
      · replace h := h.2 (Int32.not_lt.mp hc)
        refine wp_iconst (v := 1) dX0_isSo_28 rfl ?_
        refine wp_goto 33 dX0_isSo_29 (by decide) ?_
        refine wp_aload_n dX0_isSo_33 rfl ?_
        refine wp_getrs dX0_isSo_34 fk0_47_0 (cb_16 hC) (ck_16 hC) rfl (cr_2 hC) ?_
        refine wp_getrs dX0_isSo_37 fk0_158_2 (FO.b0 (cf_19 hC)) (FO.k0 (cf_19 hC)) rfl (FO.r0 (cf_19 hC)) ?_
        refine wp_iload_n dX0_isSo_40 rfl ?_
        refine wp_iald dX0_isSo_41 (FO.b1 (cf_19 hC)).2 (FO.k1 (cf_19 hC)) h.1 ?_
        replace h := h.2
        refine wp_if_eq 49 dX0_isSo_42 (by decide) (fun hc => ?_) (fun hc => ?_)
        · replace h := h.1 hc
          refine wp_iconst (v := 0) dX0_isSo_49 rfl ?_
          refine wp_icmp_eq 55 dX0_isSo_50 (by decide) (fun hc => absurd hc (by decide)) (fun _ => ?_)
          refine wp_iconst (v := 0) dX0_isSo_53 rfl ?_
          exact wp_iret dX0_isSo_54 rfl ⟨_, rfl, rfl, rfl, rfl, h⟩
        · replace h := h.2 hc
          refine wp_iconst (v := 1) dX0_isSo_45 rfl ?_
          refine wp_goto 50 dX0_isSo_46 (by decide) ?_
          refine wp_icmp_eq 55 dX0_isSo_50 (by decide) (fun _ => ?_) (fun hc => absurd hc (by decide))
          refine wc3_2 1 dX0_isSo_55 rfl ?_
          refine wp_goto 2 dX0_isSo_58 (by decide) ?_
          exact h
theorem n0_isSo {E : eT} {Q : Int32 → vT → Prop} {V : vT} {x1 : Int32} (h : w0_isSo E Q 0 [some (vr 16), some (vi x1), none] [] V) : c0_isSo E x1 V Q := MOk.enter [some (vr 16), some (vi x1), none] pn_X0 rfl rfl (Nat.le_of_ble_eq_true rfl) rfl h
theorem b0_breaks_0 {E : eT} {Q : Int32 → vT → Prop} {V : vT} {tl : Nat} {x1 x2 : Int32} (hC : CM E tl) (h : c0_in E x1 96 V (fun r3 V3 => (r3 = 0 → Q (-1) V3) ∧ (¬ r3 = 0 → c0_in E x2 96 V3 (fun r12 V12 => (r12 = 0 → Q (-1) V12) ∧ (¬ r12 = 0 → (¬ x1 = x2 → c0_isWood E x1 V12 (fun r27 V27 => (r27 = 0 → Q (-3) V27) ∧ (¬ r27 = 0 → c0_isWood E x2 V27 (fun r35 V35 => (¬ r35 = 0 → w0_breaks E Q 46 [some (vr 16), some (vi x1), some (vi x2), some (vi 0), none] [] V35) ∧ (r35 = 0 → Q (-3) V35))))) ∧ (x1 = x2 → Q (-1) V12)))))) : w0_breaks E Q 0 [some (vr 16), some (vi x1), some (vi x2), none, none] [] V := by
  refine wp_iload_n dX0_breaks_0 rfl ?_
  refine wp_bipush (v := 96) dX0_breaks_1 rfl ?_
  refine wq_SI2 lk0_12 dX0_breaks_3 h (rmQ_ok (by decide) (by decide)) ⟨Nat.le_refl _, Nat.le_refl _⟩ (Nat.le_of_ble_eq_true rfl) (fun r3 V3 h => ?_)
  refine wp_if_eq 23 dX0_breaks_6 (by decide) (fun hc => ?_) (fun hc => ?_)
  · replace h := h.1 hc
    refine wp_iconst (v := (-1)) dX0_breaks_23 rfl ?_
    exact wp_iret dX0_breaks_24 rfl ⟨_, rfl, rfl, rfl, rfl, h⟩
  · replace h := h.2 hc
    refine wp_iload_n dX0_breaks_9 rfl ?_
    refine wp_bipush (v := 96) dX0_breaks_10 rfl ?_
    refine wq_SI2 lk0_12 dX0_breaks_12 h (rmQ_ok (by decide) (by decide)) ⟨Nat.le_refl _, Nat.le_refl _⟩ (Nat.le_of_ble_eq_true rfl) (fun r12 V12 h => ?_)
    refine wp_if_eq 23 dX0_breaks_15 (by decide) (fun hc => ?_) (fun hc => ?_)
    · replace h := h.1 hc
      refine wp_iconst (v := (-1)) dX0_breaks_23 rfl ?_
      exact wp_iret dX0_breaks_24 rfl ⟨_, rfl, rfl, rfl, rfl, h⟩
    · replace h := h.2 hc
      refine wp_iload_n dX0_breaks_18 rfl ?_
      refine wp_iload_n dX0_breaks_19 rfl ?_
      refine wp_icmp_ne 25 dX0_breaks_20 (by decide) (fun hc => ?_) (fun hc => ?_)
      · replace h := h.1 hc
        refine wp_aload_n dX0_breaks_25 rfl ?_
        refine wp_iload_n dX0_breaks_26 rfl ?_
        refine wq_VI1 lk0_213 rfl (cb_16 hC) (ck_16 hC) dX0_breaks_27 h (rmQ_ok (by decide) (by decide)) ⟨Nat.le_refl _, Nat.le_refl _⟩ (Nat.le_of_ble_eq_true rfl) (fun r27 V27 h => ?_)
        refine wp_if_eq 41 dX0_breaks_30 (by decide) (fun hc => ?_) (fun hc => ?_)
        · replace h := h.1 hc
          refine wp_bipush (v := (-3)) dX0_breaks_41 rfl ?_
          exact wp_iret dX0_breaks_43 rfl ⟨_, rfl, rfl, rfl, rfl, h⟩
        · replace h := h.2 hc
          refine wp_aload_n dX0_breaks_33 rfl ?_
          refine wp_iload_n dX0_breaks_34 rfl ?_
          refine wq_VI1 lk0_213 rfl (cb_16 hC) (ck_16 hC) dX0_breaks_35 h (rmQ_ok (by decide) (by decide)) ⟨Nat.le_refl _, Nat.le_refl _⟩ (Nat.le_of_ble_eq_true rfl) (fun r35 V35 h => ?_)
          refine wp_if_ne 44 dX0_breaks_38 (by decide) (fun hc => ?_) (fun hc => ?_)
          · replace h := h.1 hc
            refine wp_iconst (v := 0) dX0_breaks_44 rfl ?_
            refine wi5_3 dX0_breaks_45 ?_
            exact h
          · replace h := h.2 hc
            refine wp_bipush (v := (-3)) dX0_breaks_41 rfl ?_
            exact wp_iret dX0_breaks_43 rfl ⟨_, rfl, rfl, rfl, rfl, h⟩
      · replace h := h.2 hc
        refine wp_iconst (v := (-1)) dX0_breaks_23 rfl ?_
        exact wp_iret dX0_breaks_24 rfl ⟨_, rfl, rfl, rfl, rfl, h⟩
theorem b0_breaks_46 {E : eT} {Q : Int32 → vT → Prop} {V : vT} {tl : Nat} {x1 x2 x3 : Int32} (hC : CM E tl) (h : (4 ≤ x3 → w0_breaks E Q 71 [some (vr 16), some (vi x1), some (vi x2), some (vi 0), none] [] V) ∧ (x3 < 4 → c0_next E x1 x3 V (fun r53 V53 => (¬ r53 = x2 → w0_breaks E Q 46 [some (vr 16), some (vi x1), some (vi x2), some (vi (x3 + 1)), none] [] V53) ∧ (r53 = x2 → Q (-2) V53)))) : w0_breaks E Q 46 [some (vr 16), some (vi x1), some (vi x2), some (vi x3), none] [] V := by
  refine wp_iload_n dX0_breaks_46 rfl ?_
  refine wp_iconst (v := 4) dX0_breaks_47 rfl ?_
  refine wp_icmp_ge 69 dX0_breaks_48 (by decide) (fun hc => ?_) (fun hc => ?_)
  · replace h := h.1 hc
    refine wp_iconst (v := 0) dX0_breaks_69 rfl ?_
    refine wi5_3 dX0_breaks_70 ?_
    exact h
  · replace h := h.2 (Int32.not_le.mp hc)
    refine wp_iload_n dX0_breaks_51 rfl ?_
    refine wp_iload_n dX0_breaks_52 rfl ?_
    refine wq_SI2 lk0_206 dX0_breaks_53 h (rmQ_ok (by decide) (by decide)) ⟨Nat.le_refl _, Nat.le_refl _⟩ (Nat.le_of_ble_eq_true rfl) (fun r53 V53 h => ?_)
    refine wp_iload_n dX0_breaks_56 rfl ?_
    refine wp_icmp_ne 63 dX0_breaks_57 (by decide) (fun hc => ?_) (fun hc => ?_)
    · replace h := h.1 hc
      refine wc5_3 1 dX0_breaks_63 rfl ?_
      refine wp_goto 46 dX0_breaks_66 (by decide) ?_
      exact h
    · replace h := h.2 hc
      refine wp_bipush (v := (-2)) dX0_breaks_60 rfl ?_
      exact wp_iret dX0_breaks_62 rfl ⟨_, rfl, rfl, rfl, rfl, h⟩
theorem b0_breaks_71 {E : eT} {Q : Int32 → vT → Prop} {V : vT} {tl : Nat} {x1 x2 x3 : Int32} (hC : CM E tl) (h : (96 ≤ x3 → w0_breaks E Q 117 [some (vr 16), some (vi x1), some (vi x2), some (vi 0), none] [] V) ∧ (x3 < 96 → vp_in x3 96 ∧ (w0_breaks E Q 87 [some (vr 16), some (vi x1), some (vi x2), some (vi x3), some (vi 0)] [] (up2 V 209 (x3.toNatClampNeg) 0)))) : w0_breaks E Q 71 [some (vr 16), some (vi x1), some (vi x2), some (vi x3), none] [] V := by
  refine wp_iload_n dX0_breaks_71 rfl ?_
  refine wp_bipush (v := 96) dX0_breaks_72 rfl ?_
  refine wp_icmp_ge 115 dX0_breaks_74 (by decide) (fun hc => ?_) (fun hc => ?_)
  · replace h := h.1 hc
    refine wp_iconst (v := 0) dX0_breaks_115 rfl ?_
    refine wi5_3 dX0_breaks_116 ?_
    exact h
  · replace h := h.2 (Int32.not_le.mp hc)
    refine wp_aload_n dX0_breaks_77 rfl ?_
    refine wp_getrs dX0_breaks_78 fk0_76_0 (cb_16 hC) (ck_16 hC) rfl (cr_11 hC) ?_
    refine wp_iload_n dX0_breaks_81 rfl ?_
    refine wp_iconst (v := 0) dX0_breaks_82 rfl ?_
    refine wp_zast dX0_breaks_83 (cb_209 hC) (ck_209 hC) (by decide) h.1 ?_
    replace h := h.2
    refine wp_iconst (v := 0) dX0_breaks_84 rfl ?_
    refine wi5_4 dX0_breaks_85 ?_
    exact h
theorem b0_breaks_87 {E : eT} {Q : Int32 → vT → Prop} {V : vT} {tl : Nat} {x1 x2 x3 x4 : Int32} (hC : CM E tl) (h : (4 ≤ x4 → w0_breaks E Q 71 [some (vr 16), some (vi x1), some (vi x2), some (vi (x3 + 1)), none] [] V) ∧ (x4 < 4 → vp_in x3 96 ∧ (vp_in x4 4 ∧ (w0_breaks E Q 87 [some (vr 16), some (vi x1), some (vi x2), some (vi x3), some (vi (x4 + 1))] [] (up2 V (113 + ((x3).toNatClampNeg)) (x4.toNatClampNeg) 0))))) : w0_breaks E Q 87 [some (vr 16), some (vi x1), some (vi x2), some (vi x3), some (vi x4)] [] V := by
  refine wp_iload dX0_breaks_87 rfl ?_
  refine wp_iconst (v := 4) dX0_breaks_89 rfl ?_
  refine wp_icmp_ge 109 dX0_breaks_90 (by decide) (fun hc => ?_) (fun hc => ?_)
  · replace h := h.1 hc
    refine wc5_3 1 dX0_breaks_109 rfl ?_
    refine wp_goto 71 dX0_breaks_112 (by decide) ?_
    exact wp_drop [some (vr 16), some (vi x1), some (vi x2), some (vi (x3 + 1)), none] ⟨rfl, ⟨rfl, ⟨rfl, ⟨rfl, trivial⟩⟩⟩⟩ h
  · replace h := h.2 (Int32.not_le.mp hc)
    refine wp_aload_n dX0_breaks_93 rfl ?_
    refine wp_getrs dX0_breaks_94 fk0_73_0 (cb_16 hC) (ck_16 hC) rfl (cr_10 hC) ?_
    refine wp_iload_n dX0_breaks_97 rfl ?_
    have hi98 := h.1.nat.2
    refine wp_aalds dX0_breaks_98 (cb_112 hC).2 (ck_112 hC) (by decide) h.1 (cgr hC hi98) ?_
    replace h := h.2
    refine wp_iload dX0_breaks_99 rfl ?_
    refine wp_iconst (v := 0) dX0_breaks_101 rfl ?_
    refine wp_zast dX0_breaks_102 (cgb hC hi98) (cgk hC hi98) (by decide) h.1 ?_
    replace h := h.2
    refine wc5_4 1 dX0_breaks_103 rfl ?_
    refine wp_goto 87 dX0_breaks_106 (by decide) ?_
    exact h
theorem b0_breaks_117 {E : eT} {Q : Int32 → vT → Prop} {V : vT} {tl : Nat} {x1 x2 x3 : Int32} (hC : CM E tl) (h : c0_finds E x1 x2 V (fun r120 V120 => (r120 = 0 → Q x3 V120) ∧ (¬ r120 = 0 → c0_turns E x1 x2 V120 (fun V129 => w0_breaks E Q 117 [some (vr 16), some (vi x1), some (vi x2), some (vi (x3 + 1)), none] [] V129)))) : w0_breaks E Q 117 [some (vr 16), some (vi x1), some (vi x2), some (vi x3), none] [] V := by
  refine wp_aload_n dX0_breaks_117 rfl ?_
  refine wp_iload_n dX0_breaks_118 rfl ?_
  refine wp_iload_n dX0_breaks_119 rfl ?_
  refine wq_VI2 lk0_235 rfl (cb_16 hC) (ck_16 hC) dX0_breaks_120 h (rmQ_ok (by decide) (by decide)) ⟨Nat.le_refl _, Nat.le_refl _⟩ (Nat.le_of_ble_eq_true rfl) (fun r120 V120 h => ?_)
  refine wp_if_eq 138 dX0_breaks_123 (by decide) (fun hc => ?_) (fun hc => ?_)
  · replace h := h.1 hc
    refine wp_iload_n dX0_breaks_138 rfl ?_
    exact wp_iret dX0_breaks_139 rfl ⟨_, rfl, rfl, rfl, rfl, h⟩
  · replace h := h.2 hc
    refine wp_aload_n dX0_breaks_126 rfl ?_
    refine wp_iload_n dX0_breaks_127 rfl ?_
    refine wp_iload_n dX0_breaks_128 rfl ?_
    refine wq_VV2 lk0_238 rfl (cb_16 hC) (ck_16 hC) dX0_breaks_129 h (rmQ_ok (by decide) (by decide)) ⟨Nat.le_refl _, Nat.le_refl _⟩ (Nat.le_of_ble_eq_true rfl) (fun V129 h => ?_)
    refine wc5_3 1 dX0_breaks_132 rfl ?_
    refine wp_goto 117 dX0_breaks_135 (by decide) ?_
    exact h
theorem n0_breaks {E : eT} {Q : Int32 → vT → Prop} {V : vT} {x1 x2 : Int32} (h : w0_breaks E Q 0 [some (vr 16), some (vi x1), some (vi x2), none, none] [] V) : c0_breaks E x1 x2 V Q := MOk.enter [some (vr 16), some (vi x1), some (vi x2), none, none] pn_X0 rfl rfl (Nat.le_of_ble_eq_true rfl) rfl h
theorem b0_finds_0 {E : eT} {Q : Int32 → vT → Prop} {V : vT} {tl : Nat} {x1 x2 : Int32} (hC : CM E tl) (h : w0_finds E Q 2 [some (vr 16), some (vi x1), some (vi x2), some (vi 0)] [] V) : w0_finds E Q 0 [some (vr 16), some (vi x1), some (vi x2), none] [] V := by
  refine wp_iconst (v := 0) dX0_finds_0 rfl ?_
  refine wi4_3 dX0_finds_1 ?_
  exact h
theorem b0_finds_2 {E : eT} {Q : Int32 → vT → Prop} {V : vT} {tl : Nat} {x1 x2 x3 : Int32} (hC : CM E tl) (h : (192 ≤ x3 → c0_reaches E ((2 * x1) + 1) ((2 * x1) + 1) (up2 V 16 14 0) (fun V38 => vp_in (2 * x1) 192 ∧ (w0_finds E Q 54 [some (vr 16), none, some (vi x2), some (vi 0)] [] (up2 V38 210 ((2 * x1).toNatClampNeg) (2 * x1))))) ∧ (x3 < 192 → vp_in x3 192 ∧ (w0_finds E Q 2 [some (vr 16), some (vi x1), some (vi x2), some (vi (x3 + 1))] [] (up2 V 210 (x3.toNatClampNeg) (-1))))) : w0_finds E Q 2 [some (vr 16), some (vi x1), some (vi x2), some (vi x3)] [] V := by
  refine wp_iload_n dX0_finds_2 rfl ?_
  refine wp_sipush (v := 192) dX0_finds_3 rfl ?_
  refine wp_icmp_ge 22 dX0_finds_6 (by decide) (fun hc => ?_) (fun hc => ?_)
  · replace h := h.1 hc
    refine wp_aload_n dX0_finds_22 rfl ?_
    refine wp_iconst (v := 0) dX0_finds_23 rfl ?_
    refine wp_puti dX0_finds_24 fp0_222_0 (cb_16 hC) (ck_16 hC) rfl ?_
    refine wp_aload_n dX0_finds_27 rfl ?_
    refine wp_iconst (v := 2) dX0_finds_28 rfl ?_
    refine wp_iload_n dX0_finds_29 rfl ?_
    refine wp_imul dX0_finds_30 ?_
    refine wp_iconst (v := 1) dX0_finds_31 rfl ?_
    refine wp_iadd dX0_finds_32 ?_
    refine wp_iconst (v := 2) dX0_finds_33 rfl ?_
    refine wp_iload_n dX0_finds_34 rfl ?_
    refine wp_imul dX0_finds_35 ?_
    refine wp_iconst (v := 1) dX0_finds_36 rfl ?_
    refine wp_iadd dX0_finds_37 ?_
    refine wq_VV2 lk0_225 rfl (cb_16 hC) (ck_16 hC) dX0_finds_38 h (rmQ_ok (by decide) (by decide)) ⟨Nat.le_refl _, Nat.le_refl _⟩ (Nat.le_of_ble_eq_true rfl) (fun V38 h => ?_)
    refine wp_aload_n dX0_finds_41 rfl ?_
    refine wp_getrs dX0_finds_42 fk0_80_0 (cb_16 hC) (ck_16 hC) rfl (cr_12 hC) ?_
    refine wp_iconst (v := 2) dX0_finds_45 rfl ?_
    refine wp_iload_n dX0_finds_46 rfl ?_
    refine wp_imul dX0_finds_47 ?_
    refine wp_iconst (v := 2) dX0_finds_48 rfl ?_
    refine wp_iload_n dX0_finds_49 rfl ?_
    refine wp_imul dX0_finds_50 ?_
    refine wp_iast dX0_finds_51 (cb_210 hC) (ck_210 hC) h.1 ?_
    replace h := h.2
    refine wp_iconst (v := 0) dX0_finds_52 rfl ?_
    refine wi4_3 dX0_finds_53 ?_
    exact wp_drop [some (vr 16), none, some (vi x2), some (vi 0)] ⟨rfl, ⟨rfl, ⟨rfl, trivial⟩⟩⟩ h
  · replace h := h.2 (Int32.not_le.mp hc)
    refine wp_aload_n dX0_finds_9 rfl ?_
    refine wp_getrs dX0_finds_10 fk0_80_0 (cb_16 hC) (ck_16 hC) rfl (cr_12 hC) ?_
    refine wp_iload_n dX0_finds_13 rfl ?_
    refine wp_iconst (v := (-1)) dX0_finds_14 rfl ?_
    refine wp_iast dX0_finds_15 (cb_210 hC) (ck_210 hC) h.1 ?_
    replace h := h.2
    refine wc4_3 1 dX0_finds_16 rfl ?_
    refine wp_goto 2 dX0_finds_19 (by decide) ?_
    exact h
theorem b0_finds_54 {E : eT} {Q : Int32 → vT → Prop} {V : vT} {tl : Nat} {x2 x3 : Int32} (hC : CM E tl) (h : ((V 16 14) ≤ x3 → vp_in (2 * x2) 192 ∧ (((V 210 ((2 * x2).toNatClampNeg)) = (-1) → Q 0 V) ∧ (¬ (V 210 ((2 * x2).toNatClampNeg)) = (-1) → Q 1 V))) ∧ (x3 < (V 16 14) → vp_in (2 * x2) 192 ∧ ((¬ (V 210 ((2 * x2).toNatClampNeg)) = (-1) → vp_in (2 * x2) 192 ∧ (((V 210 ((2 * x2).toNatClampNeg)) = (-1) → Q 0 V) ∧ (¬ (V 210 ((2 * x2).toNatClampNeg)) = (-1) → Q 1 V))) ∧ ((V 210 ((2 * x2).toNatClampNeg)) = (-1) → vp_in x3 192 ∧ (c0_looksFrom E (V 211 ((x3).toNatClampNeg)) V (fun V81 => w0_finds E Q 54 [some (vr 16), none, some (vi x2), some (vi (x3 + 1))] [] V81)))))) : w0_finds E Q 54 [some (vr 16), none, some (vi x2), some (vi x3)] [] V := by
  refine wp_iload_n dX0_finds_54 rfl ?_
  refine wp_aload_n dX0_finds_55 rfl ?_
  refine wp_geti dX0_finds_56 fk0_222_0 (cb_16 hC) (ck_16 hC) rfl ?_
  refine wp_icmp_ge 90 dX0_finds_59 (by decide) (fun hc => ?_) (fun hc => ?_)
  · replace h := h.1 hc
    refine wp_aload_n dX0_finds_90 rfl ?_
    refine wp_getrs dX0_finds_91 fk0_80_0 (cb_16 hC) (ck_16 hC) rfl (cr_12 hC) ?_
    refine wp_iconst (v := 2) dX0_finds_94 rfl ?_
    refine wp_iload_n dX0_finds_95 rfl ?_
    refine wp_imul dX0_finds_96 ?_
    refine wp_iald dX0_finds_97 (cb_210 hC).2 (ck_210 hC) h.1 ?_
    replace h := h.2
    refine wp_iconst (v := (-1)) dX0_finds_98 rfl ?_
    refine wp_icmp_eq 106 dX0_finds_99 (by decide) (fun hc => ?_) (fun hc => ?_)
    · replace h := h.1 hc
      refine wp_iconst (v := 0) dX0_finds_106 rfl ?_
      exact wp_iret dX0_finds_107 rfl ⟨_, rfl, rfl, rfl, rfl, h⟩
    · replace h := h.2 hc
      refine wp_iconst (v := 1) dX0_finds_102 rfl ?_
      refine wp_goto 107 dX0_finds_103 (by decide) ?_
      exact wp_iret dX0_finds_107 rfl ⟨_, rfl, rfl, rfl, rfl, h⟩
  · replace h := h.2 (Int32.not_le.mp hc)
    refine wp_aload_n dX0_finds_62 rfl ?_
    refine wp_getrs dX0_finds_63 fk0_80_0 (cb_16 hC) (ck_16 hC) rfl (cr_12 hC) ?_
    refine wp_iconst (v := 2) dX0_finds_66 rfl ?_
    refine wp_iload_n dX0_finds_67 rfl ?_
    refine wp_imul dX0_finds_68 ?_
    refine wp_iald dX0_finds_69 (cb_210 hC).2 (ck_210 hC) h.1 ?_
    replace h := h.2
    refine wp_iconst (v := (-1)) dX0_finds_70 rfl ?_
    refine wp_icmp_ne 90 dX0_finds_71 (by decide) (fun hc => ?_) (fun hc => ?_)
    · replace h := h.1 hc
      refine wp_aload_n dX0_finds_90 rfl ?_
      refine wp_getrs dX0_finds_91 fk0_80_0 (cb_16 hC) (ck_16 hC) rfl (cr_12 hC) ?_
      refine wp_iconst (v := 2) dX0_finds_94 rfl ?_
      refine wp_iload_n dX0_finds_95 rfl ?_
      refine wp_imul dX0_finds_96 ?_
      refine wp_iald dX0_finds_97 (cb_210 hC).2 (ck_210 hC) h.1 ?_
      replace h := h.2
      refine wp_iconst (v := (-1)) dX0_finds_98 rfl ?_
      refine wp_icmp_eq 106 dX0_finds_99 (by decide) (fun hc => ?_) (fun hc => ?_)
      · replace h := h.1 hc
        refine wp_iconst (v := 0) dX0_finds_106 rfl ?_
        exact wp_iret dX0_finds_107 rfl ⟨_, rfl, rfl, rfl, rfl, h⟩
      · replace h := h.2 hc
        refine wp_iconst (v := 1) dX0_finds_102 rfl ?_
        refine wp_goto 107 dX0_finds_103 (by decide) ?_
        exact wp_iret dX0_finds_107 rfl ⟨_, rfl, rfl, rfl, rfl, h⟩
    · replace h := h.2 hc
      refine wp_aload_n dX0_finds_74 rfl ?_
      refine wp_aload_n dX0_finds_75 rfl ?_
      refine wp_getrs dX0_finds_76 fk0_83_0 (cb_16 hC) (ck_16 hC) rfl (cr_13 hC) ?_
      refine wp_iload_n dX0_finds_79 rfl ?_
      refine wp_iald dX0_finds_80 (cb_211 hC).2 (ck_211 hC) h.1 ?_
      replace h := h.2
      refine wq_VV1 lk0_229 rfl (cb_16 hC) (ck_16 hC) dX0_finds_81 h (rmQ_ok (by decide) (by decide)) ⟨Nat.le_refl _, Nat.le_refl _⟩ (Nat.le_of_ble_eq_true rfl) (fun V81 h => ?_)
      refine wc4_3 1 dX0_finds_84 rfl ?_
      refine wp_goto 54 dX0_finds_87 (by decide) ?_
      exact h
theorem n0_finds {E : eT} {Q : Int32 → vT → Prop} {V : vT} {x1 x2 : Int32} (h : w0_finds E Q 0 [some (vr 16), some (vi x1), some (vi x2), none] [] V) : c0_finds E x1 x2 V Q := MOk.enter [some (vr 16), some (vi x1), some (vi x2), none] pn_X0 rfl rfl (Nat.le_of_ble_eq_true rfl) rfl h
theorem b0_reaches_0 {E : eT} {Q : vT → Prop} {V : vT} {tl : Nat} {x1 x2 : Int32} (hC : CM E tl) (h : vp_in x1 192 ∧ (((V 210 ((x1).toNatClampNeg)) = (-1) → vp_in x1 192 ∧ (vp_in ((up2 V 210 (x1.toNatClampNeg) x2) 16 14) 192 ∧ (Q (up2 (up2 (up2 V 210 (x1.toNatClampNeg) x2) 211 (((up2 V 210 (x1.toNatClampNeg) x2) 16 14).toNatClampNeg) x1) 16 14 (((up2 (up2 V 210 (x1.toNatClampNeg) x2) 211 (((up2 V 210 (x1.toNatClampNeg) x2) 16 14).toNatClampNeg) x1) 16 14) + 1))))) ∧ (¬ (V 210 ((x1).toNatClampNeg)) = (-1) → Q V))) : w0_reaches E Q 0 [some (vr 16), some (vi x1), some (vi x2)] [] V := by
  refine wp_aload_n dX0_reaches_0 rfl ?_
  refine wp_getrs dX0_reaches_1 fk0_80_0 (cb_16 hC) (ck_16 hC) rfl (cr_12 hC) ?_
  refine wp_iload_n dX0_reaches_4 rfl ?_
  refine wp_iald dX0_reaches_5 (cb_210 hC).2 (ck_210 hC) h.1 ?_
  replace h := h.2
  refine wp_iconst (v := (-1)) dX0_reaches_6 rfl ?_
  refine wp_icmp_eq 11 dX0_reaches_7 (by decide) (fun hc => ?_) (fun hc => ?_)
  · replace h := h.1 hc
    refine wp_aload_n dX0_reaches_11 rfl ?_
    refine wp_getrs dX0_reaches_12 fk0_80_0 (cb_16 hC) (ck_16 hC) rfl (cr_12 hC) ?_
    refine wp_iload_n dX0_reaches_15 rfl ?_
    refine wp_iload_n dX0_reaches_16 rfl ?_
    refine wp_iast dX0_reaches_17 (cb_210 hC) (ck_210 hC) h.1 ?_
    replace h := h.2
    refine wp_aload_n dX0_reaches_18 rfl ?_
    refine wp_getrs dX0_reaches_19 fk0_83_0 (cb_16 hC) (ck_16 hC) rfl (cr_13 hC) ?_
    refine wp_aload_n dX0_reaches_22 rfl ?_
    refine wp_geti dX0_reaches_23 fk0_222_0 (cb_16 hC) (ck_16 hC) rfl ?_
    refine wp_iload_n dX0_reaches_26 rfl ?_
    refine wp_iast dX0_reaches_27 (cb_211 hC) (ck_211 hC) h.1 ?_
    replace h := h.2
    refine wp_aload_n dX0_reaches_28 rfl ?_
    refine wp_dup dX0_reaches_29 ?_
    refine wp_geti dX0_reaches_30 fk0_222_0 (cb_16 hC) (ck_16 hC) rfl ?_
    refine wp_iconst (v := 1) dX0_reaches_33 rfl ?_
    refine wp_iadd dX0_reaches_34 ?_
    refine wp_puti dX0_reaches_35 fp0_222_0 (cb_16 hC) (ck_16 hC) rfl ?_
    exact wp_vret dX0_reaches_38 ⟨rfl, rfl, rfl, rfl, h⟩
  · replace h := h.2 hc
    exact wp_vret dX0_reaches_10 ⟨rfl, rfl, rfl, rfl, h⟩
theorem n0_reaches {E : eT} {Q : vT → Prop} {V : vT} {x1 x2 : Int32} (h : w0_reaches E Q 0 [some (vr 16), some (vi x1), some (vi x2)] [] V) : c0_reaches E x1 x2 V Q := MOk.enter [some (vr 16), some (vi x1), some (vi x2)] pn_X0 rfl rfl (Nat.le_of_ble_eq_true rfl) rfl h
theorem b0_looksFrom_0 {E : eT} {Q : vT → Prop} {V : vT} {tl : Nat} {x1 : Int32} (hC : CM E tl) (h : (¬ (rmd x1 2) = 1 → vp_in (x1 / 2) 96 ∧ ((¬ (V 209 ((x1 / 2).toNatClampNeg)) = 0 → w0_looksFrom E Q 47 [some (vr 16), some (vi x1), some (vi (x1 / 2)), some (vi 0), none, none] [] V) ∧ ((V 209 ((x1 / 2).toNatClampNeg)) = 0 → c0_reaches E ((2 * (x1 / 2)) + 1) x1 V (fun V44 => w0_looksFrom E Q 47 [some (vr 16), some (vi x1), some (vi (x1 / 2)), some (vi 0), none, none] [] V44)))) ∧ ((rmd x1 2) = 1 → vp_in (x1 / 2) 96 ∧ ((¬ (V 209 ((x1 / 2).toNatClampNeg)) = 1 → w0_looksFrom E Q 47 [some (vr 16), some (vi x1), some (vi (x1 / 2)), some (vi 1), none, none] [] V) ∧ ((V 209 ((x1 / 2).toNatClampNeg)) = 1 → c0_reaches E (2 * (x1 / 2)) x1 V (fun V44' => w0_looksFrom E Q 47 [some (vr 16), some (vi x1), some (vi (x1 / 2)), some (vi 1), none, none] [] V44'))))) : w0_looksFrom E Q 0 [some (vr 16), some (vi x1), none, none, none, none] [] V := by
  refine wp_iload_n dX0_looksFrom_0 rfl ?_
  refine wp_iconst (v := 2) dX0_looksFrom_1 rfl ?_
  refine wp_idiv dX0_looksFrom_2 (by decide) ?_
  refine wi6_2 dX0_looksFrom_3 ?_
  refine wp_iload_n dX0_looksFrom_4 rfl ?_
  refine wp_iconst (v := 2) dX0_looksFrom_5 rfl ?_
  refine wp_irm dX0_looksFrom_6 (by decide) ?_
  refine wp_iconst (v := 1) dX0_looksFrom_7 rfl ?_
  refine wp_icmp_ne 15 dX0_looksFrom_8 (by decide) (fun hc => ?_) (fun hc => ?_)
  · replace h := h.1 hc
    refine wp_iconst (v := 0) dX0_looksFrom_15 rfl ?_
    refine wi6_3 dX0_looksFrom_16 ?_
    refine wp_aload_n dX0_looksFrom_17 rfl ?_
    refine wp_getrs dX0_looksFrom_18 fk0_76_0 (cb_16 hC) (ck_16 hC) rfl (cr_11 hC) ?_
    refine wp_iload_n dX0_looksFrom_21 rfl ?_
    refine wp_zald dX0_looksFrom_22 (cb_209 hC).2 (ck_209 hC) h.1 ?_
    replace h := h.2
    refine wp_iload_n dX0_looksFrom_23 rfl ?_
    refine wp_icmp_ne 47 dX0_looksFrom_24 (by decide) (fun hc => ?_) (fun hc => ?_)
    · replace h := h.1 hc
      exact h
    · replace h := h.2 hc
      refine wp_aload_n dX0_looksFrom_27 rfl ?_
      refine wp_iload_n dX0_looksFrom_28 rfl ?_
      refine wp_if_eq 38 dX0_looksFrom_29 (by decide) (fun _ => ?_) (fun hc => absurd hc (by decide))
      refine wp_iconst (v := 2) dX0_looksFrom_38 rfl ?_
      refine wp_iload_n dX0_looksFrom_39 rfl ?_
      refine wp_imul dX0_looksFrom_40 ?_
      refine wp_iconst (v := 1) dX0_looksFrom_41 rfl ?_
      refine wp_iadd dX0_looksFrom_42 ?_
      refine wp_iload_n dX0_looksFrom_43 rfl ?_
      refine wq_VV2 lk0_225 rfl (cb_16 hC) (ck_16 hC) dX0_looksFrom_44 h (rmQ_ok (by decide) (by decide)) ⟨Nat.le_refl _, Nat.le_refl _⟩ (Nat.le_of_ble_eq_true rfl) (fun V44 h => ?_)
      exact h
  · replace h := h.2 hc
    refine wp_iconst (v := 1) dX0_looksFrom_11 rfl ?_
    refine wp_goto 16 dX0_looksFrom_12 (by decide) ?_
    refine wi6_3 dX0_looksFrom_16 ?_
    refine wp_aload_n dX0_looksFrom_17 rfl ?_
    refine wp_getrs dX0_looksFrom_18 fk0_76_0 (cb_16 hC) (ck_16 hC) rfl (cr_11 hC) ?_
    refine wp_iload_n dX0_looksFrom_21 rfl ?_
    refine wp_zald dX0_looksFrom_22 (cb_209 hC).2 (ck_209 hC) h.1 ?_
    replace h := h.2
    refine wp_iload_n dX0_looksFrom_23 rfl ?_
    refine wp_icmp_ne 47 dX0_looksFrom_24 (by decide) (fun hc => ?_) (fun hc => ?_)
    · replace h := h.1 hc
      exact h
    · replace h := h.2 hc
      refine wp_aload_n dX0_looksFrom_27 rfl ?_
      refine wp_iload_n dX0_looksFrom_28 rfl ?_
      refine wp_if_eq 38 dX0_looksFrom_29 (by decide) (fun hc => absurd hc (by decide)) (fun _ => ?_)
      refine wp_iconst (v := 2) dX0_looksFrom_32 rfl ?_
      refine wp_iload_n dX0_looksFrom_33 rfl ?_
      refine wp_imul dX0_looksFrom_34 ?_
      refine wp_goto 43 dX0_looksFrom_35 (by decide) ?_
      refine wp_iload_n dX0_looksFrom_43 rfl ?_
      refine wq_VV2 lk0_225 rfl (cb_16 hC) (ck_16 hC) dX0_looksFrom_44 h (rmQ_ok (by decide) (by decide)) ⟨Nat.le_refl _, Nat.le_refl _⟩ (Nat.le_of_ble_eq_true rfl) (fun V44' h => ?_)
      exact h
theorem b0_looksFrom_47 {E : eT} {Q : vT → Prop} {V : vT} {tl : Nat} {x1 x2 x3 : Int32} (hC : CM E tl) (h : w0_looksFrom E Q 50 [some (vr 16), some (vi x1), some (vi x2), some (vi x3), some (vi 0), none] [] V) : w0_looksFrom E Q 47 [some (vr 16), some (vi x1), some (vi x2), some (vi x3), none, none] [] V := by
  refine wp_iconst (v := 0) dX0_looksFrom_47 rfl ?_
  refine wi6_4 dX0_looksFrom_48 ?_
  exact h
theorem b0_looksFrom_50 {E : eT} {Q : vT → Prop} {V : vT} {tl : Nat} {x1 x2 x3 x4 : Int32} (hC : CM E tl) (h : (4 ≤ x4 → Q V) ∧ (x4 < 4 → c0_next E x2 x4 V (fun r59 V59 => (r59 = (-1) → w0_looksFrom E Q 141 [some (vr 16), some (vi x1), some (vi x2), some (vi x3), some (vi x4), none] [] V59) ∧ (¬ r59 = (-1) → vp_in r59 96 ∧ (((V59 17 ((r59).toNatClampNeg)) = 1 → (x3 = 0 → w0_looksFrom E Q 109 [some (vr 16), some (vi x1), some (vi x2), some (vi x3), some (vi x4), some (vi r59)] [] V59) ∧ (¬ x3 = 0 → vp_in x2 96 ∧ (vp_in x4 4 ∧ ((¬ (V59 (113 + ((x2).toNatClampNeg)) ((x4).toNatClampNeg)) = 0 → w0_looksFrom E Q 109 [some (vr 16), some (vi x1), some (vi x2), some (vi x3), some (vi x4), some (vi r59)] [] V59) ∧ ((V59 (113 + ((x2).toNatClampNeg)) ((x4).toNatClampNeg)) = 0 → c0_reaches E (2 * r59) x1 V59 (fun V106 => w0_looksFrom E Q 109 [some (vr 16), some (vi x1), some (vi x2), some (vi x3), some (vi x4), some (vi r59)] [] V106)))))) ∧ (¬ (V59 17 ((r59).toNatClampNeg)) = 1 → w0_looksFrom E Q 141 [some (vr 16), some (vi x1), some (vi x2), some (vi x3), some (vi x4), none] [] V59)))))) : w0_looksFrom E Q 50 [some (vr 16), some (vi x1), some (vi x2), some (vi x3), some (vi x4), none] [] V := by
  refine wp_iload dX0_looksFrom_50 rfl ?_
  refine wp_iconst (v := 4) dX0_looksFrom_52 rfl ?_
  refine wp_icmp_ge 147 dX0_looksFrom_53 (by decide) (fun hc => ?_) (fun hc => ?_)
  · replace h := h.1 hc
    exact wp_vret dX0_looksFrom_147 ⟨rfl, rfl, rfl, rfl, h⟩
  · replace h := h.2 (Int32.not_le.mp hc)
    refine wp_iload_n dX0_looksFrom_56 rfl ?_
    refine wp_iload dX0_looksFrom_57 rfl ?_
    refine wq_SI2 lk0_206 dX0_looksFrom_59 h (rmQ_ok (by decide) (by decide)) ⟨Nat.le_refl _, Nat.le_refl _⟩ (Nat.le_of_ble_eq_true rfl) (fun r59 V59 h => ?_)
    refine wi6_5 dX0_looksFrom_62 ?_
    refine wp_iload dX0_looksFrom_64 rfl ?_
    refine wp_iconst (v := (-1)) dX0_looksFrom_66 rfl ?_
    refine wp_icmp_eq 141 dX0_looksFrom_67 (by decide) (fun hc => ?_) (fun hc => ?_)
    · replace h := h.1 hc
      exact wp_drop [some (vr 16), some (vi x1), some (vi x2), some (vi x3), some (vi x4), none] ⟨rfl, ⟨rfl, ⟨rfl, ⟨rfl, ⟨rfl, trivial⟩⟩⟩⟩⟩ h
    · replace h := h.2 hc
      refine wp_aload_n dX0_looksFrom_70 rfl ?_
      refine wp_getrs dX0_looksFrom_71 fk0_32_0 (cb_16 hC) (ck_16 hC) rfl (cr_0 hC) ?_
      refine wp_iload dX0_looksFrom_74 rfl ?_
      refine wp_iald dX0_looksFrom_76 (cb_17 hC).2 (ck_17 hC) h.1 ?_
      replace h := h.2
      refine wp_iconst (v := 1) dX0_looksFrom_77 rfl ?_
      refine wp_icmp_eq 84 dX0_looksFrom_78 (by decide) (fun hc => ?_) (fun hc => ?_)
      · replace h := h.1 hc
        refine wp_iload_n dX0_looksFrom_84 rfl ?_
        refine wp_if_eq 109 dX0_looksFrom_85 (by decide) (fun hc => ?_) (fun hc => ?_)
        · replace h := h.1 hc
          exact h
        · replace h := h.2 hc
          refine wp_aload_n dX0_looksFrom_88 rfl ?_
          refine wp_getrs dX0_looksFrom_89 fk0_73_0 (cb_16 hC) (ck_16 hC) rfl (cr_10 hC) ?_
          refine wp_iload_n dX0_looksFrom_92 rfl ?_
          have hi93 := h.1.nat.2
          refine wp_aalds dX0_looksFrom_93 (cb_112 hC).2 (ck_112 hC) (by decide) h.1 (cgr hC hi93) ?_
          replace h := h.2
          refine wp_iload dX0_looksFrom_94 rfl ?_
          refine wp_zald dX0_looksFrom_96 (cgb hC hi93).2 (cgk hC hi93) h.1 ?_
          replace h := h.2
          refine wp_if_ne 109 dX0_looksFrom_97 (by decide) (fun hc => ?_) (fun hc => ?_)
          · replace h := h.1 hc
            exact h
          · replace h := h.2 hc
            refine wp_aload_n dX0_looksFrom_100 rfl ?_
            refine wp_iconst (v := 2) dX0_looksFrom_101 rfl ?_
            refine wp_iload dX0_looksFrom_102 rfl ?_
            refine wp_imul dX0_looksFrom_104 ?_
            refine wp_iload_n dX0_looksFrom_105 rfl ?_
            refine wq_VV2 lk0_225 rfl (cb_16 hC) (ck_16 hC) dX0_looksFrom_106 h (rmQ_ok (by decide) (by decide)) ⟨Nat.le_refl _, Nat.le_refl _⟩ (Nat.le_of_ble_eq_true rfl) (fun V106 h => ?_)
            exact h
      · replace h := h.2 hc
        refine wp_goto 141 dX0_looksFrom_81 (by decide) ?_
        exact wp_drop [some (vr 16), some (vi x1), some (vi x2), some (vi x3), some (vi x4), none] ⟨rfl, ⟨rfl, ⟨rfl, ⟨rfl, ⟨rfl, trivial⟩⟩⟩⟩⟩ h
theorem b0_looksFrom_109 {E : eT} {Q : vT → Prop} {V : vT} {tl : Nat} {x1 x2 x3 x4 x5 : Int32} (hC : CM E tl) (h : (¬ x3 = 0 → w0_looksFrom E Q 141 [some (vr 16), some (vi x1), some (vi x2), some (vi x3), some (vi x4), none] [] V) ∧ (x3 = 0 → vp_in x5 96 ∧ (vp_in (rmd (x4 + 2) 4) 4 ∧ (((V (113 + ((x5).toNatClampNeg)) ((rmd (x4 + 2) 4).toNatClampNeg)) = 0 → w0_looksFrom E Q 141 [some (vr 16), some (vi x1), some (vi x2), some (vi x3), some (vi x4), none] [] V) ∧ (¬ (V (113 + ((x5).toNatClampNeg)) ((rmd (x4 + 2) 4).toNatClampNeg)) = 0 → c0_reaches E ((2 * x5) + 1) x1 V (fun V138 => w0_looksFrom E Q 141 [some (vr 16), some (vi x1), some (vi x2), some (vi x3), some (vi x4), none] [] V138)))))) : w0_looksFrom E Q 109 [some (vr 16), some (vi x1), some (vi x2), some (vi x3), some (vi x4), some (vi x5)] [] V := by
  refine wp_iload_n dX0_looksFrom_109 rfl ?_
  refine wp_if_ne 141 dX0_looksFrom_110 (by decide) (fun hc => ?_) (fun hc => ?_)
  · replace h := h.1 hc
    exact wp_drop [some (vr 16), some (vi x1), some (vi x2), some (vi x3), some (vi x4), none] ⟨rfl, ⟨rfl, ⟨rfl, ⟨rfl, ⟨rfl, trivial⟩⟩⟩⟩⟩ h
  · replace h := h.2 hc
    refine wp_aload_n dX0_looksFrom_113 rfl ?_
    refine wp_getrs dX0_looksFrom_114 fk0_73_0 (cb_16 hC) (ck_16 hC) rfl (cr_10 hC) ?_
    refine wp_iload dX0_looksFrom_117 rfl ?_
    have hi119 := h.1.nat.2
    refine wp_aalds dX0_looksFrom_119 (cb_112 hC).2 (ck_112 hC) (by decide) h.1 (cgr hC hi119) ?_
    replace h := h.2
    refine wp_iload dX0_looksFrom_120 rfl ?_
    refine wp_iconst (v := 2) dX0_looksFrom_122 rfl ?_
    refine wp_iadd dX0_looksFrom_123 ?_
    refine wp_iconst (v := 4) dX0_looksFrom_124 rfl ?_
    refine wp_irm dX0_looksFrom_125 (by decide) ?_
    refine wp_zald dX0_looksFrom_126 (cgb hC hi119).2 (cgk hC hi119) h.1 ?_
    replace h := h.2
    refine wp_if_eq 141 dX0_looksFrom_127 (by decide) (fun hc => ?_) (fun hc => ?_)
    · replace h := h.1 hc
      exact wp_drop [some (vr 16), some (vi x1), some (vi x2), some (vi x3), some (vi x4), none] ⟨rfl, ⟨rfl, ⟨rfl, ⟨rfl, ⟨rfl, trivial⟩⟩⟩⟩⟩ h
    · replace h := h.2 hc
      refine wp_aload_n dX0_looksFrom_130 rfl ?_
      refine wp_iconst (v := 2) dX0_looksFrom_131 rfl ?_
      refine wp_iload dX0_looksFrom_132 rfl ?_
      refine wp_imul dX0_looksFrom_134 ?_
      refine wp_iconst (v := 1) dX0_looksFrom_135 rfl ?_
      refine wp_iadd dX0_looksFrom_136 ?_
      refine wp_iload_n dX0_looksFrom_137 rfl ?_
      refine wq_VV2 lk0_225 rfl (cb_16 hC) (ck_16 hC) dX0_looksFrom_138 h (rmQ_ok (by decide) (by decide)) ⟨Nat.le_refl _, Nat.le_refl _⟩ (Nat.le_of_ble_eq_true rfl) (fun V138 h => ?_)
      exact wp_drop [some (vr 16), some (vi x1), some (vi x2), some (vi x3), some (vi x4), none] ⟨rfl, ⟨rfl, ⟨rfl, ⟨rfl, ⟨rfl, trivial⟩⟩⟩⟩⟩ h
theorem b0_looksFrom_141 {E : eT} {Q : vT → Prop} {V : vT} {tl : Nat} {x1 x2 x3 x4 : Int32} (hC : CM E tl) (h : w0_looksFrom E Q 50 [some (vr 16), some (vi x1), some (vi x2), some (vi x3), some (vi (x4 + 1)), none] [] V) : w0_looksFrom E Q 141 [some (vr 16), some (vi x1), some (vi x2), some (vi x3), some (vi x4), none] [] V := by
  refine wc6_4 1 dX0_looksFrom_141 rfl ?_
  refine wp_goto 50 dX0_looksFrom_144 (by decide) ?_
  exact h
theorem n0_looksFrom {E : eT} {Q : vT → Prop} {V : vT} {x1 : Int32} (h : w0_looksFrom E Q 0 [some (vr 16), some (vi x1), none, none, none, none] [] V) : c0_looksFrom E x1 V Q := MOk.enter [some (vr 16), some (vi x1), none, none, none, none] pn_X0 rfl rfl (Nat.le_of_ble_eq_true rfl) rfl h
theorem b0_turns_0 {E : eT} {Q : vT → Prop} {V : vT} {tl : Nat} {x1 x2 : Int32} (hC : CM E tl) (h : w0_turns E Q 4 [some (vr 16), some (vi x1), none, some (vi (2 * x2)), none, none] [] V) : w0_turns E Q 0 [some (vr 16), some (vi x1), some (vi x2), none, none, none] [] V := by
  refine wp_iconst (v := 2) dX0_turns_0 rfl ?_
  refine wp_iload_n dX0_turns_1 rfl ?_
  refine wp_imul dX0_turns_2 ?_
  refine wi6_3 dX0_turns_3 ?_
  exact wp_drop [some (vr 16), some (vi x1), none, some (vi (2 * x2)), none, none] ⟨rfl, ⟨rfl, ⟨rfl, trivial⟩⟩⟩ h
theorem b0_turns_4 {E : eT} {Q : vT → Prop} {V : vT} {tl : Nat} {x1 x3 : Int32} (hC : CM E tl) (h : (x3 = ((2 * x1) + 1) → Q V) ∧ (¬ x3 = ((2 * x1) + 1) → vp_in x3 192 ∧ ((¬ ((V 210 ((x3).toNatClampNeg)) / 2) = (x3 / 2) → (¬ (rmd x3 2) = 0 → vp_in (x3 / 2) 96 ∧ (c0_wayTo E (x3 / 2) ((V 210 ((x3).toNatClampNeg)) / 2) V (fun r95 V95 => vp_in r95 4 ∧ (vp_in x3 192 ∧ (w0_turns E Q 4 [some (vr 16), some (vi x1), none, some (vi ((up2 V95 (113 + ((x3 / 2).toNatClampNeg)) (r95.toNatClampNeg) 0) 210 ((x3).toNatClampNeg))), none, none] [] (up2 V95 (113 + ((x3 / 2).toNatClampNeg)) (r95.toNatClampNeg) 0)))))) ∧ ((rmd x3 2) = 0 → vp_in ((V 210 ((x3).toNatClampNeg)) / 2) 96 ∧ (c0_wayTo E ((V 210 ((x3).toNatClampNeg)) / 2) (x3 / 2) V (fun r75 V75 => vp_in r75 4 ∧ (vp_in x3 192 ∧ (w0_turns E Q 4 [some (vr 16), some (vi x1), none, some (vi ((up2 V75 (113 + (((V 210 ((x3).toNatClampNeg)) / 2).toNatClampNeg)) (r75.toNatClampNeg) 1) 210 ((x3).toNatClampNeg))), none, none] [] (up2 V75 (113 + (((V 210 ((x3).toNatClampNeg)) / 2).toNatClampNeg)) (r75.toNatClampNeg) 1))))))) ∧ (((V 210 ((x3).toNatClampNeg)) / 2) = (x3 / 2) → (¬ (rmd x3 2) = 1 → vp_in ((V 210 ((x3).toNatClampNeg)) / 2) 96 ∧ (vp_in x3 192 ∧ (w0_turns E Q 4 [some (vr 16), some (vi x1), none, some (vi ((up2 V 209 (((V 210 ((x3).toNatClampNeg)) / 2).toNatClampNeg) 0) 210 ((x3).toNatClampNeg))), none, none] [] (up2 V 209 (((V 210 ((x3).toNatClampNeg)) / 2).toNatClampNeg) 0)))) ∧ ((rmd x3 2) = 1 → vp_in ((V 210 ((x3).toNatClampNeg)) / 2) 96 ∧ (vp_in x3 192 ∧ (w0_turns E Q 4 [some (vr 16), some (vi x1), none, some (vi ((up2 V 209 (((V 210 ((x3).toNatClampNeg)) / 2).toNatClampNeg) 1) 210 ((x3).toNatClampNeg))), none, none] [] (up2 V 209 (((V 210 ((x3).toNatClampNeg)) / 2).toNatClampNeg) 1)))))))) : w0_turns E Q 4 [some (vr 16), some (vi x1), none, some (vi x3), none, none] [] V := by
  refine wp_iload_n dX0_turns_4 rfl ?_
  refine wp_iconst (v := 2) dX0_turns_5 rfl ?_
  refine wp_iload_n dX0_turns_6 rfl ?_
  refine wp_imul dX0_turns_7 ?_
  refine wp_iconst (v := 1) dX0_turns_8 rfl ?_
  refine wp_iadd dX0_turns_9 ?_
  refine wp_icmp_eq 110 dX0_turns_10 (by decide) (fun hc => ?_) (fun hc => ?_)
  · replace h := h.1 hc
    exact wp_vret dX0_turns_110 ⟨rfl, rfl, rfl, rfl, h⟩
  · replace h := h.2 hc
    refine wp_aload_n dX0_turns_13 rfl ?_
    refine wp_getrs dX0_turns_14 fk0_80_0 (cb_16 hC) (ck_16 hC) rfl (cr_12 hC) ?_
    refine wp_iload_n dX0_turns_17 rfl ?_
    refine wp_iald dX0_turns_18 (cb_210 hC).2 (ck_210 hC) h.1 ?_
    replace h := h.2
    refine wp_iconst (v := 2) dX0_turns_19 rfl ?_
    refine wp_idiv dX0_turns_20 (by decide) ?_
    refine wi6_4 dX0_turns_21 ?_
    refine wp_iload_n dX0_turns_23 rfl ?_
    refine wp_iconst (v := 2) dX0_turns_24 rfl ?_
    refine wp_idiv dX0_turns_25 (by decide) ?_
    refine wi6_5 dX0_turns_26 ?_
    refine wp_iload dX0_turns_28 rfl ?_
    refine wp_iload dX0_turns_30 rfl ?_
    refine wp_icmp_ne 57 dX0_turns_32 (by decide) (fun hc => ?_) (fun hc => ?_)
    · replace h := h.1 hc
      refine wp_iload_n dX0_turns_57 rfl ?_
      refine wp_iconst (v := 2) dX0_turns_58 rfl ?_
      refine wp_irm dX0_turns_59 (by decide) ?_
      refine wp_if_ne 83 dX0_turns_60 (by decide) (fun hc => ?_) (fun hc => ?_)
      · replace h := h.1 hc
        refine wp_aload_n dX0_turns_83 rfl ?_
        refine wp_getrs dX0_turns_84 fk0_73_0 (cb_16 hC) (ck_16 hC) rfl (cr_10 hC) ?_
        refine wp_iload dX0_turns_87 rfl ?_
        have hi89 := h.1.nat.2
        refine wp_aalds dX0_turns_89 (cb_112 hC).2 (ck_112 hC) (by decide) h.1 (cgr hC hi89) ?_
        replace h := h.2
        refine wp_aload_n dX0_turns_90 rfl ?_
        refine wp_iload dX0_turns_91 rfl ?_
        refine wp_iload dX0_turns_93 rfl ?_
        refine wq_VI2 lk0_232 rfl (cb_16 hC) (ck_16 hC) dX0_turns_95 h (rmQ_ok (by decide) (by decide)) ⟨Nat.le_refl _, Nat.le_refl _⟩ (Nat.le_of_ble_eq_true rfl) (fun r95 V95 h => ?_)
        refine wp_iconst (v := 0) dX0_turns_98 rfl ?_
        refine wp_zast dX0_turns_99 (cgb hC hi89) (cgk hC hi89) (by decide) h.1 ?_
        replace h := h.2
        refine wp_aload_n dX0_turns_100 rfl ?_
        refine wp_getrs dX0_turns_101 fk0_80_0 (cb_16 hC) (ck_16 hC) rfl (cr_12 hC) ?_
        refine wp_iload_n dX0_turns_104 rfl ?_
        refine wp_iald dX0_turns_105 (cb_210 hC).2 (ck_210 hC) h.1 ?_
        replace h := h.2
        refine wi6_3 dX0_turns_106 ?_
        refine wp_goto 4 dX0_turns_107 (by decide) ?_
        exact wp_drop [some (vr 16), some (vi x1), none, some (vi ((up2 V95 (113 + ((x3 / 2).toNatClampNeg)) (r95.toNatClampNeg) 0) 210 ((x3).toNatClampNeg))), none, none] ⟨rfl, ⟨rfl, ⟨rfl, trivial⟩⟩⟩ h
      · replace h := h.2 hc
        refine wp_aload_n dX0_turns_63 rfl ?_
        refine wp_getrs dX0_turns_64 fk0_73_0 (cb_16 hC) (ck_16 hC) rfl (cr_10 hC) ?_
        refine wp_iload dX0_turns_67 rfl ?_
        have hi69 := h.1.nat.2
        refine wp_aalds dX0_turns_69 (cb_112 hC).2 (ck_112 hC) (by decide) h.1 (cgr hC hi69) ?_
        replace h := h.2
        refine wp_aload_n dX0_turns_70 rfl ?_
        refine wp_iload dX0_turns_71 rfl ?_
        refine wp_iload dX0_turns_73 rfl ?_
        refine wq_VI2 lk0_232 rfl (cb_16 hC) (ck_16 hC) dX0_turns_75 h (rmQ_ok (by decide) (by decide)) ⟨Nat.le_refl _, Nat.le_refl _⟩ (Nat.le_of_ble_eq_true rfl) (fun r75 V75 h => ?_)
        refine wp_iconst (v := 1) dX0_turns_78 rfl ?_
        refine wp_zast dX0_turns_79 (cgb hC hi69) (cgk hC hi69) (by decide) h.1 ?_
        replace h := h.2
        refine wp_goto 100 dX0_turns_80 (by decide) ?_
        refine wp_aload_n dX0_turns_100 rfl ?_
        refine wp_getrs dX0_turns_101 fk0_80_0 (cb_16 hC) (ck_16 hC) rfl (cr_12 hC) ?_
        refine wp_iload_n dX0_turns_104 rfl ?_
        refine wp_iald dX0_turns_105 (cb_210 hC).2 (ck_210 hC) h.1 ?_
        replace h := h.2
        refine wi6_3 dX0_turns_106 ?_
        refine wp_goto 4 dX0_turns_107 (by decide) ?_
        exact wp_drop [some (vr 16), some (vi x1), none, some (vi ((up2 V75 (113 + (((V 210 ((x3).toNatClampNeg)) / 2).toNatClampNeg)) (r75.toNatClampNeg) 1) 210 ((x3).toNatClampNeg))), none, none] ⟨rfl, ⟨rfl, ⟨rfl, trivial⟩⟩⟩ h
    · replace h := h.2 hc
      refine wp_aload_n dX0_turns_35 rfl ?_
      refine wp_getrs dX0_turns_36 fk0_76_0 (cb_16 hC) (ck_16 hC) rfl (cr_11 hC) ?_
      refine wp_iload dX0_turns_39 rfl ?_
      refine wp_iload_n dX0_turns_41 rfl ?_
      refine wp_iconst (v := 2) dX0_turns_42 rfl ?_
      refine wp_irm dX0_turns_43 (by decide) ?_
      refine wp_iconst (v := 1) dX0_turns_44 rfl ?_
      refine wp_icmp_ne 52 dX0_turns_45 (by decide) (fun hc => ?_) (fun hc => ?_)
      · replace h := h.1 hc
        refine wp_iconst (v := 0) dX0_turns_52 rfl ?_
        refine wp_zast dX0_turns_53 (cb_209 hC) (ck_209 hC) (by decide) h.1 ?_
        replace h := h.2
        refine wp_goto 100 dX0_turns_54 (by decide) ?_
        refine wp_aload_n dX0_turns_100 rfl ?_
        refine wp_getrs dX0_turns_101 fk0_80_0 (cb_16 hC) (ck_16 hC) rfl (cr_12 hC) ?_
        refine wp_iload_n dX0_turns_104 rfl ?_
        refine wp_iald dX0_turns_105 (cb_210 hC).2 (ck_210 hC) h.1 ?_
        replace h := h.2
        refine wi6_3 dX0_turns_106 ?_
        refine wp_goto 4 dX0_turns_107 (by decide) ?_
        exact wp_drop [some (vr 16), some (vi x1), none, some (vi ((up2 V 209 (((V 210 ((x3).toNatClampNeg)) / 2).toNatClampNeg) 0) 210 ((x3).toNatClampNeg))), none, none] ⟨rfl, ⟨rfl, ⟨rfl, trivial⟩⟩⟩ h
      · replace h := h.2 hc
        refine wp_iconst (v := 1) dX0_turns_48 rfl ?_
        refine wp_goto 53 dX0_turns_49 (by decide) ?_
        refine wp_zast dX0_turns_53 (cb_209 hC) (ck_209 hC) (by decide) h.1 ?_
        replace h := h.2
        refine wp_goto 100 dX0_turns_54 (by decide) ?_
        refine wp_aload_n dX0_turns_100 rfl ?_
        refine wp_getrs dX0_turns_101 fk0_80_0 (cb_16 hC) (ck_16 hC) rfl (cr_12 hC) ?_
        refine wp_iload_n dX0_turns_104 rfl ?_
        refine wp_iald dX0_turns_105 (cb_210 hC).2 (ck_210 hC) h.1 ?_
        replace h := h.2
        refine wi6_3 dX0_turns_106 ?_
        refine wp_goto 4 dX0_turns_107 (by decide) ?_
        exact wp_drop [some (vr 16), some (vi x1), none, some (vi ((up2 V 209 (((V 210 ((x3).toNatClampNeg)) / 2).toNatClampNeg) 1) 210 ((x3).toNatClampNeg))), none, none] ⟨rfl, ⟨rfl, ⟨rfl, trivial⟩⟩⟩ h
theorem n0_turns {E : eT} {Q : vT → Prop} {V : vT} {x1 x2 : Int32} (h : w0_turns E Q 0 [some (vr 16), some (vi x1), some (vi x2), none, none, none] [] V) : c0_turns E x1 x2 V Q := MOk.enter [some (vr 16), some (vi x1), some (vi x2), none, none, none] pn_X0 rfl rfl (Nat.le_of_ble_eq_true rfl) rfl h
theorem b0_wayTo_0 {E : eT} {Q : Int32 → vT → Prop} {V : vT} {tl : Nat} {x1 x2 : Int32} (hC : CM E tl) (h : w0_wayTo E Q 2 [none, some (vi x1), some (vi x2), some (vi 0)] [] V) : w0_wayTo E Q 0 [some (vr 16), some (vi x1), some (vi x2), none] [] V := by
  refine wp_iconst (v := 0) dX0_wayTo_0 rfl ?_
  refine wi4_3 dX0_wayTo_1 ?_
  exact wp_drop [none, some (vi x1), some (vi x2), some (vi 0)] ⟨rfl, ⟨rfl, ⟨rfl, trivial⟩⟩⟩ h
theorem b0_wayTo_2 {E : eT} {Q : Int32 → vT → Prop} {V : vT} {tl : Nat} {x1 x2 x3 : Int32} (hC : CM E tl) (h : c0_next E x1 x3 V (fun r4 V4 => (r4 = x2 → Q x3 V4) ∧ (¬ r4 = x2 → w0_wayTo E Q 2 [none, some (vi x1), some (vi x2), some (vi (x3 + 1))] [] V4))) : w0_wayTo E Q 2 [none, some (vi x1), some (vi x2), some (vi x3)] [] V := by
  refine wp_iload_n dX0_wayTo_2 rfl ?_
  refine wp_iload_n dX0_wayTo_3 rfl ?_
  refine wq_SI2 lk0_206 dX0_wayTo_4 h (rmQ_ok (by decide) (by decide)) ⟨Nat.le_refl _, Nat.le_refl _⟩ (Nat.le_of_ble_eq_true rfl) (fun r4 V4 h => ?_)
  refine wp_iload_n dX0_wayTo_7 rfl ?_
  refine wp_icmp_eq 17 dX0_wayTo_8 (by decide) (fun hc => ?_) (fun hc => ?_)
  · replace h := h.1 hc
    refine wp_iload_n dX0_wayTo_17 rfl ?_
    exact wp_iret dX0_wayTo_18 rfl ⟨_, rfl, rfl, rfl, rfl, h⟩
  · replace h := h.2 hc
    refine wc4_3 1 dX0_wayTo_11 rfl ?_
    refine wp_goto 2 dX0_wayTo_14 (by decide) ?_
    exact h
theorem n0_wayTo {E : eT} {Q : Int32 → vT → Prop} {V : vT} {x1 x2 : Int32} (h : w0_wayTo E Q 0 [some (vr 16), some (vi x1), some (vi x2), none] [] V) : c0_wayTo E x1 x2 V Q := MOk.enter [some (vr 16), some (vi x1), some (vi x2), none] pn_X0 rfl rfl (Nat.le_of_ble_eq_true rfl) rfl h
theorem b0_getsOut_0 {E : eT} {Q : Int32 → vT → Prop} {V : vT} {tl : Nat} {x1 : Int32} (hC : CM E tl) (h : c0_in E x1 96 V (fun r3 V3 => (¬ r3 = 0 → vp_in x1 96 ∧ (((V3 17 ((x1).toNatClampNeg)) = 3 → Q (-3) V3) ∧ (¬ (V3 17 ((x1).toNatClampNeg)) = 3 → vp_in x1 96 ∧ ((¬ (V3 20 ((x1).toNatClampNeg)) = 1 → c0_laysFromBurning E V3 (fun V38 => w0_getsOut E Q 43 [some (vr 16), some (vi x1), some (vi 0), none, none, none] [] V38)) ∧ ((V3 20 ((x1).toNatClampNeg)) = 1 → Q (-3) V3))))) ∧ (r3 = 0 → Q (-1) V3))) : w0_getsOut E Q 0 [some (vr 16), some (vi x1), none, none, none, none] [] V := by
  refine wp_iload_n dX0_getsOut_0 rfl ?_
  refine wp_bipush (v := 96) dX0_getsOut_1 rfl ?_
  refine wq_SI2 lk0_12 dX0_getsOut_3 h (rmQ_ok (by decide) (by decide)) ⟨Nat.le_refl _, Nat.le_refl _⟩ (Nat.le_of_ble_eq_true rfl) (fun r3 V3 h => ?_)
  refine wp_if_ne 11 dX0_getsOut_6 (by decide) (fun hc => ?_) (fun hc => ?_)
  · replace h := h.1 hc
    refine wp_aload_n dX0_getsOut_11 rfl ?_
    refine wp_getrs dX0_getsOut_12 fk0_32_0 (cb_16 hC) (ck_16 hC) rfl (cr_0 hC) ?_
    refine wp_iload_n dX0_getsOut_15 rfl ?_
    refine wp_iald dX0_getsOut_16 (cb_17 hC).2 (ck_17 hC) h.1 ?_
    replace h := h.2
    refine wp_iconst (v := 3) dX0_getsOut_17 rfl ?_
    refine wp_icmp_eq 34 dX0_getsOut_18 (by decide) (fun hc => ?_) (fun hc => ?_)
    · replace h := h.1 hc
      refine wp_bipush (v := (-3)) dX0_getsOut_34 rfl ?_
      exact wp_iret dX0_getsOut_36 rfl ⟨_, rfl, rfl, rfl, rfl, h⟩
    · replace h := h.2 hc
      refine wp_aload_n dX0_getsOut_21 rfl ?_
      refine wp_getrs dX0_getsOut_22 fk0_47_0 (cb_16 hC) (ck_16 hC) rfl (cr_2 hC) ?_
      refine wp_getrs dX0_getsOut_25 fk0_158_2 (FO.b0 (cf_19 hC)) (FO.k0 (cf_19 hC)) rfl (FO.r0 (cf_19 hC)) ?_
      refine wp_iload_n dX0_getsOut_28 rfl ?_
      refine wp_iald dX0_getsOut_29 (FO.b1 (cf_19 hC)).2 (FO.k1 (cf_19 hC)) h.1 ?_
      replace h := h.2
      refine wp_iconst (v := 1) dX0_getsOut_30 rfl ?_
      refine wp_icmp_ne 37 dX0_getsOut_31 (by decide) (fun hc => ?_) (fun hc => ?_)
      · replace h := h.1 hc
        refine wp_aload_n dX0_getsOut_37 rfl ?_
        refine wq_VV0 lk0_241 rfl (cb_16 hC) (ck_16 hC) dX0_getsOut_38 h (rmQ_ok (by decide) (by decide)) ⟨Nat.le_refl _, Nat.le_refl _⟩ (Nat.le_of_ble_eq_true rfl) (fun V38 h => ?_)
        refine wp_iconst (v := 0) dX0_getsOut_41 rfl ?_
        refine wi6_2 dX0_getsOut_42 ?_
        exact h
      · replace h := h.2 hc
        refine wp_bipush (v := (-3)) dX0_getsOut_34 rfl ?_
        exact wp_iret dX0_getsOut_36 rfl ⟨_, rfl, rfl, rfl, rfl, h⟩
  · replace h := h.2 hc
    refine wp_iconst (v := (-1)) dX0_getsOut_9 rfl ?_
    exact wp_iret dX0_getsOut_10 rfl ⟨_, rfl, rfl, rfl, rfl, h⟩
theorem b0_getsOut_43 {E : eT} {Q : Int32 → vT → Prop} {V : vT} {tl : Nat} {x1 x2 : Int32} (hC : CM E tl) (h : (96 ≤ x2 → w0_getsOut E Q 74 [some (vr 16), none, some (vi 0), none, none, none] [] V) ∧ (x2 < 96 → (¬ x2 = x1 → vp_in x2 96 ∧ (w0_getsOut E Q 43 [some (vr 16), some (vi x1), some (vi (x2 + 1)), none, none, none] [] (up2 V 212 (x2.toNatClampNeg) 268435456))) ∧ (x2 = x1 → vp_in x2 96 ∧ (w0_getsOut E Q 43 [some (vr 16), some (vi x1), some (vi (x2 + 1)), none, none, none] [] (up2 V 212 (x2.toNatClampNeg) 0))))) : w0_getsOut E Q 43 [some (vr 16), some (vi x1), some (vi x2), none, none, none] [] V := by
  refine wp_iload_n dX0_getsOut_43 rfl ?_
  refine wp_bipush (v := 96) dX0_getsOut_44 rfl ?_
  refine wp_icmp_ge 72 dX0_getsOut_46 (by decide) (fun hc => ?_) (fun hc => ?_)
  · replace h := h.1 hc
    refine wp_iconst (v := 0) dX0_getsOut_72 rfl ?_
    refine wi6_2 dX0_getsOut_73 ?_
    exact wp_drop [some (vr 16), none, some (vi 0), none, none, none] ⟨rfl, ⟨rfl, trivial⟩⟩ h
  · replace h := h.2 (Int32.not_le.mp hc)
    refine wp_aload_n dX0_getsOut_49 rfl ?_
    refine wp_getrs dX0_getsOut_50 fk0_86_0 (cb_16 hC) (ck_16 hC) rfl (cr_15 hC) ?_
    refine wp_iload_n dX0_getsOut_53 rfl ?_
    refine wp_iload_n dX0_getsOut_54 rfl ?_
    refine wp_iload_n dX0_getsOut_55 rfl ?_
    refine wp_icmp_ne 63 dX0_getsOut_56 (by decide) (fun hc => ?_) (fun hc => ?_)
    · replace h := h.1 hc
      refine wp_ldc (v := 268435456) dX0_getsOut_63 q1038 ?_
      refine wp_iast dX0_getsOut_65 (cb_212 hC) (ck_212 hC) h.1 ?_
      replace h := h.2
      refine wc6_2 1 dX0_getsOut_66 rfl ?_
      refine wp_goto 43 dX0_getsOut_69 (by decide) ?_
      exact h
    · replace h := h.2 hc
      refine wp_iconst (v := 0) dX0_getsOut_59 rfl ?_
      refine wp_goto 65 dX0_getsOut_60 (by decide) ?_
      refine wp_iast dX0_getsOut_65 (cb_212 hC) (ck_212 hC) h.1 ?_
      replace h := h.2
      refine wc6_2 1 dX0_getsOut_66 rfl ?_
      refine wp_goto 43 dX0_getsOut_69 (by decide) ?_
      exact h
theorem b0_getsOut_74 {E : eT} {Q : Int32 → vT → Prop} {V : vT} {tl : Nat} {x2 : Int32} (hC : CM E tl) (h : (96 ≤ x2 → Q (-2) V) ∧ (x2 < 96 → w0_getsOut E Q 82 [some (vr 16), none, some (vi x2), some (vi 0), none, none] [] V)) : w0_getsOut E Q 74 [some (vr 16), none, some (vi x2), none, none, none] [] V := by
  refine wp_iload_n dX0_getsOut_74 rfl ?_
  refine wp_bipush (v := 96) dX0_getsOut_75 rfl ?_
  refine wp_icmp_ge 219 dX0_getsOut_77 (by decide) (fun hc => ?_) (fun hc => ?_)
  · replace h := h.1 hc
    refine wp_bipush (v := (-2)) dX0_getsOut_219 rfl ?_
    exact wp_iret dX0_getsOut_221 rfl ⟨_, rfl, rfl, rfl, rfl, h⟩
  · replace h := h.2 (Int32.not_le.mp hc)
    refine wp_iconst (v := 0) dX0_getsOut_80 rfl ?_
    refine wi6_3 dX0_getsOut_81 ?_
    exact h
theorem b0_getsOut_82 {E : eT} {Q : Int32 → vT → Prop} {V : vT} {tl : Nat} {x2 x3 : Int32} (hC : CM E tl) (h : (96 ≤ x3 → w0_getsOut E Q 115 [some (vr 16), none, some (vi x2), some (vi 0), none, none] [] V) ∧ (x3 < 96 → vp_in x3 96 ∧ ((¬ (V 212 ((x3).toNatClampNeg)) = x2 → w0_getsOut E Q 82 [some (vr 16), none, some (vi x2), some (vi (x3 + 1)), none, none] [] V) ∧ ((V 212 ((x3).toNatClampNeg)) = x2 → c0_isEdge E x3 V (fun r99 V99 => (r99 = 0 → w0_getsOut E Q 82 [some (vr 16), none, some (vi x2), some (vi (x3 + 1)), none, none] [] V99) ∧ (¬ r99 = 0 → Q x2 V99)))))) : w0_getsOut E Q 82 [some (vr 16), none, some (vi x2), some (vi x3), none, none] [] V := by
  refine wp_iload_n dX0_getsOut_82 rfl ?_
  refine wp_bipush (v := 96) dX0_getsOut_83 rfl ?_
  refine wp_icmp_ge 113 dX0_getsOut_85 (by decide) (fun hc => ?_) (fun hc => ?_)
  · replace h := h.1 hc
    refine wp_iconst (v := 0) dX0_getsOut_113 rfl ?_
    refine wi6_3 dX0_getsOut_114 ?_
    exact h
  · replace h := h.2 (Int32.not_le.mp hc)
    refine wp_aload_n dX0_getsOut_88 rfl ?_
    refine wp_getrs dX0_getsOut_89 fk0_86_0 (cb_16 hC) (ck_16 hC) rfl (cr_15 hC) ?_
    refine wp_iload_n dX0_getsOut_92 rfl ?_
    refine wp_iald dX0_getsOut_93 (cb_212 hC).2 (ck_212 hC) h.1 ?_
    replace h := h.2
    refine wp_iload_n dX0_getsOut_94 rfl ?_
    refine wp_icmp_ne 107 dX0_getsOut_95 (by decide) (fun hc => ?_) (fun hc => ?_)
    · replace h := h.1 hc
      refine wc6_3 1 dX0_getsOut_107 rfl ?_
      refine wp_goto 82 dX0_getsOut_110 (by decide) ?_
      exact h
    · replace h := h.2 hc
      refine wp_iload_n dX0_getsOut_98 rfl ?_
      refine wq_SI1 lk0_244 dX0_getsOut_99 h (rmQ_ok (by decide) (by decide)) ⟨Nat.le_refl _, Nat.le_refl _⟩ (Nat.le_of_ble_eq_true rfl) (fun r99 V99 h => ?_)
      refine wp_if_eq 107 dX0_getsOut_102 (by decide) (fun hc => ?_) (fun hc => ?_)
      · replace h := h.1 hc
        refine wc6_3 1 dX0_getsOut_107 rfl ?_
        refine wp_goto 82 dX0_getsOut_110 (by decide) ?_
        exact h
      · replace h := h.2 hc
        refine wp_iload_n dX0_getsOut_105 rfl ?_
        exact wp_iret dX0_getsOut_106 rfl ⟨_, rfl, rfl, rfl, rfl, h⟩
theorem b0_getsOut_115 {E : eT} {Q : Int32 → vT → Prop} {V : vT} {tl : Nat} {x2 x3 : Int32} (hC : CM E tl) (h : (96 ≤ x3 → w0_getsOut E Q 74 [some (vr 16), none, some (vi (x2 + 1)), none, none, none] [] V) ∧ (x3 < 96 → w0_getsOut E Q 124 [some (vr 16), none, some (vi x2), some (vi x3), some (vi 0), none] [] V)) : w0_getsOut E Q 115 [some (vr 16), none, some (vi x2), some (vi x3), none, none] [] V := by
  refine wp_iload_n dX0_getsOut_115 rfl ?_
  refine wp_bipush (v := 96) dX0_getsOut_116 rfl ?_
  refine wp_icmp_ge 213 dX0_getsOut_118 (by decide) (fun hc => ?_) (fun hc => ?_)
  · replace h := h.1 hc
    refine wc6_2 1 dX0_getsOut_213 rfl ?_
    refine wp_goto 74 dX0_getsOut_216 (by decide) ?_
    exact wp_drop [some (vr 16), none, some (vi (x2 + 1)), none, none, none] ⟨rfl, ⟨rfl, trivial⟩⟩ h
  · replace h := h.2 (Int32.not_le.mp hc)
    refine wp_iconst (v := 0) dX0_getsOut_121 rfl ?_
    refine wi6_4 dX0_getsOut_122 ?_
    exact h
theorem b0_getsOut_124 {E : eT} {Q : Int32 → vT → Prop} {V : vT} {tl : Nat} {x2 x3 x4 : Int32} (hC : CM E tl) (h : (4 ≤ x4 → w0_getsOut E Q 115 [some (vr 16), none, some (vi x2), some (vi (x3 + 1)), none, none] [] V) ∧ (x4 < 4 → vp_in x3 96 ∧ ((¬ (V 212 ((x3).toNatClampNeg)) = x2 → w0_getsOut E Q 115 [some (vr 16), none, some (vi x2), some (vi (x3 + 1)), none, none] [] V) ∧ ((V 212 ((x3).toNatClampNeg)) = x2 → c0_next E x3 x4 V (fun r143 V143 => (r143 = (-1) → w0_getsOut E Q 124 [some (vr 16), none, some (vi x2), some (vi x3), some (vi (x4 + 1)), none] [] V143) ∧ (¬ r143 = (-1) → vp_in r143 96 ∧ (((V143 17 ((r143).toNatClampNeg)) = 3 → w0_getsOut E Q 124 [some (vr 16), none, some (vi x2), some (vi x3), some (vi (x4 + 1)), none] [] V143) ∧ (¬ (V143 17 ((r143).toNatClampNeg)) = 3 → vp_in r143 96 ∧ (((V143 212 ((r143).toNatClampNeg)) ≤ (x2 + 1) → w0_getsOut E Q 124 [some (vr 16), none, some (vi x2), some (vi x3), some (vi (x4 + 1)), none] [] V143) ∧ ((x2 + 1) < (V143 212 ((r143).toNatClampNeg)) → vp_in r143 96 ∧ (((V143 111 ((r143).toNatClampNeg)) ≤ (x2 + 1) → w0_getsOut E Q 124 [some (vr 16), none, some (vi x2), some (vi x3), some (vi (x4 + 1)), none] [] V143) ∧ ((x2 + 1) < (V143 111 ((r143).toNatClampNeg)) → vp_in r143 96 ∧ (w0_getsOut E Q 124 [some (vr 16), none, some (vi x2), some (vi x3), some (vi (x4 + 1)), none] [] (up2 V143 212 (r143.toNatClampNeg) (x2 + 1))))))))))))))) : w0_getsOut E Q 124 [some (vr 16), none, some (vi x2), some (vi x3), some (vi x4), none] [] V := by
  refine wp_iload dX0_getsOut_124 rfl ?_
  refine wp_iconst (v := 4) dX0_getsOut_126 rfl ?_
  refine wp_icmp_ge 207 dX0_getsOut_127 (by decide) (fun hc => ?_) (fun hc => ?_)
  · replace h := h.1 hc
    refine wc6_3 1 dX0_getsOut_207 rfl ?_
    refine wp_goto 115 dX0_getsOut_210 (by decide) ?_
    exact wp_drop [some (vr 16), none, some (vi x2), some (vi (x3 + 1)), none, none] ⟨rfl, ⟨rfl, ⟨rfl, trivial⟩⟩⟩ h
  · replace h := h.2 (Int32.not_le.mp hc)
    refine wp_aload_n dX0_getsOut_130 rfl ?_
    refine wp_getrs dX0_getsOut_131 fk0_86_0 (cb_16 hC) (ck_16 hC) rfl (cr_15 hC) ?_
    refine wp_iload_n dX0_getsOut_134 rfl ?_
    refine wp_iald dX0_getsOut_135 (cb_212 hC).2 (ck_212 hC) h.1 ?_
    replace h := h.2
    refine wp_iload_n dX0_getsOut_136 rfl ?_
    refine wp_icmp_ne 207 dX0_getsOut_137 (by decide) (fun hc => ?_) (fun hc => ?_)
    · replace h := h.1 hc
      refine wc6_3 1 dX0_getsOut_207 rfl ?_
      refine wp_goto 115 dX0_getsOut_210 (by decide) ?_
      exact wp_drop [some (vr 16), none, some (vi x2), some (vi (x3 + 1)), none, none] ⟨rfl, ⟨rfl, ⟨rfl, trivial⟩⟩⟩ h
    · replace h := h.2 hc
      refine wp_iload_n dX0_getsOut_140 rfl ?_
      refine wp_iload dX0_getsOut_141 rfl ?_
      refine wq_SI2 lk0_206 dX0_getsOut_143 h (rmQ_ok (by decide) (by decide)) ⟨Nat.le_refl _, Nat.le_refl _⟩ (Nat.le_of_ble_eq_true rfl) (fun r143 V143 h => ?_)
      refine wi6_5 dX0_getsOut_146 ?_
      refine wp_iload dX0_getsOut_148 rfl ?_
      refine wp_iconst (v := (-1)) dX0_getsOut_150 rfl ?_
      refine wp_icmp_eq 201 dX0_getsOut_151 (by decide) (fun hc => ?_) (fun hc => ?_)
      · replace h := h.1 hc
        refine wc6_4 1 dX0_getsOut_201 rfl ?_
        refine wp_goto 124 dX0_getsOut_204 (by decide) ?_
        exact wp_drop [some (vr 16), none, some (vi x2), some (vi x3), some (vi (x4 + 1)), none] ⟨rfl, ⟨rfl, ⟨rfl, ⟨rfl, trivial⟩⟩⟩⟩ h
      · replace h := h.2 hc
        refine wp_aload_n dX0_getsOut_154 rfl ?_
        refine wp_getrs dX0_getsOut_155 fk0_32_0 (cb_16 hC) (ck_16 hC) rfl (cr_0 hC) ?_
        refine wp_iload dX0_getsOut_158 rfl ?_
        refine wp_iald dX0_getsOut_160 (cb_17 hC).2 (ck_17 hC) h.1 ?_
        replace h := h.2
        refine wp_iconst (v := 3) dX0_getsOut_161 rfl ?_
        refine wp_icmp_eq 201 dX0_getsOut_162 (by decide) (fun hc => ?_) (fun hc => ?_)
        · replace h := h.1 hc
          refine wc6_4 1 dX0_getsOut_201 rfl ?_
          refine wp_goto 124 dX0_getsOut_204 (by decide) ?_
          exact wp_drop [some (vr 16), none, some (vi x2), some (vi x3), some (vi (x4 + 1)), none] ⟨rfl, ⟨rfl, ⟨rfl, ⟨rfl, trivial⟩⟩⟩⟩ h
        · replace h := h.2 hc
          refine wp_aload_n dX0_getsOut_165 rfl ?_
          refine wp_getrs dX0_getsOut_166 fk0_86_0 (cb_16 hC) (ck_16 hC) rfl (cr_15 hC) ?_
          refine wp_iload dX0_getsOut_169 rfl ?_
          refine wp_iald dX0_getsOut_171 (cb_212 hC).2 (ck_212 hC) h.1 ?_
          replace h := h.2
          refine wp_iload_n dX0_getsOut_172 rfl ?_
          refine wp_iconst (v := 1) dX0_getsOut_173 rfl ?_
          refine wp_iadd dX0_getsOut_174 ?_
          refine wp_icmp_le 201 dX0_getsOut_175 (by decide) (fun hc => ?_) (fun hc => ?_)
          · replace h := h.1 hc
            refine wc6_4 1 dX0_getsOut_201 rfl ?_
            refine wp_goto 124 dX0_getsOut_204 (by decide) ?_
            exact wp_drop [some (vr 16), none, some (vi x2), some (vi x3), some (vi (x4 + 1)), none] ⟨rfl, ⟨rfl, ⟨rfl, ⟨rfl, trivial⟩⟩⟩⟩ h
          · replace h := h.2 (Int32.not_le.mp hc)
            refine wp_aload_n dX0_getsOut_178 rfl ?_
            refine wp_getrs dX0_getsOut_179 fk0_68_0 (cb_16 hC) (ck_16 hC) rfl (cr_9 hC) ?_
            refine wp_iload dX0_getsOut_182 rfl ?_
            refine wp_iald dX0_getsOut_184 (cb_111 hC).2 (ck_111 hC) h.1 ?_
            replace h := h.2
            refine wp_iload_n dX0_getsOut_185 rfl ?_
            refine wp_iconst (v := 1) dX0_getsOut_186 rfl ?_
            refine wp_iadd dX0_getsOut_187 ?_
            refine wp_icmp_le 201 dX0_getsOut_188 (by decide) (fun hc => ?_) (fun hc => ?_)
            · replace h := h.1 hc
              refine wc6_4 1 dX0_getsOut_201 rfl ?_
              refine wp_goto 124 dX0_getsOut_204 (by decide) ?_
              exact wp_drop [some (vr 16), none, some (vi x2), some (vi x3), some (vi (x4 + 1)), none] ⟨rfl, ⟨rfl, ⟨rfl, ⟨rfl, trivial⟩⟩⟩⟩ h
            · replace h := h.2 (Int32.not_le.mp hc)
              refine wp_aload_n dX0_getsOut_191 rfl ?_
              refine wp_getrs dX0_getsOut_192 fk0_86_0 (cb_16 hC) (ck_16 hC) rfl (cr_15 hC) ?_
              refine wp_iload dX0_getsOut_195 rfl ?_
              refine wp_iload_n dX0_getsOut_197 rfl ?_
              refine wp_iconst (v := 1) dX0_getsOut_198 rfl ?_
              refine wp_iadd dX0_getsOut_199 ?_
              refine wp_iast dX0_getsOut_200 (cb_212 hC) (ck_212 hC) h.1 ?_
              replace h := h.2
              refine wc6_4 1 dX0_getsOut_201 rfl ?_
              refine wp_goto 124 dX0_getsOut_204 (by decide) ?_
              exact wp_drop [some (vr 16), none, some (vi x2), some (vi x3), some (vi (x4 + 1)), none] ⟨rfl, ⟨rfl, ⟨rfl, ⟨rfl, trivial⟩⟩⟩⟩ h
theorem n0_getsOut {E : eT} {Q : Int32 → vT → Prop} {V : vT} {x1 : Int32} (h : w0_getsOut E Q 0 [some (vr 16), some (vi x1), none, none, none, none] [] V) : c0_getsOut E x1 V Q := MOk.enter [some (vr 16), some (vi x1), none, none, none, none] pn_X0 rfl rfl (Nat.le_of_ble_eq_true rfl) rfl h
theorem b0_laysFromBurning_0 {E : eT} {Q : vT → Prop} {V : vT} {tl : Nat} (hC : CM E tl) (h : w0_laysFromBurning E Q 2 [some (vr 16), some (vi 0)] [] V) : w0_laysFromBurning E Q 0 [some (vr 16), none] [] V := by
  refine wp_iconst (v := 0) dX0_laysFromBurning_0 rfl ?_
  refine wi2_1 dX0_laysFromBurning_1 ?_
  exact h
theorem b0_laysFromBurning_2 {E : eT} {Q : vT → Prop} {V : vT} {tl : Nat} {x1 : Int32} (hC : CM E tl) (h : (96 ≤ x1 → c0_spreads E V (fun V40 => Q V40)) ∧ (x1 < 96 → vp_in x1 96 ∧ ((¬ (V 20 ((x1).toNatClampNeg)) = 1 → vp_in x1 96 ∧ (w0_laysFromBurning E Q 2 [some (vr 16), some (vi (x1 + 1))] [] (up2 V 111 (x1.toNatClampNeg) 268435456))) ∧ ((V 20 ((x1).toNatClampNeg)) = 1 → vp_in x1 96 ∧ (w0_laysFromBurning E Q 2 [some (vr 16), some (vi (x1 + 1))] [] (up2 V 111 (x1.toNatClampNeg) 0)))))) : w0_laysFromBurning E Q 2 [some (vr 16), some (vi x1)] [] V := by
  refine wp_iload_n dX0_laysFromBurning_2 rfl ?_
  refine wp_bipush (v := 96) dX0_laysFromBurning_3 rfl ?_
  refine wp_icmp_ge 39 dX0_laysFromBurning_5 (by decide) (fun hc => ?_) (fun hc => ?_)
  · replace h := h.1 hc
    refine wp_aload_n dX0_laysFromBurning_39 rfl ?_
    refine wq_VV0 lk0_210 rfl (cb_16 hC) (ck_16 hC) dX0_laysFromBurning_40 h (rmQ_ok (by decide) (by decide)) ⟨Nat.le_refl _, Nat.le_refl _⟩ (Nat.le_of_ble_eq_true rfl) (fun V40 h => ?_)
    exact wp_vret dX0_laysFromBurning_43 ⟨rfl, rfl, rfl, rfl, h⟩
  · replace h := h.2 (Int32.not_le.mp hc)
    refine wp_aload_n dX0_laysFromBurning_8 rfl ?_
    refine wp_getrs dX0_laysFromBurning_9 fk0_68_0 (cb_16 hC) (ck_16 hC) rfl (cr_9 hC) ?_
    refine wp_iload_n dX0_laysFromBurning_12 rfl ?_
    refine wp_aload_n dX0_laysFromBurning_13 rfl ?_
    refine wp_getrs dX0_laysFromBurning_14 fk0_47_0 (cb_16 hC) (ck_16 hC) rfl (cr_2 hC) ?_
    refine wp_getrs dX0_laysFromBurning_17 fk0_158_2 (FO.b0 (cf_19 hC)) (FO.k0 (cf_19 hC)) rfl (FO.r0 (cf_19 hC)) ?_
    refine wp_iload_n dX0_laysFromBurning_20 rfl ?_
    refine wp_iald dX0_laysFromBurning_21 (FO.b1 (cf_19 hC)).2 (FO.k1 (cf_19 hC)) h.1 ?_
    replace h := h.2
    refine wp_iconst (v := 1) dX0_laysFromBurning_22 rfl ?_
    refine wp_icmp_ne 30 dX0_laysFromBurning_23 (by decide) (fun hc => ?_) (fun hc => ?_)
    · replace h := h.1 hc
      refine wp_ldc (v := 268435456) dX0_laysFromBurning_30 q1038 ?_
      refine wp_iast dX0_laysFromBurning_32 (cb_111 hC) (ck_111 hC) h.1 ?_
      replace h := h.2
      refine wc2_1 1 dX0_laysFromBurning_33 rfl ?_
      refine wp_goto 2 dX0_laysFromBurning_36 (by decide) ?_
      exact h
    · replace h := h.2 hc
      refine wp_iconst (v := 0) dX0_laysFromBurning_26 rfl ?_
      refine wp_goto 32 dX0_laysFromBurning_27 (by decide) ?_
      refine wp_iast dX0_laysFromBurning_32 (cb_111 hC) (ck_111 hC) h.1 ?_
      replace h := h.2
      refine wc2_1 1 dX0_laysFromBurning_33 rfl ?_
      refine wp_goto 2 dX0_laysFromBurning_36 (by decide) ?_
      exact h
theorem n0_laysFromBurning {E : eT} {Q : vT → Prop} {V : vT} (h : w0_laysFromBurning E Q 0 [some (vr 16), none] [] V) : c0_laysFromBurning E V Q := MOk.enter [some (vr 16), none] pn_X0 rfl rfl (Nat.le_of_ble_eq_true rfl) rfl h
theorem b0_isEdge_0 {E : eT} {Q : Int32 → vT → Prop} {V : vT} {tl : Nat} {x1 : Int32} (hC : CM E tl) (h : ((rmd x1 12) = 0 → Q 1 V) ∧ (¬ (rmd x1 12) = 0 → ((rmd x1 12) = 11 → Q 1 V) ∧ (¬ (rmd x1 12) = 11 → ((x1 / 12) = 0 → Q 1 V) ∧ (¬ (x1 / 12) = 0 → (¬ (x1 / 12) = 7 → Q 0 V) ∧ ((x1 / 12) = 7 → Q 1 V))))) : w0_isEdge E Q 0 [some (vi x1)] [] V := by
  refine wp_iload_n dX0_isEdge_0 rfl ?_
  refine wp_bipush (v := 12) dX0_isEdge_1 rfl ?_
  refine wp_irm dX0_isEdge_3 (by decide) ?_
  refine wp_if_eq 32 dX0_isEdge_4 (by decide) (fun hc => ?_) (fun hc => ?_)
  · replace h := h.1 hc
    refine wp_iconst (v := 1) dX0_isEdge_32 rfl ?_
    refine wp_goto 37 dX0_isEdge_33 (by decide) ?_
    exact wp_iret dX0_isEdge_37 rfl ⟨_, rfl, rfl, rfl, rfl, h⟩
  · replace h := h.2 hc
    refine wp_iload_n dX0_isEdge_7 rfl ?_
    refine wp_bipush (v := 12) dX0_isEdge_8 rfl ?_
    refine wp_irm dX0_isEdge_10 (by decide) ?_
    refine wp_bipush (v := 11) dX0_isEdge_11 rfl ?_
    refine wp_icmp_eq 32 dX0_isEdge_13 (by decide) (fun hc => ?_) (fun hc => ?_)
    · replace h := h.1 hc
      refine wp_iconst (v := 1) dX0_isEdge_32 rfl ?_
      refine wp_goto 37 dX0_isEdge_33 (by decide) ?_
      exact wp_iret dX0_isEdge_37 rfl ⟨_, rfl, rfl, rfl, rfl, h⟩
    · replace h := h.2 hc
      refine wp_iload_n dX0_isEdge_16 rfl ?_
      refine wp_bipush (v := 12) dX0_isEdge_17 rfl ?_
      refine wp_idiv dX0_isEdge_19 (by decide) ?_
      refine wp_if_eq 32 dX0_isEdge_20 (by decide) (fun hc => ?_) (fun hc => ?_)
      · replace h := h.1 hc
        refine wp_iconst (v := 1) dX0_isEdge_32 rfl ?_
        refine wp_goto 37 dX0_isEdge_33 (by decide) ?_
        exact wp_iret dX0_isEdge_37 rfl ⟨_, rfl, rfl, rfl, rfl, h⟩
      · replace h := h.2 hc
        refine wp_iload_n dX0_isEdge_23 rfl ?_
        refine wp_bipush (v := 12) dX0_isEdge_24 rfl ?_
        refine wp_idiv dX0_isEdge_26 (by decide) ?_
        refine wp_bipush (v := 7) dX0_isEdge_27 rfl ?_
        refine wp_icmp_ne 36 dX0_isEdge_29 (by decide) (fun hc => ?_) (fun hc => ?_)
        · replace h := h.1 hc
          refine wp_iconst (v := 0) dX0_isEdge_36 rfl ?_
          exact wp_iret dX0_isEdge_37 rfl ⟨_, rfl, rfl, rfl, rfl, h⟩
        · replace h := h.2 hc
          refine wp_iconst (v := 1) dX0_isEdge_32 rfl ?_
          refine wp_goto 37 dX0_isEdge_33 (by decide) ?_
          exact wp_iret dX0_isEdge_37 rfl ⟨_, rfl, rfl, rfl, rfl, h⟩
theorem n0_isEdge {E : eT} {Q : Int32 → vT → Prop} {V : vT} {x1 : Int32} (h : w0_isEdge E Q 0 [some (vi x1)] [] V) : c0_isEdge E x1 V Q := MOk.enter [some (vi x1)] pn_X0 rfl rfl (Nat.le_of_ble_eq_true rfl) rfl h
theorem b0_safe_0 {E : eT} {Q : Int32 → vT → Prop} {V : vT} {tl : Nat} {x1 : Int32} (hC : CM E tl) (h : c0_in E x1 2 V (fun r2 V2 => (¬ r2 = 0 → c0_laysFromBurning E V2 (fun V11 => w0_safe E Q 22 [some (vr 16), some (vi x1), some (vi 0), some (vi (-2)), some (vi 0)] [] V11)) ∧ (r2 = 0 → Q (-1) V2))) : w0_safe E Q 0 [some (vr 16), some (vi x1), none, none, none] [] V := by
  refine wp_iload_n dX0_safe_0 rfl ?_
  refine wp_iconst (v := 2) dX0_safe_1 rfl ?_
  refine wq_SI2 lk0_12 dX0_safe_2 h (rmQ_ok (by decide) (by decide)) ⟨Nat.le_refl _, Nat.le_refl _⟩ (Nat.le_of_ble_eq_true rfl) (fun r2 V2 h => ?_)
  refine wp_if_ne 10 dX0_safe_5 (by decide) (fun hc => ?_) (fun hc => ?_)
  · replace h := h.1 hc
    refine wp_aload_n dX0_safe_10 rfl ?_
    refine wq_VV0 lk0_241 rfl (cb_16 hC) (ck_16 hC) dX0_safe_11 h (rmQ_ok (by decide) (by decide)) ⟨Nat.le_refl _, Nat.le_refl _⟩ (Nat.le_of_ble_eq_true rfl) (fun V11 h => ?_)
    refine wp_iconst (v := 0) dX0_safe_14 rfl ?_
    refine wi5_2 dX0_safe_15 ?_
    refine wp_bipush (v := (-2)) dX0_safe_16 rfl ?_
    refine wi5_3 dX0_safe_18 ?_
    refine wp_iconst (v := 0) dX0_safe_19 rfl ?_
    refine wi5_4 dX0_safe_20 ?_
    exact h
  · replace h := h.2 hc
    refine wp_iconst (v := (-1)) dX0_safe_8 rfl ?_
    exact wp_iret dX0_safe_9 rfl ⟨_, rfl, rfl, rfl, rfl, h⟩
theorem b0_safe_22 {E : eT} {Q : Int32 → vT → Prop} {V : vT} {tl : Nat} {x1 x2 x3 x4 : Int32} (hC : CM E tl) (h : (96 ≤ x4 → (¬ x1 = 0 → Q x3 V) ∧ (x1 = 0 → Q x2 V)) ∧ (x4 < 96 → vp_in x4 96 ∧ ((¬ (V 17 ((x4).toNatClampNeg)) = 1 → w0_safe E Q 22 [some (vr 16), some (vi x1), some (vi x2), some (vi x3), some (vi (x4 + 1))] [] V) ∧ ((V 17 ((x4).toNatClampNeg)) = 1 → vp_in x4 96 ∧ ((268435456 ≤ (V 111 ((x4).toNatClampNeg)) → (¬ x3 = (-2) → w0_safe E Q 22 [some (vr 16), some (vi x1), some (vi (x2 + 1)), some (vi x3), some (vi (x4 + 1))] [] V) ∧ (x3 = (-2) → w0_safe E Q 22 [some (vr 16), some (vi x1), some (vi (x2 + 1)), some (vi x4), some (vi (x4 + 1))] [] V)) ∧ ((V 111 ((x4).toNatClampNeg)) < 268435456 → w0_safe E Q 22 [some (vr 16), some (vi x1), some (vi x2), some (vi x3), some (vi (x4 + 1))] [] V)))))) : w0_safe E Q 22 [some (vr 16), some (vi x1), some (vi x2), some (vi x3), some (vi x4)] [] V := by
  refine wp_iload dX0_safe_22 rfl ?_
  refine wp_bipush (v := 96) dX0_safe_24 rfl ?_
  refine wp_icmp_ge 77 dX0_safe_26 (by decide) (fun hc => ?_) (fun hc => ?_)
  · replace h := h.1 hc
    refine wp_iload_n dX0_safe_77 rfl ?_
    refine wp_if_ne 85 dX0_safe_78 (by decide) (fun hc => ?_) (fun hc => ?_)
    · replace h := h.1 hc
      refine wp_iload_n dX0_safe_85 rfl ?_
      exact wp_iret dX0_safe_86 rfl ⟨_, rfl, rfl, rfl, rfl, h⟩
    · replace h := h.2 hc
      refine wp_iload_n dX0_safe_81 rfl ?_
      refine wp_goto 86 dX0_safe_82 (by decide) ?_
      exact wp_iret dX0_safe_86 rfl ⟨_, rfl, rfl, rfl, rfl, h⟩
  · replace h := h.2 (Int32.not_le.mp hc)
    refine wp_aload_n dX0_safe_29 rfl ?_
    refine wp_getrs dX0_safe_30 fk0_32_0 (cb_16 hC) (ck_16 hC) rfl (cr_0 hC) ?_
    refine wp_iload dX0_safe_33 rfl ?_
    refine wp_iald dX0_safe_35 (cb_17 hC).2 (ck_17 hC) h.1 ?_
    replace h := h.2
    refine wp_iconst (v := 1) dX0_safe_36 rfl ?_
    refine wp_icmp_ne 71 dX0_safe_37 (by decide) (fun hc => ?_) (fun hc => ?_)
    · replace h := h.1 hc
      refine wc5_4 1 dX0_safe_71 rfl ?_
      refine wp_goto 22 dX0_safe_74 (by decide) ?_
      exact h
    · replace h := h.2 hc
      refine wp_aload_n dX0_safe_40 rfl ?_
      refine wp_getrs dX0_safe_41 fk0_68_0 (cb_16 hC) (ck_16 hC) rfl (cr_9 hC) ?_
      refine wp_iload dX0_safe_44 rfl ?_
      refine wp_iald dX0_safe_46 (cb_111 hC).2 (ck_111 hC) h.1 ?_
      replace h := h.2
      refine wp_ldc (v := 268435456) dX0_safe_47 q1038 ?_
      refine wp_icmp_ge 55 dX0_safe_49 (by decide) (fun hc => ?_) (fun hc => ?_)
      · replace h := h.1 hc
        refine wc5_2 1 dX0_safe_55 rfl ?_
        refine wp_iload_n dX0_safe_58 rfl ?_
        refine wp_bipush (v := (-2)) dX0_safe_59 rfl ?_
        refine wp_icmp_ne 69 dX0_safe_61 (by decide) (fun hc => ?_) (fun hc => ?_)
        · replace h := h.1 hc
          refine wp_iload_n dX0_safe_69 rfl ?_
          refine wi5_3 dX0_safe_70 ?_
          refine wc5_4 1 dX0_safe_71 rfl ?_
          refine wp_goto 22 dX0_safe_74 (by decide) ?_
          exact h
        · replace h := h.2 hc
          refine wp_iload dX0_safe_64 rfl ?_
          refine wp_goto 70 dX0_safe_66 (by decide) ?_
          refine wi5_3 dX0_safe_70 ?_
          refine wc5_4 1 dX0_safe_71 rfl ?_
          refine wp_goto 22 dX0_safe_74 (by decide) ?_
          exact h
      · replace h := h.2 (Int32.not_le.mp hc)
        refine wp_goto 71 dX0_safe_52 (by decide) ?_
        refine wc5_4 1 dX0_safe_71 rfl ?_
        refine wp_goto 22 dX0_safe_74 (by decide) ?_
        exact h
theorem n0_safe {E : eT} {Q : Int32 → vT → Prop} {V : vT} {x1 : Int32} (h : w0_safe E Q 0 [some (vr 16), some (vi x1), none, none, none] [] V) : c0_safe E x1 V Q := MOk.enter [some (vr 16), some (vi x1), none, none, none] pn_X0 rfl rfl (Nat.le_of_ble_eq_true rfl) rfl h
theorem b0_woods_0 {E : eT} {Q : Int32 → vT → Prop} {V : vT} {tl : Nat} {x1 : Int32} (hC : CM E tl) (h : c0_in E x1 2 V (fun r2 V2 => (¬ r2 = 0 → w0_woods E Q 17 [some (vr 16), some (vi x1), some (vi 0), some (vi 0), some (vi 0), none, none, none] [] V2) ∧ (r2 = 0 → Q (-1) V2))) : w0_woods E Q 0 [some (vr 16), some (vi x1), none, none, none, none, none, none] [] V := by
  refine wp_iload_n dX0_woods_0 rfl ?_
  refine wp_iconst (v := 2) dX0_woods_1 rfl ?_
  refine wq_SI2 lk0_12 dX0_woods_2 h (rmQ_ok (by decide) (by decide)) ⟨Nat.le_refl _, Nat.le_refl _⟩ (Nat.le_of_ble_eq_true rfl) (fun r2 V2 h => ?_)
  refine wp_if_ne 10 dX0_woods_5 (by decide) (fun hc => ?_) (fun hc => ?_)
  · replace h := h.1 hc
    refine wp_iconst (v := 0) dX0_woods_10 rfl ?_
    refine wi8_2 dX0_woods_11 ?_
    refine wp_iconst (v := 0) dX0_woods_12 rfl ?_
    refine wi8_3 dX0_woods_13 ?_
    refine wp_iconst (v := 0) dX0_woods_14 rfl ?_
    refine wi8_4 dX0_woods_15 ?_
    exact h
  · replace h := h.2 hc
    refine wp_iconst (v := (-1)) dX0_woods_8 rfl ?_
    exact wp_iret dX0_woods_9 rfl ⟨_, rfl, rfl, rfl, rfl, h⟩
theorem b0_woods_17 {E : eT} {Q : Int32 → vT → Prop} {V : vT} {tl : Nat} {x1 x2 x3 x4 : Int32} (hC : CM E tl) (h : (96 ≤ x4 → (¬ x1 = 0 → Q x3 V) ∧ (x1 = 0 → Q x2 V)) ∧ (x4 < 96 → c0_isWood E x4 V (fun r27 V27 => (¬ r27 = 0 → c0_laysFrom E x4 V27 (fun V39 => w0_woods E Q 53 [some (vr 16), some (vi x1), some (vi x2), some (vi x3), some (vi x4), some (vi 0), some (vi x4), some (vi 95)] [] V39)) ∧ (r27 = 0 → w0_woods E Q 17 [some (vr 16), some (vi x1), some (vi x2), some (vi x3), some (vi (x4 + 1)), none, none, none] [] V27)))) : w0_woods E Q 17 [some (vr 16), some (vi x1), some (vi x2), some (vi x3), some (vi x4), none, none, none] [] V := by
  refine wp_iload dX0_woods_17 rfl ?_
  refine wp_bipush (v := 96) dX0_woods_19 rfl ?_
  refine wp_icmp_ge 135 dX0_woods_21 (by decide) (fun hc => ?_) (fun hc => ?_)
  · replace h := h.1 hc
    refine wp_iload_n dX0_woods_135 rfl ?_
    refine wp_if_ne 143 dX0_woods_136 (by decide) (fun hc => ?_) (fun hc => ?_)
    · replace h := h.1 hc
      refine wp_iload_n dX0_woods_143 rfl ?_
      exact wp_iret dX0_woods_144 rfl ⟨_, rfl, rfl, rfl, rfl, h⟩
    · replace h := h.2 hc
      refine wp_iload_n dX0_woods_139 rfl ?_
      refine wp_goto 144 dX0_woods_140 (by decide) ?_
      exact wp_iret dX0_woods_144 rfl ⟨_, rfl, rfl, rfl, rfl, h⟩
  · replace h := h.2 (Int32.not_le.mp hc)
    refine wp_aload_n dX0_woods_24 rfl ?_
    refine wp_iload dX0_woods_25 rfl ?_
    refine wq_VI1 lk0_213 rfl (cb_16 hC) (ck_16 hC) dX0_woods_27 h (rmQ_ok (by decide) (by decide)) ⟨Nat.le_refl _, Nat.le_refl _⟩ (Nat.le_of_ble_eq_true rfl) (fun r27 V27 h => ?_)
    refine wp_if_ne 36 dX0_woods_30 (by decide) (fun hc => ?_) (fun hc => ?_)
    · replace h := h.1 hc
      refine wp_aload_n dX0_woods_36 rfl ?_
      refine wp_iload dX0_woods_37 rfl ?_
      refine wq_VV1 lk0_216 rfl (cb_16 hC) (ck_16 hC) dX0_woods_39 h (rmQ_ok (by decide) (by decide)) ⟨Nat.le_refl _, Nat.le_refl _⟩ (Nat.le_of_ble_eq_true rfl) (fun V39 h => ?_)
      refine wp_iconst (v := 0) dX0_woods_42 rfl ?_
      refine wi8_5 dX0_woods_43 ?_
      refine wp_iload dX0_woods_45 rfl ?_
      refine wi8_6 dX0_woods_47 ?_
      refine wp_bipush (v := 95) dX0_woods_49 rfl ?_
      refine wi8_7 dX0_woods_51 ?_
      exact h
    · replace h := h.2 hc
      refine wp_goto 129 dX0_woods_33 (by decide) ?_
      refine wc8_4 1 dX0_woods_129 rfl ?_
      refine wp_goto 17 dX0_woods_132 (by decide) ?_
      exact h
theorem b0_woods_53 {E : eT} {Q : Int32 → vT → Prop} {V : vT} {tl : Nat} {x1 x2 x3 x4 x5 x6 x7 : Int32} (hC : CM E tl) (h : (x7 < 0 → (¬ x6 = x4 → w0_woods E Q 17 [some (vr 16), some (vi x1), some (vi (x2 + 0)), some (vi (mxI x3 x5)), some (vi (x4 + 1)), none, none, none] [] V) ∧ (x6 = x4 → w0_woods E Q 17 [some (vr 16), some (vi x1), some (vi (x2 + 1)), some (vi (mxI x3 x5)), some (vi (x4 + 1)), none, none, none] [] V)) ∧ (0 ≤ x7 → vp_in x7 96 ∧ ((268435456 ≤ (V 111 ((x7).toNatClampNeg)) → vp_in x7 96 ∧ ((268435456 ≤ (V 111 ((x7).toNatClampNeg)) → w0_woods E Q 53 [some (vr 16), some (vi x1), some (vi x2), some (vi x3), some (vi x4), some (vi (x5 + 0)), some (vi x6), some (vi (x7 + (-1)))] [] V) ∧ ((V 111 ((x7).toNatClampNeg)) < 268435456 → w0_woods E Q 53 [some (vr 16), some (vi x1), some (vi x2), some (vi x3), some (vi x4), some (vi (x5 + 0)), some (vi x7), some (vi (x7 + (-1)))] [] V))) ∧ ((V 111 ((x7).toNatClampNeg)) < 268435456 → vp_in x7 96 ∧ ((268435456 ≤ (V 111 ((x7).toNatClampNeg)) → w0_woods E Q 53 [some (vr 16), some (vi x1), some (vi x2), some (vi x3), some (vi x4), some (vi (x5 + 1)), some (vi x6), some (vi (x7 + (-1)))] [] V) ∧ ((V 111 ((x7).toNatClampNeg)) < 268435456 → w0_woods E Q 53 [some (vr 16), some (vi x1), some (vi x2), some (vi x3), some (vi x4), some (vi (x5 + 1)), some (vi x7), some (vi (x7 + (-1)))] [] V)))))) : w0_woods E Q 53 [some (vr 16), some (vi x1), some (vi x2), some (vi x3), some (vi x4), some (vi x5), some (vi x6), some (vi x7)] [] V := by
  refine wp_iload dX0_woods_53 rfl ?_
  refine wp_if_lt 107 dX0_woods_55 (by decide) (fun hc => ?_) (fun hc => ?_)
  · replace h := h.1 hc
    refine wp_iload_n dX0_woods_107 rfl ?_
    refine wp_iload dX0_woods_108 rfl ?_
    refine wp_iload dX0_woods_110 rfl ?_
    refine wp_icmp_ne 119 dX0_woods_112 (by decide) (fun hc => ?_) (fun hc => ?_)
    · replace h := h.1 hc
      refine wp_iconst (v := 0) dX0_woods_119 rfl ?_
      refine wp_iadd dX0_woods_120 ?_
      refine wi8_2 dX0_woods_121 ?_
      refine wp_iload_n dX0_woods_122 rfl ?_
      refine wp_iload dX0_woods_123 rfl ?_
      refine wp_mmax dX0_woods_125 q963 q451 q124 q452 (by decide) (Nat.le_of_ble_eq_true rfl) (Nat.le_refl _) (Nat.le_refl _) ?_
      refine wi8_3 dX0_woods_128 ?_
      refine wc8_4 1 dX0_woods_129 rfl ?_
      refine wp_goto 17 dX0_woods_132 (by decide) ?_
      exact wp_drop [some (vr 16), some (vi x1), some (vi (x2 + 0)), some (vi (mxI x3 x5)), some (vi (x4 + 1)), none, none, none] ⟨rfl, ⟨rfl, ⟨rfl, ⟨rfl, ⟨rfl, trivial⟩⟩⟩⟩⟩ h
    · replace h := h.2 hc
      refine wp_iconst (v := 1) dX0_woods_115 rfl ?_
      refine wp_goto 120 dX0_woods_116 (by decide) ?_
      refine wp_iadd dX0_woods_120 ?_
      refine wi8_2 dX0_woods_121 ?_
      refine wp_iload_n dX0_woods_122 rfl ?_
      refine wp_iload dX0_woods_123 rfl ?_
      refine wp_mmax dX0_woods_125 q963 q451 q124 q452 (by decide) (Nat.le_of_ble_eq_true rfl) (Nat.le_refl _) (Nat.le_refl _) ?_
      refine wi8_3 dX0_woods_128 ?_
      refine wc8_4 1 dX0_woods_129 rfl ?_
      refine wp_goto 17 dX0_woods_132 (by decide) ?_
      exact wp_drop [some (vr 16), some (vi x1), some (vi (x2 + 1)), some (vi (mxI x3 x5)), some (vi (x4 + 1)), none, none, none] ⟨rfl, ⟨rfl, ⟨rfl, ⟨rfl, ⟨rfl, trivial⟩⟩⟩⟩⟩ h
  · replace h := h.2 (Int32.not_lt.mp hc)
    refine wp_iload dX0_woods_58 rfl ?_
    refine wp_aload_n dX0_woods_60 rfl ?_
    refine wp_getrs dX0_woods_61 fk0_68_0 (cb_16 hC) (ck_16 hC) rfl (cr_9 hC) ?_
    refine wp_iload dX0_woods_64 rfl ?_
    refine wp_iald dX0_woods_66 (cb_111 hC).2 (ck_111 hC) h.1 ?_
    replace h := h.2
    refine wp_ldc (v := 268435456) dX0_woods_67 q1038 ?_
    refine wp_icmp_ge 76 dX0_woods_69 (by decide) (fun hc => ?_) (fun hc => ?_)
    · replace h := h.1 hc
      refine wp_iconst (v := 0) dX0_woods_76 rfl ?_
      refine wp_iadd dX0_woods_77 ?_
      refine wi8_5 dX0_woods_78 ?_
      refine wp_aload_n dX0_woods_80 rfl ?_
      refine wp_getrs dX0_woods_81 fk0_68_0 (cb_16 hC) (ck_16 hC) rfl (cr_9 hC) ?_
      refine wp_iload dX0_woods_84 rfl ?_
      refine wp_iald dX0_woods_86 (cb_111 hC).2 (ck_111 hC) h.1 ?_
      replace h := h.2
      refine wp_ldc (v := 268435456) dX0_woods_87 q1038 ?_
      refine wp_icmp_ge 97 dX0_woods_89 (by decide) (fun hc => ?_) (fun hc => ?_)
      · replace h := h.1 hc
        refine wp_iload dX0_woods_97 rfl ?_
        refine wi8_6 dX0_woods_99 ?_
        refine wc8_7 (-1) dX0_woods_101 rfl ?_
        refine wp_goto 53 dX0_woods_104 (by decide) ?_
        exact h
      · replace h := h.2 (Int32.not_le.mp hc)
        refine wp_iload dX0_woods_92 rfl ?_
        refine wp_goto 99 dX0_woods_94 (by decide) ?_
        refine wi8_6 dX0_woods_99 ?_
        refine wc8_7 (-1) dX0_woods_101 rfl ?_
        refine wp_goto 53 dX0_woods_104 (by decide) ?_
        exact h
    · replace h := h.2 (Int32.not_le.mp hc)
      refine wp_iconst (v := 1) dX0_woods_72 rfl ?_
      refine wp_goto 77 dX0_woods_73 (by decide) ?_
      refine wp_iadd dX0_woods_77 ?_
      refine wi8_5 dX0_woods_78 ?_
      refine wp_aload_n dX0_woods_80 rfl ?_
      refine wp_getrs dX0_woods_81 fk0_68_0 (cb_16 hC) (ck_16 hC) rfl (cr_9 hC) ?_
      refine wp_iload dX0_woods_84 rfl ?_
      refine wp_iald dX0_woods_86 (cb_111 hC).2 (ck_111 hC) h.1 ?_
      replace h := h.2
      refine wp_ldc (v := 268435456) dX0_woods_87 q1038 ?_
      refine wp_icmp_ge 97 dX0_woods_89 (by decide) (fun hc => ?_) (fun hc => ?_)
      · replace h := h.1 hc
        refine wp_iload dX0_woods_97 rfl ?_
        refine wi8_6 dX0_woods_99 ?_
        refine wc8_7 (-1) dX0_woods_101 rfl ?_
        refine wp_goto 53 dX0_woods_104 (by decide) ?_
        exact h
      · replace h := h.2 (Int32.not_le.mp hc)
        refine wp_iload dX0_woods_92 rfl ?_
        refine wp_goto 99 dX0_woods_94 (by decide) ?_
        refine wi8_6 dX0_woods_99 ?_
        refine wc8_7 (-1) dX0_woods_101 rfl ?_
        refine wp_goto 53 dX0_woods_104 (by decide) ?_
        exact h
theorem n0_woods {E : eT} {Q : Int32 → vT → Prop} {V : vT} {x1 : Int32} (h : w0_woods E Q 0 [some (vr 16), some (vi x1), none, none, none, none, none, none] [] V) : c0_woods E x1 V Q := MOk.enter [some (vr 16), some (vi x1), none, none, none, none, none, none] pn_X0 rfl rfl (Nat.le_of_ble_eq_true rfl) rfl h
theorem b0_insure_0 {E : eT} {Q : Int32 → vT → Prop} {V : vT} {tl : Nat} {x1 x2 x3 : Int32} (hC : CM E tl) (h : c0_within E x1 1 10 V (fun r4 V4 => (r4 = 0 → Q (-1) V4) ∧ (¬ r4 = 0 → c0_within E x2 0 2550 V4 (fun r15 V15 => (r15 = 0 → Q (-1) V15) ∧ (¬ r15 = 0 → c0_in E x3 3 V15 (fun r23 V23 => (r23 = 0 → Q (-1) V23) ∧ (¬ r23 = 0 → ((2 * x1) ≤ (V23 16 7) → w0_insure E Q 52 [some (vr 16), some (vi x1), some (vi x2), some (vi x3), some (vi 0), some (vi 1), none] [] (up2 V23 16 7 0)) ∧ ((V23 16 7) < (2 * x1) → Q (-1) V23)))))))) : w0_insure E Q 0 [some (vr 16), some (vi x1), some (vi x2), some (vi x3), none, none, none] [] V := by
  refine wp_iload_n dX0_insure_0 rfl ?_
  refine wp_iconst (v := 1) dX0_insure_1 rfl ?_
  refine wp_bipush (v := 10) dX0_insure_2 rfl ?_
  refine wq_SI3 lk0_113 dX0_insure_4 h (rmQ_ok (by decide) (by decide)) ⟨Nat.le_refl _, Nat.le_refl _⟩ (Nat.le_of_ble_eq_true rfl) (fun r4 V4 h => ?_)
  refine wp_if_eq 39 dX0_insure_7 (by decide) (fun hc => ?_) (fun hc => ?_)
  · replace h := h.1 hc
    refine wp_iconst (v := (-1)) dX0_insure_39 rfl ?_
    exact wp_iret dX0_insure_40 rfl ⟨_, rfl, rfl, rfl, rfl, h⟩
  · replace h := h.2 hc
    refine wp_iload_n dX0_insure_10 rfl ?_
    refine wp_iconst (v := 0) dX0_insure_11 rfl ?_
    refine wp_sipush (v := 2550) dX0_insure_12 rfl ?_
    refine wq_SI3 lk0_113 dX0_insure_15 h (rmQ_ok (by decide) (by decide)) ⟨Nat.le_refl _, Nat.le_refl _⟩ (Nat.le_of_ble_eq_true rfl) (fun r15 V15 h => ?_)
    refine wp_if_eq 39 dX0_insure_18 (by decide) (fun hc => ?_) (fun hc => ?_)
    · replace h := h.1 hc
      refine wp_iconst (v := (-1)) dX0_insure_39 rfl ?_
      exact wp_iret dX0_insure_40 rfl ⟨_, rfl, rfl, rfl, rfl, h⟩
    · replace h := h.2 hc
      refine wp_iload_n dX0_insure_21 rfl ?_
      refine wp_iconst (v := 3) dX0_insure_22 rfl ?_
      refine wq_SI2 lk0_12 dX0_insure_23 h (rmQ_ok (by decide) (by decide)) ⟨Nat.le_refl _, Nat.le_refl _⟩ (Nat.le_of_ble_eq_true rfl) (fun r23 V23 h => ?_)
      refine wp_if_eq 39 dX0_insure_26 (by decide) (fun hc => ?_) (fun hc => ?_)
      · replace h := h.1 hc
        refine wp_iconst (v := (-1)) dX0_insure_39 rfl ?_
        exact wp_iret dX0_insure_40 rfl ⟨_, rfl, rfl, rfl, rfl, h⟩
      · replace h := h.2 hc
        refine wp_iconst (v := 2) dX0_insure_29 rfl ?_
        refine wp_iload_n dX0_insure_30 rfl ?_
        refine wp_imul dX0_insure_31 ?_
        refine wp_aload_n dX0_insure_32 rfl ?_
        refine wp_geti dX0_insure_33 fk0_106_0 (cb_16 hC) (ck_16 hC) rfl ?_
        refine wp_icmp_le 41 dX0_insure_36 (by decide) (fun hc => ?_) (fun hc => ?_)
        · replace h := h.1 hc
          refine wp_aload_n dX0_insure_41 rfl ?_
          refine wp_iconst (v := 0) dX0_insure_42 rfl ?_
          refine wp_puti dX0_insure_43 fp0_106_0 (cb_16 hC) (ck_16 hC) rfl ?_
          refine wp_iconst (v := 0) dX0_insure_46 rfl ?_
          refine wi7_4 dX0_insure_47 ?_
          refine wp_iconst (v := 1) dX0_insure_49 rfl ?_
          refine wi7_5 dX0_insure_50 ?_
          exact h
        · replace h := h.2 (Int32.not_le.mp hc)
          refine wp_iconst (v := (-1)) dX0_insure_39 rfl ?_
          exact wp_iret dX0_insure_40 rfl ⟨_, rfl, rfl, rfl, rfl, h⟩
theorem b0_insure_52 {E : eT} {Q : Int32 → vT → Prop} {V : vT} {tl : Nat} {x1 x2 x3 x4 x5 : Int32} (hC : CM E tl) (h : (((1 : Int32) <<< (x1 &&& 31)) ≤ x5 → (¬ x3 = 0 → (¬ x3 = 1 → Q x4 V) ∧ (x3 = 1 → c0_sumOf E x4 x1 2 1 V (fun r165 V165 => Q r165 V165))) ∧ (x3 = 0 → c0_sumOf E x4 x1 2 0 V (fun r148 V148 => Q r148 V148))) ∧ (x5 < ((1 : Int32) <<< (x1 &&& 31)) → c0_sumOf E x5 x1 2 1 V (fun r66 V66 => (r66 ≤ x2 → c0_sumOf E x5 x1 2 0 V66 (fun r82 V82 => c0_sumOf E x4 x1 2 0 V82 (fun r91 V91 => (0 < (r82 - r91) → w0_insure E Q 52 [some (vr 16), some (vi x1), some (vi x2), some (vi x3), some (vi x5), some (vi (x5 + 1)), none] [] V91) ∧ ((r82 - r91) ≤ 0 → (¬ (r82 - r91) = 0 → w0_insure E Q 52 [some (vr 16), some (vi x1), some (vi x2), some (vi x3), some (vi x4), some (vi (x5 + 1)), none] [] V91) ∧ ((r82 - r91) = 0 → c0_sumOf E x5 x1 2 1 V91 (fun r113 V113 => c0_sumOf E x4 x1 2 1 V113 (fun r122 V122 => (r122 ≤ r113 → w0_insure E Q 52 [some (vr 16), some (vi x1), some (vi x2), some (vi x3), some (vi x4), some (vi (x5 + 1)), none] [] V122) ∧ (r113 < r122 → w0_insure E Q 52 [some (vr 16), some (vi x1), some (vi x2), some (vi x3), some (vi x5), some (vi (x5 + 1)), none] [] V122)))))))) ∧ (x2 < r66 → w0_insure E Q 52 [some (vr 16), some (vi x1), some (vi x2), some (vi x3), some (vi x4), some (vi (x5 + 1)), none] [] V66)))) : w0_insure E Q 52 [some (vr 16), some (vi x1), some (vi x2), some (vi x3), some (vi x4), some (vi x5), none] [] V := by
  refine wp_iload dX0_insure_52 rfl ?_
  refine wp_iconst (v := 1) dX0_insure_54 rfl ?_
  refine wp_iload_n dX0_insure_55 rfl ?_
  refine wp_ishl dX0_insure_56 ?_
  refine wp_icmp_ge 138 dX0_insure_57 (by decide) (fun hc => ?_) (fun hc => ?_)
  · replace h := h.1 hc
    refine wp_iload_n dX0_insure_138 rfl ?_
    refine wp_if_ne 154 dX0_insure_139 (by decide) (fun hc => ?_) (fun hc => ?_)
    · replace h := h.1 hc
      refine wp_iload_n dX0_insure_154 rfl ?_
      refine wp_iconst (v := 1) dX0_insure_155 rfl ?_
      refine wp_icmp_ne 171 dX0_insure_156 (by decide) (fun hc => ?_) (fun hc => ?_)
      · replace h := h.1 hc
        refine wp_iload dX0_insure_171 rfl ?_
        exact wp_iret dX0_insure_173 rfl ⟨_, rfl, rfl, rfl, rfl, h⟩
      · replace h := h.2 hc
        refine wp_aload_n dX0_insure_159 rfl ?_
        refine wp_iload dX0_insure_160 rfl ?_
        refine wp_iload_n dX0_insure_162 rfl ?_
        refine wp_iconst (v := 2) dX0_insure_163 rfl ?_
        refine wp_iconst (v := 1) dX0_insure_164 rfl ?_
        refine wq_VI4 lk0_253 rfl (cb_16 hC) (ck_16 hC) dX0_insure_165 h (rmQ_ok (by decide) (by decide)) ⟨Nat.le_refl _, Nat.le_refl _⟩ (Nat.le_of_ble_eq_true rfl) (fun r165 V165 h => ?_)
        refine wp_goto 173 dX0_insure_168 (by decide) ?_
        exact wp_iret dX0_insure_173 rfl ⟨_, rfl, rfl, rfl, rfl, h⟩
    · replace h := h.2 hc
      refine wp_aload_n dX0_insure_142 rfl ?_
      refine wp_iload dX0_insure_143 rfl ?_
      refine wp_iload_n dX0_insure_145 rfl ?_
      refine wp_iconst (v := 2) dX0_insure_146 rfl ?_
      refine wp_iconst (v := 0) dX0_insure_147 rfl ?_
      refine wq_VI4 lk0_253 rfl (cb_16 hC) (ck_16 hC) dX0_insure_148 h (rmQ_ok (by decide) (by decide)) ⟨Nat.le_refl _, Nat.le_refl _⟩ (Nat.le_of_ble_eq_true rfl) (fun r148 V148 h => ?_)
      refine wp_goto 173 dX0_insure_151 (by decide) ?_
      exact wp_iret dX0_insure_173 rfl ⟨_, rfl, rfl, rfl, rfl, h⟩
  · replace h := h.2 (Int32.not_le.mp hc)
    refine wp_aload_n dX0_insure_60 rfl ?_
    refine wp_iload dX0_insure_61 rfl ?_
    refine wp_iload_n dX0_insure_63 rfl ?_
    refine wp_iconst (v := 2) dX0_insure_64 rfl ?_
    refine wp_iconst (v := 1) dX0_insure_65 rfl ?_
    refine wq_VI4 lk0_253 rfl (cb_16 hC) (ck_16 hC) dX0_insure_66 h (rmQ_ok (by decide) (by decide)) ⟨Nat.le_refl _, Nat.le_refl _⟩ (Nat.le_of_ble_eq_true rfl) (fun r66 V66 h => ?_)
    refine wp_iload_n dX0_insure_69 rfl ?_
    refine wp_icmp_le 76 dX0_insure_70 (by decide) (fun hc => ?_) (fun hc => ?_)
    · replace h := h.1 hc
      refine wp_aload_n dX0_insure_76 rfl ?_
      refine wp_iload dX0_insure_77 rfl ?_
      refine wp_iload_n dX0_insure_79 rfl ?_
      refine wp_iconst (v := 2) dX0_insure_80 rfl ?_
      refine wp_iconst (v := 0) dX0_insure_81 rfl ?_
      refine wq_VI4 lk0_253 rfl (cb_16 hC) (ck_16 hC) dX0_insure_82 h (rmQ_ok (by decide) (by decide)) ⟨Nat.le_refl _, Nat.le_refl _⟩ (Nat.le_of_ble_eq_true rfl) (fun r82 V82 h => ?_)
      refine wp_aload_n dX0_insure_85 rfl ?_
      refine wp_iload dX0_insure_86 rfl ?_
      refine wp_iload_n dX0_insure_88 rfl ?_
      refine wp_iconst (v := 2) dX0_insure_89 rfl ?_
      refine wp_iconst (v := 0) dX0_insure_90 rfl ?_
      refine wq_VI4 lk0_253 rfl (cb_16 hC) (ck_16 hC) dX0_insure_91 h (rmQ_ok (by decide) (by decide)) ⟨Nat.le_refl _, Nat.le_refl _⟩ (Nat.le_of_ble_eq_true rfl) (fun r91 V91 h => ?_)
      refine wp_isub dX0_insure_94 ?_
      refine wi7_6 dX0_insure_95 ?_
      refine wp_iload dX0_insure_97 rfl ?_
      refine wp_if_gt 128 dX0_insure_99 (by decide) (fun hc => ?_) (fun hc => ?_)
      · replace h := h.1 hc
        refine wp_iload dX0_insure_128 rfl ?_
        refine wi7_4 dX0_insure_130 ?_
        refine wc7_5 1 dX0_insure_132 rfl ?_
        refine wp_goto 52 dX0_insure_135 (by decide) ?_
        exact wp_drop [some (vr 16), some (vi x1), some (vi x2), some (vi x3), some (vi x5), some (vi (x5 + 1)), none] ⟨rfl, ⟨rfl, ⟨rfl, ⟨rfl, ⟨rfl, ⟨rfl, trivial⟩⟩⟩⟩⟩⟩ h
      · replace h := h.2 (Int32.not_lt.mp hc)
        refine wp_iload dX0_insure_102 rfl ?_
        refine wp_if_ne 132 dX0_insure_104 (by decide) (fun hc => ?_) (fun hc => ?_)
        · replace h := h.1 hc
          refine wc7_5 1 dX0_insure_132 rfl ?_
          refine wp_goto 52 dX0_insure_135 (by decide) ?_
          exact wp_drop [some (vr 16), some (vi x1), some (vi x2), some (vi x3), some (vi x4), some (vi (x5 + 1)), none] ⟨rfl, ⟨rfl, ⟨rfl, ⟨rfl, ⟨rfl, ⟨rfl, trivial⟩⟩⟩⟩⟩⟩ h
        · replace h := h.2 hc
          refine wp_aload_n dX0_insure_107 rfl ?_
          refine wp_iload dX0_insure_108 rfl ?_
          refine wp_iload_n dX0_insure_110 rfl ?_
          refine wp_iconst (v := 2) dX0_insure_111 rfl ?_
          refine wp_iconst (v := 1) dX0_insure_112 rfl ?_
          refine wq_VI4 lk0_253 rfl (cb_16 hC) (ck_16 hC) dX0_insure_113 h (rmQ_ok (by decide) (by decide)) ⟨Nat.le_refl _, Nat.le_refl _⟩ (Nat.le_of_ble_eq_true rfl) (fun r113 V113 h => ?_)
          refine wp_aload_n dX0_insure_116 rfl ?_
          refine wp_iload dX0_insure_117 rfl ?_
          refine wp_iload_n dX0_insure_119 rfl ?_
          refine wp_iconst (v := 2) dX0_insure_120 rfl ?_
          refine wp_iconst (v := 1) dX0_insure_121 rfl ?_
          refine wq_VI4 lk0_253 rfl (cb_16 hC) (ck_16 hC) dX0_insure_122 h (rmQ_ok (by decide) (by decide)) ⟨Nat.le_refl _, Nat.le_refl _⟩ (Nat.le_of_ble_eq_true rfl) (fun r122 V122 h => ?_)
          refine wp_icmp_ge 132 dX0_insure_125 (by decide) (fun hc => ?_) (fun hc => ?_)
          · replace h := h.1 hc
            refine wc7_5 1 dX0_insure_132 rfl ?_
            refine wp_goto 52 dX0_insure_135 (by decide) ?_
            exact wp_drop [some (vr 16), some (vi x1), some (vi x2), some (vi x3), some (vi x4), some (vi (x5 + 1)), none] ⟨rfl, ⟨rfl, ⟨rfl, ⟨rfl, ⟨rfl, ⟨rfl, trivial⟩⟩⟩⟩⟩⟩ h
          · replace h := h.2 (Int32.not_le.mp hc)
            refine wp_iload dX0_insure_128 rfl ?_
            refine wi7_4 dX0_insure_130 ?_
            refine wc7_5 1 dX0_insure_132 rfl ?_
            refine wp_goto 52 dX0_insure_135 (by decide) ?_
            exact wp_drop [some (vr 16), some (vi x1), some (vi x2), some (vi x3), some (vi x5), some (vi (x5 + 1)), none] ⟨rfl, ⟨rfl, ⟨rfl, ⟨rfl, ⟨rfl, ⟨rfl, trivial⟩⟩⟩⟩⟩⟩ h
    · replace h := h.2 (Int32.not_le.mp hc)
      refine wp_goto 132 dX0_insure_73 (by decide) ?_
      refine wc7_5 1 dX0_insure_132 rfl ?_
      refine wp_goto 52 dX0_insure_135 (by decide) ?_
      exact h
theorem n0_insure {E : eT} {Q : Int32 → vT → Prop} {V : vT} {x1 x2 x3 : Int32} (h : w0_insure E Q 0 [some (vr 16), some (vi x1), some (vi x2), some (vi x3), none, none, none] [] V) : c0_insure E x1 x2 x3 V Q := MOk.enter [some (vr 16), some (vi x1), some (vi x2), some (vi x3), none, none, none] pn_X0 rfl rfl (Nat.le_of_ble_eq_true rfl) rfl h
theorem b0_sumOf_0 {E : eT} {Q : Int32 → vT → Prop} {V : vT} {tl : Nat} {x1 x2 x3 x4 : Int32} (hC : CM E tl) (h : w0_sumOf E Q 6 [some (vr 16), some (vi x1), some (vi x2), some (vi x3), some (vi x4), some (vi 0), some (vi 0)] [] V) : w0_sumOf E Q 0 [some (vr 16), some (vi x1), some (vi x2), some (vi x3), some (vi x4), none, none] [] V := by
  refine wp_iconst (v := 0) dX0_sumOf_0 rfl ?_
  refine wi7_5 dX0_sumOf_1 ?_
  refine wp_iconst (v := 0) dX0_sumOf_3 rfl ?_
  refine wi7_6 dX0_sumOf_4 ?_
  exact h
theorem b0_sumOf_6 {E : eT} {Q : Int32 → vT → Prop} {V : vT} {tl : Nat} {x1 x2 x3 x4 x5 x6 : Int32} (hC : CM E tl) (h : (x2 ≤ x6 → Q x5 V) ∧ (x6 < x2 → c0_has E x1 x6 V (fun r17 V17 => (r17 = 0 → w0_sumOf E Q 6 [some (vr 16), some (vi x1), some (vi x2), some (vi x3), some (vi x4), some (vi (x5 + 0)), some (vi (x6 + 1))] [] V17) ∧ (¬ r17 = 0 → c0_fed E ((x3 * x6) + x4) V17 (fun r31 V31 => w0_sumOf E Q 6 [some (vr 16), some (vi x1), some (vi x2), some (vi x3), some (vi x4), some (vi (x5 + r31)), some (vi (x6 + 1))] [] V31))))) : w0_sumOf E Q 6 [some (vr 16), some (vi x1), some (vi x2), some (vi x3), some (vi x4), some (vi x5), some (vi x6)] [] V := by
  refine wp_iload dX0_sumOf_6 rfl ?_
  refine wp_iload_n dX0_sumOf_8 rfl ?_
  refine wp_icmp_ge 47 dX0_sumOf_9 (by decide) (fun hc => ?_) (fun hc => ?_)
  · replace h := h.1 hc
    refine wp_iload dX0_sumOf_47 rfl ?_
    exact wp_iret dX0_sumOf_49 rfl ⟨_, rfl, rfl, rfl, rfl, h⟩
  · replace h := h.2 (Int32.not_le.mp hc)
    refine wp_iload dX0_sumOf_12 rfl ?_
    refine wp_iload_n dX0_sumOf_14 rfl ?_
    refine wp_iload dX0_sumOf_15 rfl ?_
    refine wq_SI2 lk0_247 dX0_sumOf_17 h (rmQ_ok (by decide) (by decide)) ⟨Nat.le_refl _, Nat.le_refl _⟩ (Nat.le_of_ble_eq_true rfl) (fun r17 V17 h => ?_)
    refine wp_if_eq 37 dX0_sumOf_20 (by decide) (fun hc => ?_) (fun hc => ?_)
    · replace h := h.1 hc
      refine wp_iconst (v := 0) dX0_sumOf_37 rfl ?_
      refine wp_iadd dX0_sumOf_38 ?_
      refine wi7_5 dX0_sumOf_39 ?_
      refine wc7_6 1 dX0_sumOf_41 rfl ?_
      refine wp_goto 6 dX0_sumOf_44 (by decide) ?_
      exact h
    · replace h := h.2 hc
      refine wp_aload_n dX0_sumOf_23 rfl ?_
      refine wp_iload_n dX0_sumOf_24 rfl ?_
      refine wp_iload dX0_sumOf_25 rfl ?_
      refine wp_imul dX0_sumOf_27 ?_
      refine wp_iload dX0_sumOf_28 rfl ?_
      refine wp_iadd dX0_sumOf_30 ?_
      refine wq_VI1 lk0_250 rfl (cb_16 hC) (ck_16 hC) dX0_sumOf_31 h (rmQ_ok (by decide) (by decide)) ⟨Nat.le_refl _, Nat.le_refl _⟩ (Nat.le_of_ble_eq_true rfl) (fun r31 V31 h => ?_)
      refine wp_goto 38 dX0_sumOf_34 (by decide) ?_
      refine wp_iadd dX0_sumOf_38 ?_
      refine wi7_5 dX0_sumOf_39 ?_
      refine wc7_6 1 dX0_sumOf_41 rfl ?_
      refine wp_goto 6 dX0_sumOf_44 (by decide) ?_
      exact h
theorem n0_sumOf {E : eT} {Q : Int32 → vT → Prop} {V : vT} {x1 x2 x3 x4 : Int32} (h : w0_sumOf E Q 0 [some (vr 16), some (vi x1), some (vi x2), some (vi x3), some (vi x4), none, none] [] V) : c0_sumOf E x1 x2 x3 x4 V Q := MOk.enter [some (vr 16), some (vi x1), some (vi x2), some (vi x3), some (vi x4), none, none] pn_X0 rfl rfl (Nat.le_of_ble_eq_true rfl) rfl h
theorem b0_has_0 {E : eT} {Q : Int32 → vT → Prop} {V : vT} {tl : Nat} {x1 x2 : Int32} (hC : CM E tl) (h : (¬ ((x1 >>> (x2 &&& 31)) &&& 1) = 1 → Q 0 V) ∧ (((x1 >>> (x2 &&& 31)) &&& 1) = 1 → Q 1 V)) : w0_has E Q 0 [some (vi x1), some (vi x2)] [] V := by
  refine wp_iload_n dX0_has_0 rfl ?_
  refine wp_iload_n dX0_has_1 rfl ?_
  refine wp_ishr dX0_has_2 ?_
  refine wp_iconst (v := 1) dX0_has_3 rfl ?_
  refine wp_iand dX0_has_4 ?_
  refine wp_iconst (v := 1) dX0_has_5 rfl ?_
  refine wp_icmp_ne 13 dX0_has_6 (by decide) (fun hc => ?_) (fun hc => ?_)
  · replace h := h.1 hc
    refine wp_iconst (v := 0) dX0_has_13 rfl ?_
    exact wp_iret dX0_has_14 rfl ⟨_, rfl, rfl, rfl, rfl, h⟩
  · replace h := h.2 hc
    refine wp_iconst (v := 1) dX0_has_9 rfl ?_
    refine wp_goto 14 dX0_has_10 (by decide) ?_
    exact wp_iret dX0_has_14 rfl ⟨_, rfl, rfl, rfl, rfl, h⟩
theorem n0_has {E : eT} {Q : Int32 → vT → Prop} {V : vT} {x1 x2 : Int32} (h : w0_has E Q 0 [some (vi x1), some (vi x2)] [] V) : c0_has E x1 x2 V Q := MOk.enter [some (vi x1), some (vi x2)] pn_X0 rfl rfl (Nat.le_of_ble_eq_true rfl) rfl h
theorem b0_fed_0 {E : eT} {Q : Int32 → vT → Prop} {V : vT} {tl : Nat} {x1 : Int32} (hC : CM E tl) (h : vp_in x1 260 ∧ (Q ((V 106 ((x1).toNatClampNeg)) &&& 255) V)) : w0_fed E Q 0 [some (vr 16), some (vi x1)] [] V := by
  refine wp_aload_n dX0_fed_0 rfl ?_
  refine wp_getrs dX0_fed_1 fk0_57_0 (cb_16 hC) (ck_16 hC) rfl (cr_5 hC) ?_
  refine wp_iload_n dX0_fed_4 rfl ?_
  refine wp_bald dX0_fed_5 (cb_106 hC).2 (ck_106 hC) h.1 ?_
  replace h := h.2
  refine wp_sipush (v := 255) dX0_fed_6 rfl ?_
  refine wp_iand dX0_fed_9 ?_
  exact wp_iret dX0_fed_10 rfl ⟨_, rfl, rfl, rfl, rfl, h⟩
theorem n0_fed {E : eT} {Q : Int32 → vT → Prop} {V : vT} {x1 : Int32} (h : w0_fed E Q 0 [some (vr 16), some (vi x1)] [] V) : c0_fed E x1 V Q := MOk.enter [some (vr 16), some (vi x1)] pn_X0 rfl rfl (Nat.le_of_ble_eq_true rfl) rfl h
theorem b0_roundFigure_0 {E : eT} {Q : Int32 → vT → Prop} {V : vT} {tl : Nat} {x1 : Int32} (hC : CM E tl) (h : c0_within E x1 1 999999 V (fun r5 V5 => (¬ r5 = 0 → w0_roundFigure E Q 17 [none, some (vi x1), some (vi 1), some (vi 1), none] [] V5) ∧ (r5 = 0 → Q (-1) V5))) : w0_roundFigure E Q 0 [some (vr 16), some (vi x1), none, none, none] [] V := by
  refine wp_iload_n dX0_roundFigure_0 rfl ?_
  refine wp_iconst (v := 1) dX0_roundFigure_1 rfl ?_
  refine wp_ldcw (v := 999999) dX0_roundFigure_2 q1114 ?_
  refine wq_SI3 lk0_113 dX0_roundFigure_5 h (rmQ_ok (by decide) (by decide)) ⟨Nat.le_refl _, Nat.le_refl _⟩ (Nat.le_of_ble_eq_true rfl) (fun r5 V5 h => ?_)
  refine wp_if_ne 13 dX0_roundFigure_8 (by decide) (fun hc => ?_) (fun hc => ?_)
  · replace h := h.1 hc
    refine wp_iconst (v := 1) dX0_roundFigure_13 rfl ?_
    refine wi5_2 dX0_roundFigure_14 ?_
    refine wp_iconst (v := 1) dX0_roundFigure_15 rfl ?_
    refine wi5_3 dX0_roundFigure_16 ?_
    exact wp_drop [none, some (vi x1), some (vi 1), some (vi 1), none] ⟨rfl, ⟨rfl, ⟨rfl, trivial⟩⟩⟩ h
  · replace h := h.2 hc
    refine wp_iconst (v := (-1)) dX0_roundFigure_11 rfl ?_
    exact wp_iret dX0_roundFigure_12 rfl ⟨_, rfl, rfl, rfl, rfl, h⟩
theorem b0_roundFigure_17 {E : eT} {Q : Int32 → vT → Prop} {V : vT} {tl : Nat} {x1 x2 x3 : Int32} (hC : CM E tl) (h : (1000000 < x3 → Q x2 V) ∧ (x3 ≤ 1000000 → w0_roundFigure E Q 27 [none, some (vi x1), some (vi x2), some (vi x3), some (vi 1)] [] V)) : w0_roundFigure E Q 17 [none, some (vi x1), some (vi x2), some (vi x3), none] [] V := by
  refine wp_iload_n dX0_roundFigure_17 rfl ?_
  refine wp_ldcw (v := 1000000) dX0_roundFigure_18 q1115 ?_
  refine wp_icmp_gt 83 dX0_roundFigure_21 (by decide) (fun hc => ?_) (fun hc => ?_)
  · replace h := h.1 hc
    refine wp_iload_n dX0_roundFigure_83 rfl ?_
    exact wp_iret dX0_roundFigure_84 rfl ⟨_, rfl, rfl, rfl, rfl, h⟩
  · replace h := h.2 (Int32.not_lt.mp hc)
    refine wp_iconst (v := 1) dX0_roundFigure_24 rfl ?_
    refine wi5_4 dX0_roundFigure_25 ?_
    exact h
theorem b0_roundFigure_27 {E : eT} {Q : Int32 → vT → Prop} {V : vT} {tl : Nat} {x1 x2 x3 x4 : Int32} (hC : CM E tl) (h : (5 < x4 → w0_roundFigure E Q 17 [none, some (vi x1), some (vi x2), some (vi (x3 * 10)), none] [] V) ∧ (x4 ≤ 5 → ((abI (x2 - x1)) ≤ (abI ((x4 * x3) - x1)) → (¬ x4 = 1 → w0_roundFigure E Q 27 [none, some (vi x1), some (vi x2), some (vi x3), some (vi (x4 + 3))] [] V) ∧ (x4 = 1 → w0_roundFigure E Q 27 [none, some (vi x1), some (vi x2), some (vi x3), some (vi (x4 + 1))] [] V)) ∧ ((abI ((x4 * x3) - x1)) < (abI (x2 - x1)) → (¬ x4 = 1 → w0_roundFigure E Q 27 [none, some (vi x1), some (vi (x4 * x3)), some (vi x3), some (vi (x4 + 3))] [] V) ∧ (x4 = 1 → w0_roundFigure E Q 27 [none, some (vi x1), some (vi (x4 * x3)), some (vi x3), some (vi (x4 + 1))] [] V)))) : w0_roundFigure E Q 27 [none, some (vi x1), some (vi x2), some (vi x3), some (vi x4)] [] V := by
  refine wp_iload dX0_roundFigure_27 rfl ?_
  refine wp_iconst (v := 5) dX0_roundFigure_29 rfl ?_
  refine wp_icmp_gt 75 dX0_roundFigure_30 (by decide) (fun hc => ?_) (fun hc => ?_)
  · replace h := h.1 hc
    refine wp_iload_n dX0_roundFigure_75 rfl ?_
    refine wp_bipush (v := 10) dX0_roundFigure_76 rfl ?_
    refine wp_imul dX0_roundFigure_78 ?_
    refine wi5_3 dX0_roundFigure_79 ?_
    refine wp_goto 17 dX0_roundFigure_80 (by decide) ?_
    exact wp_drop [none, some (vi x1), some (vi x2), some (vi (x3 * 10)), none] ⟨rfl, ⟨rfl, ⟨rfl, trivial⟩⟩⟩ h
  · replace h := h.2 (Int32.not_lt.mp hc)
    refine wp_iload dX0_roundFigure_33 rfl ?_
    refine wp_iload_n dX0_roundFigure_35 rfl ?_
    refine wp_imul dX0_roundFigure_36 ?_
    refine wp_iload_n dX0_roundFigure_37 rfl ?_
    refine wp_isub dX0_roundFigure_38 ?_
    refine wp_mabs dX0_roundFigure_39 q1116 q1117 q124 q1118 (by decide) (Nat.le_of_ble_eq_true rfl) (Nat.le_refl _) (Nat.le_refl _) ?_
    refine wp_iload_n dX0_roundFigure_42 rfl ?_
    refine wp_iload_n dX0_roundFigure_43 rfl ?_
    refine wp_isub dX0_roundFigure_44 ?_
    refine wp_mabs dX0_roundFigure_45 q1116 q1117 q124 q1118 (by decide) (Nat.le_of_ble_eq_true rfl) (Nat.le_refl _) (Nat.le_refl _) ?_
    refine wp_icmp_ge 56 dX0_roundFigure_48 (by decide) (fun hc => ?_) (fun hc => ?_)
    · replace h := h.1 hc
      refine wp_iload dX0_roundFigure_56 rfl ?_
      refine wp_iload dX0_roundFigure_58 rfl ?_
      refine wp_iconst (v := 1) dX0_roundFigure_60 rfl ?_
      refine wp_icmp_ne 68 dX0_roundFigure_61 (by decide) (fun hc => ?_) (fun hc => ?_)
      · replace h := h.1 hc
        refine wp_iconst (v := 3) dX0_roundFigure_68 rfl ?_
        refine wp_iadd dX0_roundFigure_69 ?_
        refine wi5_4 dX0_roundFigure_70 ?_
        refine wp_goto 27 dX0_roundFigure_72 (by decide) ?_
        exact h
      · replace h := h.2 hc
        refine wp_iconst (v := 1) dX0_roundFigure_64 rfl ?_
        refine wp_goto 69 dX0_roundFigure_65 (by decide) ?_
        refine wp_iadd dX0_roundFigure_69 ?_
        refine wi5_4 dX0_roundFigure_70 ?_
        refine wp_goto 27 dX0_roundFigure_72 (by decide) ?_
        exact h
    · replace h := h.2 (Int32.not_le.mp hc)
      refine wp_iload dX0_roundFigure_51 rfl ?_
      refine wp_iload_n dX0_roundFigure_53 rfl ?_
      refine wp_imul dX0_roundFigure_54 ?_
      refine wi5_2 dX0_roundFigure_55 ?_
      refine wp_iload dX0_roundFigure_56 rfl ?_
      refine wp_iload dX0_roundFigure_58 rfl ?_
      refine wp_iconst (v := 1) dX0_roundFigure_60 rfl ?_
      refine wp_icmp_ne 68 dX0_roundFigure_61 (by decide) (fun hc => ?_) (fun hc => ?_)
      · replace h := h.1 hc
        refine wp_iconst (v := 3) dX0_roundFigure_68 rfl ?_
        refine wp_iadd dX0_roundFigure_69 ?_
        refine wi5_4 dX0_roundFigure_70 ?_
        refine wp_goto 27 dX0_roundFigure_72 (by decide) ?_
        exact h
      · replace h := h.2 hc
        refine wp_iconst (v := 1) dX0_roundFigure_64 rfl ?_
        refine wp_goto 69 dX0_roundFigure_65 (by decide) ?_
        refine wp_iadd dX0_roundFigure_69 ?_
        refine wi5_4 dX0_roundFigure_70 ?_
        refine wp_goto 27 dX0_roundFigure_72 (by decide) ?_
        exact h
theorem n0_roundFigure {E : eT} {Q : Int32 → vT → Prop} {V : vT} {x1 : Int32} (h : w0_roundFigure E Q 0 [some (vr 16), some (vi x1), none, none, none] [] V) : c0_roundFigure E x1 V Q := MOk.enter [some (vr 16), some (vi x1), none, none, none] pn_X0 rfl rfl (Nat.le_of_ble_eq_true rfl) rfl h
theorem b0_ruin_0 {E : eT} {Q : Int32 → vT → Prop} {V : vT} {tl : Nat} {x1 x2 x3 : Int32} (hC : CM E tl) (h : c0_within E x1 2 6 V (fun r4 V4 => (r4 = 0 → Q (-1) V4) ∧ (¬ r4 = 0 → c0_in E x2 x1 V4 (fun r12 V12 => (r12 = 0 → Q (-1) V12) ∧ (¬ r12 = 0 → c0_in E x3 2 V12 (fun r20 V20 => (r20 = 0 → Q (-1) V20) ∧ (¬ r20 = 0 → ((x1 * x1) ≤ (V20 16 7) → w0_ruin E Q 59 [some (vr 16), some (vi x1), none, some (vi x3), some (vi ((((1 : Int32) <<< (x1 &&& 31)) - 1) &&& (((1 : Int32) <<< (x2 &&& 31)) ^^^ (-1)))), some (vi 0), none] [] (up2 V20 16 7 0)) ∧ ((V20 16 7) < (x1 * x1) → Q (-1) V20)))))))) : w0_ruin E Q 0 [some (vr 16), some (vi x1), some (vi x2), some (vi x3), none, none, none] [] V := by
  refine wp_iload_n dX0_ruin_0 rfl ?_
  refine wp_iconst (v := 2) dX0_ruin_1 rfl ?_
  refine wp_bipush (v := 6) dX0_ruin_2 rfl ?_
  refine wq_SI3 lk0_113 dX0_ruin_4 h (rmQ_ok (by decide) (by decide)) ⟨Nat.le_refl _, Nat.le_refl _⟩ (Nat.le_of_ble_eq_true rfl) (fun r4 V4 h => ?_)
  refine wp_if_eq 36 dX0_ruin_7 (by decide) (fun hc => ?_) (fun hc => ?_)
  · replace h := h.1 hc
    refine wp_iconst (v := (-1)) dX0_ruin_36 rfl ?_
    exact wp_iret dX0_ruin_37 rfl ⟨_, rfl, rfl, rfl, rfl, h⟩
  · replace h := h.2 hc
    refine wp_iload_n dX0_ruin_10 rfl ?_
    refine wp_iload_n dX0_ruin_11 rfl ?_
    refine wq_SI2 lk0_12 dX0_ruin_12 h (rmQ_ok (by decide) (by decide)) ⟨Nat.le_refl _, Nat.le_refl _⟩ (Nat.le_of_ble_eq_true rfl) (fun r12 V12 h => ?_)
    refine wp_if_eq 36 dX0_ruin_15 (by decide) (fun hc => ?_) (fun hc => ?_)
    · replace h := h.1 hc
      refine wp_iconst (v := (-1)) dX0_ruin_36 rfl ?_
      exact wp_iret dX0_ruin_37 rfl ⟨_, rfl, rfl, rfl, rfl, h⟩
    · replace h := h.2 hc
      refine wp_iload_n dX0_ruin_18 rfl ?_
      refine wp_iconst (v := 2) dX0_ruin_19 rfl ?_
      refine wq_SI2 lk0_12 dX0_ruin_20 h (rmQ_ok (by decide) (by decide)) ⟨Nat.le_refl _, Nat.le_refl _⟩ (Nat.le_of_ble_eq_true rfl) (fun r20 V20 h => ?_)
      refine wp_if_eq 36 dX0_ruin_23 (by decide) (fun hc => ?_) (fun hc => ?_)
      · replace h := h.1 hc
        refine wp_iconst (v := (-1)) dX0_ruin_36 rfl ?_
        exact wp_iret dX0_ruin_37 rfl ⟨_, rfl, rfl, rfl, rfl, h⟩
      · replace h := h.2 hc
        refine wp_iload_n dX0_ruin_26 rfl ?_
        refine wp_iload_n dX0_ruin_27 rfl ?_
        refine wp_imul dX0_ruin_28 ?_
        refine wp_aload_n dX0_ruin_29 rfl ?_
        refine wp_geti dX0_ruin_30 fk0_106_0 (cb_16 hC) (ck_16 hC) rfl ?_
        refine wp_icmp_le 38 dX0_ruin_33 (by decide) (fun hc => ?_) (fun hc => ?_)
        · replace h := h.1 hc
          refine wp_aload_n dX0_ruin_38 rfl ?_
          refine wp_iconst (v := 0) dX0_ruin_39 rfl ?_
          refine wp_puti dX0_ruin_40 fp0_106_0 (cb_16 hC) (ck_16 hC) rfl ?_
          refine wp_iconst (v := 1) dX0_ruin_43 rfl ?_
          refine wp_iload_n dX0_ruin_44 rfl ?_
          refine wp_ishl dX0_ruin_45 ?_
          refine wp_iconst (v := 1) dX0_ruin_46 rfl ?_
          refine wp_isub dX0_ruin_47 ?_
          refine wp_iconst (v := 1) dX0_ruin_48 rfl ?_
          refine wp_iload_n dX0_ruin_49 rfl ?_
          refine wp_ishl dX0_ruin_50 ?_
          refine wp_iconst (v := (-1)) dX0_ruin_51 rfl ?_
          refine wp_ixor dX0_ruin_52 ?_
          refine wp_iand dX0_ruin_53 ?_
          refine wi7_4 dX0_ruin_54 ?_
          refine wp_iconst (v := 0) dX0_ruin_56 rfl ?_
          refine wi7_5 dX0_ruin_57 ?_
          exact wp_drop [some (vr 16), some (vi x1), none, some (vi x3), some (vi ((((1 : Int32) <<< (x1 &&& 31)) - 1) &&& (((1 : Int32) <<< (x2 &&& 31)) ^^^ (-1)))), some (vi 0), none] ⟨rfl, ⟨rfl, ⟨rfl, ⟨rfl, ⟨rfl, trivial⟩⟩⟩⟩⟩ h
        · replace h := h.2 (Int32.not_le.mp hc)
          refine wp_iconst (v := (-1)) dX0_ruin_36 rfl ?_
          exact wp_iret dX0_ruin_37 rfl ⟨_, rfl, rfl, rfl, rfl, h⟩
theorem b0_ruin_59 {E : eT} {Q : Int32 → vT → Prop} {V : vT} {tl : Nat} {x1 x3 x4 x5 : Int32} (hC : CM E tl) (h : (x5 = x4 → (¬ x3 = 0 → Q ((((1 : Int32) <<< (x1 &&& 31)) - 1) &&& (x4 ^^^ (-1))) V) ∧ (x3 = 0 → cj6_bitCount E ((((1 : Int32) <<< (x1 &&& 31)) - 1) &&& (x4 ^^^ (-1))) V (fun r160 V160 => Q r160 V160))) ∧ (¬ x5 = x4 → w0_ruin E Q 73 [some (vr 16), some (vi x1), none, some (vi x3), some (vi x4), some (vi x4), some (vi 0)] [] V)) : w0_ruin E Q 59 [some (vr 16), some (vi x1), none, some (vi x3), some (vi x4), some (vi x5), none] [] V := by
  refine wp_iload dX0_ruin_59 rfl ?_
  refine wp_iload dX0_ruin_61 rfl ?_
  refine wp_icmp_eq 142 dX0_ruin_63 (by decide) (fun hc => ?_) (fun hc => ?_)
  · replace h := h.1 hc
    refine wp_iconst (v := 1) dX0_ruin_142 rfl ?_
    refine wp_iload_n dX0_ruin_143 rfl ?_
    refine wp_ishl dX0_ruin_144 ?_
    refine wp_iconst (v := 1) dX0_ruin_145 rfl ?_
    refine wp_isub dX0_ruin_146 ?_
    refine wp_iload dX0_ruin_147 rfl ?_
    refine wp_iconst (v := (-1)) dX0_ruin_149 rfl ?_
    refine wp_ixor dX0_ruin_150 ?_
    refine wp_iand dX0_ruin_151 ?_
    refine wi7_6 dX0_ruin_152 ?_
    refine wp_iload_n dX0_ruin_154 rfl ?_
    refine wp_if_ne 166 dX0_ruin_155 (by decide) (fun hc => ?_) (fun hc => ?_)
    · replace h := h.1 hc
      refine wp_iload dX0_ruin_166 rfl ?_
      exact wp_iret dX0_ruin_168 rfl ⟨_, rfl, rfl, rfl, rfl, h⟩
    · replace h := h.2 hc
      refine wp_iload dX0_ruin_158 rfl ?_
      refine wq_SI1 lk0_269 dX0_ruin_160 h (rmQ_ok (by decide) (by decide)) ⟨Nat.le_refl _, Nat.le_refl _⟩ (Nat.le_of_ble_eq_true rfl) (fun r160 V160 h => ?_)
      refine wp_goto 168 dX0_ruin_163 (by decide) ?_
      exact wp_iret dX0_ruin_168 rfl ⟨_, rfl, rfl, rfl, rfl, h⟩
  · replace h := h.2 hc
    refine wp_iload dX0_ruin_66 rfl ?_
    refine wi7_5 dX0_ruin_68 ?_
    refine wp_iconst (v := 0) dX0_ruin_70 rfl ?_
    refine wi7_6 dX0_ruin_71 ?_
    exact h
theorem b0_ruin_73 {E : eT} {Q : Int32 → vT → Prop} {V : vT} {tl : Nat} {x1 x3 x4 x5 x6 : Int32} (hC : CM E tl) (h : (x1 ≤ x6 → w0_ruin E Q 59 [some (vr 16), some (vi x1), none, some (vi x3), some (vi x4), some (vi x5), none] [] V) ∧ (x6 < x1 → c0_has E x5 x6 V (fun r83 V83 => (r83 = 0 → w0_ruin E Q 73 [some (vr 16), some (vi x1), none, some (vi x3), some (vi x4), some (vi x5), some (vi (x6 + 1))] [] V83) ∧ (¬ r83 = 0 → c0_owedBy E x6 x1 x5 V83 (fun r95 V95 => c0_fed E ((x1 * x6) + x6) V95 (fun r106 V106 => c0_owedTo E x6 x1 x5 V106 (fun r115 V115 => (r95 ≤ (r106 + r115) → w0_ruin E Q 73 [some (vr 16), some (vi x1), none, some (vi x3), some (vi x4), some (vi x5), some (vi (x6 + 1))] [] V115) ∧ ((r106 + r115) < r95 → w0_ruin E Q 73 [some (vr 16), some (vi x1), none, some (vi x3), some (vi (x4 &&& (((1 : Int32) <<< (x6 &&& 31)) ^^^ (-1)))), some (vi x5), some (vi (x6 + 1))] [] V115)))))))) : w0_ruin E Q 73 [some (vr 16), some (vi x1), none, some (vi x3), some (vi x4), some (vi x5), some (vi x6)] [] V := by
  refine wp_iload dX0_ruin_73 rfl ?_
  refine wp_iload_n dX0_ruin_75 rfl ?_
  refine wp_icmp_ge 139 dX0_ruin_76 (by decide) (fun hc => ?_) (fun hc => ?_)
  · replace h := h.1 hc
    refine wp_goto 59 dX0_ruin_139 (by decide) ?_
    exact wp_drop [some (vr 16), some (vi x1), none, some (vi x3), some (vi x4), some (vi x5), none] ⟨rfl, ⟨rfl, ⟨rfl, ⟨rfl, ⟨rfl, trivial⟩⟩⟩⟩⟩ h
  · replace h := h.2 (Int32.not_le.mp hc)
    refine wp_iload dX0_ruin_79 rfl ?_
    refine wp_iload dX0_ruin_81 rfl ?_
    refine wq_SI2 lk0_247 dX0_ruin_83 h (rmQ_ok (by decide) (by decide)) ⟨Nat.le_refl _, Nat.le_refl _⟩ (Nat.le_of_ble_eq_true rfl) (fun r83 V83 h => ?_)
    refine wp_if_eq 133 dX0_ruin_86 (by decide) (fun hc => ?_) (fun hc => ?_)
    · replace h := h.1 hc
      refine wc7_6 1 dX0_ruin_133 rfl ?_
      refine wp_goto 73 dX0_ruin_136 (by decide) ?_
      exact h
    · replace h := h.2 hc
      refine wp_aload_n dX0_ruin_89 rfl ?_
      refine wp_iload dX0_ruin_90 rfl ?_
      refine wp_iload_n dX0_ruin_92 rfl ?_
      refine wp_iload dX0_ruin_93 rfl ?_
      refine wq_VI3 lk0_262 rfl (cb_16 hC) (ck_16 hC) dX0_ruin_95 h (rmQ_ok (by decide) (by decide)) ⟨Nat.le_refl _, Nat.le_refl _⟩ (Nat.le_of_ble_eq_true rfl) (fun r95 V95 h => ?_)
      refine wp_aload_n dX0_ruin_98 rfl ?_
      refine wp_iload_n dX0_ruin_99 rfl ?_
      refine wp_iload dX0_ruin_100 rfl ?_
      refine wp_imul dX0_ruin_102 ?_
      refine wp_iload dX0_ruin_103 rfl ?_
      refine wp_iadd dX0_ruin_105 ?_
      refine wq_VI1 lk0_250 rfl (cb_16 hC) (ck_16 hC) dX0_ruin_106 h (rmQ_ok (by decide) (by decide)) ⟨Nat.le_refl _, Nat.le_refl _⟩ (Nat.le_of_ble_eq_true rfl) (fun r106 V106 h => ?_)
      refine wp_aload_n dX0_ruin_109 rfl ?_
      refine wp_iload dX0_ruin_110 rfl ?_
      refine wp_iload_n dX0_ruin_112 rfl ?_
      refine wp_iload dX0_ruin_113 rfl ?_
      refine wq_VI3 lk0_266 rfl (cb_16 hC) (ck_16 hC) dX0_ruin_115 h (rmQ_ok (by decide) (by decide)) ⟨Nat.le_refl _, Nat.le_refl _⟩ (Nat.le_of_ble_eq_true rfl) (fun r115 V115 h => ?_)
      refine wp_iadd dX0_ruin_118 ?_
      refine wp_icmp_le 133 dX0_ruin_119 (by decide) (fun hc => ?_) (fun hc => ?_)
      · replace h := h.1 hc
        refine wc7_6 1 dX0_ruin_133 rfl ?_
        refine wp_goto 73 dX0_ruin_136 (by decide) ?_
        exact h
      · replace h := h.2 (Int32.not_le.mp hc)
        refine wp_iload dX0_ruin_122 rfl ?_
        refine wp_iconst (v := 1) dX0_ruin_124 rfl ?_
        refine wp_iload dX0_ruin_125 rfl ?_
        refine wp_ishl dX0_ruin_127 ?_
        refine wp_iconst (v := (-1)) dX0_ruin_128 rfl ?_
        refine wp_ixor dX0_ruin_129 ?_
        refine wp_iand dX0_ruin_130 ?_
        refine wi7_4 dX0_ruin_131 ?_
        refine wc7_6 1 dX0_ruin_133 rfl ?_
        refine wp_goto 73 dX0_ruin_136 (by decide) ?_
        exact h
theorem n0_ruin {E : eT} {Q : Int32 → vT → Prop} {V : vT} {x1 x2 x3 : Int32} (h : w0_ruin E Q 0 [some (vr 16), some (vi x1), some (vi x2), some (vi x3), none, none, none] [] V) : c0_ruin E x1 x2 x3 V Q := MOk.enter [some (vr 16), some (vi x1), some (vi x2), some (vi x3), none, none, none] pn_X0 rfl rfl (Nat.le_of_ble_eq_true rfl) rfl h
theorem b0_owedBy_0 {E : eT} {Q : Int32 → vT → Prop} {V : vT} {tl : Nat} {x1 x2 x3 : Int32} (hC : CM E tl) (h : w0_owedBy E Q 6 [some (vr 16), some (vi x1), some (vi x2), some (vi x3), some (vi 0), some (vi 0)] [] V) : w0_owedBy E Q 0 [some (vr 16), some (vi x1), some (vi x2), some (vi x3), none, none] [] V := by
  refine wp_iconst (v := 0) dX0_owedBy_0 rfl ?_
  refine wi6_4 dX0_owedBy_1 ?_
  refine wp_iconst (v := 0) dX0_owedBy_3 rfl ?_
  refine wi6_5 dX0_owedBy_4 ?_
  exact h
theorem b0_owedBy_6 {E : eT} {Q : Int32 → vT → Prop} {V : vT} {tl : Nat} {x1 x2 x3 x4 x5 : Int32} (hC : CM E tl) (h : (x2 ≤ x5 → Q x4 V) ∧ (x5 < x2 → (x5 = x1 → w0_owedBy E Q 6 [some (vr 16), some (vi x1), some (vi x2), some (vi x3), some (vi (x4 + 0)), some (vi (x5 + 1))] [] V) ∧ (¬ x5 = x1 → c0_has E x3 x5 V (fun r23 V23 => (r23 = 0 → w0_owedBy E Q 6 [some (vr 16), some (vi x1), some (vi x2), some (vi x3), some (vi (x4 + 0)), some (vi (x5 + 1))] [] V23) ∧ (¬ r23 = 0 → c0_fed E ((x2 * x1) + x5) V23 (fun r36 V36 => w0_owedBy E Q 6 [some (vr 16), some (vi x1), some (vi x2), some (vi x3), some (vi (x4 + r36)), some (vi (x5 + 1))] [] V36)))))) : w0_owedBy E Q 6 [some (vr 16), some (vi x1), some (vi x2), some (vi x3), some (vi x4), some (vi x5)] [] V := by
  refine wp_iload dX0_owedBy_6 rfl ?_
  refine wp_iload_n dX0_owedBy_8 rfl ?_
  refine wp_icmp_ge 52 dX0_owedBy_9 (by decide) (fun hc => ?_) (fun hc => ?_)
  · replace h := h.1 hc
    refine wp_iload dX0_owedBy_52 rfl ?_
    exact wp_iret dX0_owedBy_54 rfl ⟨_, rfl, rfl, rfl, rfl, h⟩
  · replace h := h.2 (Int32.not_le.mp hc)
    refine wp_iload dX0_owedBy_12 rfl ?_
    refine wp_iload dX0_owedBy_14 rfl ?_
    refine wp_iload_n dX0_owedBy_16 rfl ?_
    refine wp_icmp_eq 42 dX0_owedBy_17 (by decide) (fun hc => ?_) (fun hc => ?_)
    · replace h := h.1 hc
      refine wp_iconst (v := 0) dX0_owedBy_42 rfl ?_
      refine wp_iadd dX0_owedBy_43 ?_
      refine wi6_4 dX0_owedBy_44 ?_
      refine wc6_5 1 dX0_owedBy_46 rfl ?_
      refine wp_goto 6 dX0_owedBy_49 (by decide) ?_
      exact h
    · replace h := h.2 hc
      refine wp_iload_n dX0_owedBy_20 rfl ?_
      refine wp_iload dX0_owedBy_21 rfl ?_
      refine wq_SI2 lk0_247 dX0_owedBy_23 h (rmQ_ok (by decide) (by decide)) ⟨Nat.le_refl _, Nat.le_refl _⟩ (Nat.le_of_ble_eq_true rfl) (fun r23 V23 h => ?_)
      refine wp_if_eq 42 dX0_owedBy_26 (by decide) (fun hc => ?_) (fun hc => ?_)
      · replace h := h.1 hc
        refine wp_iconst (v := 0) dX0_owedBy_42 rfl ?_
        refine wp_iadd dX0_owedBy_43 ?_
        refine wi6_4 dX0_owedBy_44 ?_
        refine wc6_5 1 dX0_owedBy_46 rfl ?_
        refine wp_goto 6 dX0_owedBy_49 (by decide) ?_
        exact h
      · replace h := h.2 hc
        refine wp_aload_n dX0_owedBy_29 rfl ?_
        refine wp_iload_n dX0_owedBy_30 rfl ?_
        refine wp_iload_n dX0_owedBy_31 rfl ?_
        refine wp_imul dX0_owedBy_32 ?_
        refine wp_iload dX0_owedBy_33 rfl ?_
        refine wp_iadd dX0_owedBy_35 ?_
        refine wq_VI1 lk0_250 rfl (cb_16 hC) (ck_16 hC) dX0_owedBy_36 h (rmQ_ok (by decide) (by decide)) ⟨Nat.le_refl _, Nat.le_refl _⟩ (Nat.le_of_ble_eq_true rfl) (fun r36 V36 h => ?_)
        refine wp_goto 43 dX0_owedBy_39 (by decide) ?_
        refine wp_iadd dX0_owedBy_43 ?_
        refine wi6_4 dX0_owedBy_44 ?_
        refine wc6_5 1 dX0_owedBy_46 rfl ?_
        refine wp_goto 6 dX0_owedBy_49 (by decide) ?_
        exact h
theorem n0_owedBy {E : eT} {Q : Int32 → vT → Prop} {V : vT} {x1 x2 x3 : Int32} (h : w0_owedBy E Q 0 [some (vr 16), some (vi x1), some (vi x2), some (vi x3), none, none] [] V) : c0_owedBy E x1 x2 x3 V Q := MOk.enter [some (vr 16), some (vi x1), some (vi x2), some (vi x3), none, none] pn_X0 rfl rfl (Nat.le_of_ble_eq_true rfl) rfl h
theorem b0_owedTo_0 {E : eT} {Q : Int32 → vT → Prop} {V : vT} {tl : Nat} {x1 x2 x3 : Int32} (hC : CM E tl) (h : w0_owedTo E Q 6 [some (vr 16), some (vi x1), some (vi x2), some (vi x3), some (vi 0), some (vi 0)] [] V) : w0_owedTo E Q 0 [some (vr 16), some (vi x1), some (vi x2), some (vi x3), none, none] [] V := by
  refine wp_iconst (v := 0) dX0_owedTo_0 rfl ?_
  refine wi6_4 dX0_owedTo_1 ?_
  refine wp_iconst (v := 0) dX0_owedTo_3 rfl ?_
  refine wi6_5 dX0_owedTo_4 ?_
  exact h
theorem b0_owedTo_6 {E : eT} {Q : Int32 → vT → Prop} {V : vT} {tl : Nat} {x1 x2 x3 x4 x5 : Int32} (hC : CM E tl) (h : (x2 ≤ x5 → Q x4 V) ∧ (x5 < x2 → (x5 = x1 → w0_owedTo E Q 6 [some (vr 16), some (vi x1), some (vi x2), some (vi x3), some (vi (x4 + 0)), some (vi (x5 + 1))] [] V) ∧ (¬ x5 = x1 → c0_has E x3 x5 V (fun r23 V23 => (r23 = 0 → w0_owedTo E Q 6 [some (vr 16), some (vi x1), some (vi x2), some (vi x3), some (vi (x4 + 0)), some (vi (x5 + 1))] [] V23) ∧ (¬ r23 = 0 → c0_fed E ((x2 * x5) + x1) V23 (fun r36 V36 => w0_owedTo E Q 6 [some (vr 16), some (vi x1), some (vi x2), some (vi x3), some (vi (x4 + r36)), some (vi (x5 + 1))] [] V36)))))) : w0_owedTo E Q 6 [some (vr 16), some (vi x1), some (vi x2), some (vi x3), some (vi x4), some (vi x5)] [] V := by
  refine wp_iload dX0_owedTo_6 rfl ?_
  refine wp_iload_n dX0_owedTo_8 rfl ?_
  refine wp_icmp_ge 52 dX0_owedTo_9 (by decide) (fun hc => ?_) (fun hc => ?_)
  · replace h := h.1 hc
    refine wp_iload dX0_owedTo_52 rfl ?_
    exact wp_iret dX0_owedTo_54 rfl ⟨_, rfl, rfl, rfl, rfl, h⟩
  · replace h := h.2 (Int32.not_le.mp hc)
    refine wp_iload dX0_owedTo_12 rfl ?_
    refine wp_iload dX0_owedTo_14 rfl ?_
    refine wp_iload_n dX0_owedTo_16 rfl ?_
    refine wp_icmp_eq 42 dX0_owedTo_17 (by decide) (fun hc => ?_) (fun hc => ?_)
    · replace h := h.1 hc
      refine wp_iconst (v := 0) dX0_owedTo_42 rfl ?_
      refine wp_iadd dX0_owedTo_43 ?_
      refine wi6_4 dX0_owedTo_44 ?_
      refine wc6_5 1 dX0_owedTo_46 rfl ?_
      refine wp_goto 6 dX0_owedTo_49 (by decide) ?_
      exact h
    · replace h := h.2 hc
      refine wp_iload_n dX0_owedTo_20 rfl ?_
      refine wp_iload dX0_owedTo_21 rfl ?_
      refine wq_SI2 lk0_247 dX0_owedTo_23 h (rmQ_ok (by decide) (by decide)) ⟨Nat.le_refl _, Nat.le_refl _⟩ (Nat.le_of_ble_eq_true rfl) (fun r23 V23 h => ?_)
      refine wp_if_eq 42 dX0_owedTo_26 (by decide) (fun hc => ?_) (fun hc => ?_)
      · replace h := h.1 hc
        refine wp_iconst (v := 0) dX0_owedTo_42 rfl ?_
        refine wp_iadd dX0_owedTo_43 ?_
        refine wi6_4 dX0_owedTo_44 ?_
        refine wc6_5 1 dX0_owedTo_46 rfl ?_
        refine wp_goto 6 dX0_owedTo_49 (by decide) ?_
        exact h
      · replace h := h.2 hc
        refine wp_aload_n dX0_owedTo_29 rfl ?_
        refine wp_iload_n dX0_owedTo_30 rfl ?_
        refine wp_iload dX0_owedTo_31 rfl ?_
        refine wp_imul dX0_owedTo_33 ?_
        refine wp_iload_n dX0_owedTo_34 rfl ?_
        refine wp_iadd dX0_owedTo_35 ?_
        refine wq_VI1 lk0_250 rfl (cb_16 hC) (ck_16 hC) dX0_owedTo_36 h (rmQ_ok (by decide) (by decide)) ⟨Nat.le_refl _, Nat.le_refl _⟩ (Nat.le_of_ble_eq_true rfl) (fun r36 V36 h => ?_)
        refine wp_goto 43 dX0_owedTo_39 (by decide) ?_
        refine wp_iadd dX0_owedTo_43 ?_
        refine wi6_4 dX0_owedTo_44 ?_
        refine wc6_5 1 dX0_owedTo_46 rfl ?_
        refine wp_goto 6 dX0_owedTo_49 (by decide) ?_
        exact h
theorem n0_owedTo {E : eT} {Q : Int32 → vT → Prop} {V : vT} {x1 x2 x3 : Int32} (h : w0_owedTo E Q 0 [some (vr 16), some (vi x1), some (vi x2), some (vi x3), none, none] [] V) : c0_owedTo E x1 x2 x3 V Q := MOk.enter [some (vr 16), some (vi x1), some (vi x2), some (vi x3), none, none] pn_X0 rfl rfl (Nat.le_of_ble_eq_true rfl) rfl h
theorem b0_carried_0 {E : eT} {Q : Int32 → vT → Prop} {V : vT} {tl : Nat} {x1 : Int32} (hC : CM E tl) (h : c0_within E x1 1 10 V (fun r4 V4 => (r4 = 0 → Q (-1) V4) ∧ (¬ r4 = 0 → ((3 * x1) ≤ (V4 16 7) → w0_carried E Q 29 [some (vr 16), some (vi x1), some (vi 0), none] [] (up2 V4 16 7 0)) ∧ ((V4 16 7) < (3 * x1) → Q (-1) V4)))) : w0_carried E Q 0 [some (vr 16), some (vi x1), none, none] [] V := by
  refine wp_iload_n dX0_carried_0 rfl ?_
  refine wp_iconst (v := 1) dX0_carried_1 rfl ?_
  refine wp_bipush (v := 10) dX0_carried_2 rfl ?_
  refine wq_SI3 lk0_113 dX0_carried_4 h (rmQ_ok (by decide) (by decide)) ⟨Nat.le_refl _, Nat.le_refl _⟩ (Nat.le_of_ble_eq_true rfl) (fun r4 V4 h => ?_)
  refine wp_if_eq 20 dX0_carried_7 (by decide) (fun hc => ?_) (fun hc => ?_)
  · replace h := h.1 hc
    refine wp_iconst (v := (-1)) dX0_carried_20 rfl ?_
    exact wp_iret dX0_carried_21 rfl ⟨_, rfl, rfl, rfl, rfl, h⟩
  · replace h := h.2 hc
    refine wp_iconst (v := 3) dX0_carried_10 rfl ?_
    refine wp_iload_n dX0_carried_11 rfl ?_
    refine wp_imul dX0_carried_12 ?_
    refine wp_aload_n dX0_carried_13 rfl ?_
    refine wp_geti dX0_carried_14 fk0_106_0 (cb_16 hC) (ck_16 hC) rfl ?_
    refine wp_icmp_le 22 dX0_carried_17 (by decide) (fun hc => ?_) (fun hc => ?_)
    · replace h := h.1 hc
      refine wp_aload_n dX0_carried_22 rfl ?_
      refine wp_iconst (v := 0) dX0_carried_23 rfl ?_
      refine wp_puti dX0_carried_24 fp0_106_0 (cb_16 hC) (ck_16 hC) rfl ?_
      refine wp_iconst (v := 0) dX0_carried_27 rfl ?_
      refine wi4_2 dX0_carried_28 ?_
      exact h
    · replace h := h.2 (Int32.not_le.mp hc)
      refine wp_iconst (v := (-1)) dX0_carried_20 rfl ?_
      exact wp_iret dX0_carried_21 rfl ⟨_, rfl, rfl, rfl, rfl, h⟩
theorem b0_carried_29 {E : eT} {Q : Int32 → vT → Prop} {V : vT} {tl : Nat} {x1 x2 : Int32} (hC : CM E tl) (h : (x1 ≤ x2 → c0_sorts E x1 V (fun V61 => w0_carried E Q 68 [some (vr 16), some (vi x1), some (vi 0), some (vi 0)] [] V61)) ∧ (x2 < x1 → c0_fed E (3 * x2) V (fun r38 V38 => c0_within E r38 1 60 V38 (fun r44 V44 => (¬ r44 = 0 → w0_carried E Q 29 [some (vr 16), some (vi x1), some (vi (x2 + 1)), none] [] V44) ∧ (r44 = 0 → Q (-2) V44))))) : w0_carried E Q 29 [some (vr 16), some (vi x1), some (vi x2), none] [] V := by
  refine wp_iload_n dX0_carried_29 rfl ?_
  refine wp_iload_n dX0_carried_30 rfl ?_
  refine wp_icmp_ge 59 dX0_carried_31 (by decide) (fun hc => ?_) (fun hc => ?_)
  · replace h := h.1 hc
    refine wp_aload_n dX0_carried_59 rfl ?_
    refine wp_iload_n dX0_carried_60 rfl ?_
    refine wq_VV1 lk0_274 rfl (cb_16 hC) (ck_16 hC) dX0_carried_61 h (rmQ_ok (by decide) (by decide)) ⟨Nat.le_refl _, Nat.le_refl _⟩ (Nat.le_of_ble_eq_true rfl) (fun V61 h => ?_)
    refine wp_iconst (v := 0) dX0_carried_64 rfl ?_
    refine wi4_2 dX0_carried_65 ?_
    refine wp_iconst (v := 0) dX0_carried_66 rfl ?_
    refine wi4_3 dX0_carried_67 ?_
    exact h
  · replace h := h.2 (Int32.not_le.mp hc)
    refine wp_aload_n dX0_carried_34 rfl ?_
    refine wp_iconst (v := 3) dX0_carried_35 rfl ?_
    refine wp_iload_n dX0_carried_36 rfl ?_
    refine wp_imul dX0_carried_37 ?_
    refine wq_VI1 lk0_250 rfl (cb_16 hC) (ck_16 hC) dX0_carried_38 h (rmQ_ok (by decide) (by decide)) ⟨Nat.le_refl _, Nat.le_refl _⟩ (Nat.le_of_ble_eq_true rfl) (fun r38 V38 h => ?_)
    refine wp_iconst (v := 1) dX0_carried_41 rfl ?_
    refine wp_bipush (v := 60) dX0_carried_42 rfl ?_
    refine wq_SI3 lk0_113 dX0_carried_44 h (rmQ_ok (by decide) (by decide)) ⟨Nat.le_refl _, Nat.le_refl _⟩ (Nat.le_of_ble_eq_true rfl) (fun r44 V44 h => ?_)
    refine wp_if_ne 53 dX0_carried_47 (by decide) (fun hc => ?_) (fun hc => ?_)
    · replace h := h.1 hc
      refine wc4_2 1 dX0_carried_53 rfl ?_
      refine wp_goto 29 dX0_carried_56 (by decide) ?_
      exact h
    · replace h := h.2 hc
      refine wp_bipush (v := (-2)) dX0_carried_50 rfl ?_
      exact wp_iret dX0_carried_52 rfl ⟨_, rfl, rfl, rfl, rfl, h⟩
theorem b0_carried_68 {E : eT} {Q : Int32 → vT → Prop} {V : vT} {tl : Nat} {x1 x2 x3 : Int32} (hC : CM E tl) (h : (((1 : Int32) <<< (x1 &&& 31)) ≤ x3 → Q x2 V) ∧ (x3 < ((1 : Int32) <<< (x1 &&& 31)) → c0_isInTime E x3 x1 V (fun r78 V78 => (r78 = 0 → w0_carried E Q 68 [some (vr 16), some (vi x1), some (vi x2), some (vi (x3 + 1))] [] V78) ∧ (¬ r78 = 0 → c0_sumOf E x3 x1 3 1 V78 (fun r90 V90 => w0_carried E Q 68 [some (vr 16), some (vi x1), some (vi (mxI x2 r90)), some (vi (x3 + 1))] [] V90))))) : w0_carried E Q 68 [some (vr 16), some (vi x1), some (vi x2), some (vi x3)] [] V := by
  refine wp_iload_n dX0_carried_68 rfl ?_
  refine wp_iconst (v := 1) dX0_carried_69 rfl ?_
  refine wp_iload_n dX0_carried_70 rfl ?_
  refine wp_ishl dX0_carried_71 ?_
  refine wp_icmp_ge 103 dX0_carried_72 (by decide) (fun hc => ?_) (fun hc => ?_)
  · replace h := h.1 hc
    refine wp_iload_n dX0_carried_103 rfl ?_
    exact wp_iret dX0_carried_104 rfl ⟨_, rfl, rfl, rfl, rfl, h⟩
  · replace h := h.2 (Int32.not_le.mp hc)
    refine wp_aload_n dX0_carried_75 rfl ?_
    refine wp_iload_n dX0_carried_76 rfl ?_
    refine wp_iload_n dX0_carried_77 rfl ?_
    refine wq_VI2 lk0_277 rfl (cb_16 hC) (ck_16 hC) dX0_carried_78 h (rmQ_ok (by decide) (by decide)) ⟨Nat.le_refl _, Nat.le_refl _⟩ (Nat.le_of_ble_eq_true rfl) (fun r78 V78 h => ?_)
    refine wp_if_eq 97 dX0_carried_81 (by decide) (fun hc => ?_) (fun hc => ?_)
    · replace h := h.1 hc
      refine wc4_3 1 dX0_carried_97 rfl ?_
      refine wp_goto 68 dX0_carried_100 (by decide) ?_
      exact h
    · replace h := h.2 hc
      refine wp_iload_n dX0_carried_84 rfl ?_
      refine wp_aload_n dX0_carried_85 rfl ?_
      refine wp_iload_n dX0_carried_86 rfl ?_
      refine wp_iload_n dX0_carried_87 rfl ?_
      refine wp_iconst (v := 3) dX0_carried_88 rfl ?_
      refine wp_iconst (v := 1) dX0_carried_89 rfl ?_
      refine wq_VI4 lk0_253 rfl (cb_16 hC) (ck_16 hC) dX0_carried_90 h (rmQ_ok (by decide) (by decide)) ⟨Nat.le_refl _, Nat.le_refl _⟩ (Nat.le_of_ble_eq_true rfl) (fun r90 V90 h => ?_)
      refine wp_mmax dX0_carried_93 q963 q451 q124 q452 (by decide) (Nat.le_of_ble_eq_true rfl) (Nat.le_refl _) (Nat.le_refl _) ?_
      refine wi4_2 dX0_carried_96 ?_
      refine wc4_3 1 dX0_carried_97 rfl ?_
      refine wp_goto 68 dX0_carried_100 (by decide) ?_
      exact h
theorem n0_carried {E : eT} {Q : Int32 → vT → Prop} {V : vT} {x1 : Int32} (h : w0_carried E Q 0 [some (vr 16), some (vi x1), none, none] [] V) : c0_carried E x1 V Q := MOk.enter [some (vr 16), some (vi x1), none, none] pn_X0 rfl rfl (Nat.le_of_ble_eq_true rfl) rfl h
theorem b0_sorts_0 {E : eT} {Q : vT → Prop} {V : vT} {tl : Nat} {x1 : Int32} (hC : CM E tl) (h : w0_sorts E Q 2 [some (vr 16), some (vi x1), some (vi 0), none] [] V) : w0_sorts E Q 0 [some (vr 16), some (vi x1), none, none] [] V := by
  refine wp_iconst (v := 0) dX0_sorts_0 rfl ?_
  refine wi4_2 dX0_sorts_1 ?_
  exact h
theorem b0_sorts_2 {E : eT} {Q : vT → Prop} {V : vT} {tl : Nat} {x1 x2 : Int32} (hC : CM E tl) (h : (x1 ≤ x2 → Q V) ∧ (x2 < x1 → w0_sorts E Q 9 [some (vr 16), some (vi x1), some (vi x2), some (vi x2)] [] V)) : w0_sorts E Q 2 [some (vr 16), some (vi x1), some (vi x2), none] [] V := by
  refine wp_iload_n dX0_sorts_2 rfl ?_
  refine wp_iload_n dX0_sorts_3 rfl ?_
  refine wp_icmp_ge 74 dX0_sorts_4 (by decide) (fun hc => ?_) (fun hc => ?_)
  · replace h := h.1 hc
    exact wp_vret dX0_sorts_74 ⟨rfl, rfl, rfl, rfl, h⟩
  · replace h := h.2 (Int32.not_le.mp hc)
    refine wp_iload_n dX0_sorts_7 rfl ?_
    refine wi4_3 dX0_sorts_8 ?_
    exact h
theorem b0_sorts_9 {E : eT} {Q : vT → Prop} {V : vT} {tl : Nat} {x1 x2 x3 : Int32} (hC : CM E tl) (h : (x3 ≤ 0 → vp_in x3 10 ∧ (w0_sorts E Q 2 [some (vr 16), some (vi x1), some (vi (x2 + 1)), none] [] (up2 V 213 (x3.toNatClampNeg) x2))) ∧ (0 < x3 → vp_in (x3 - 1) 10 ∧ (c0_fed E ((3 * (V 213 ((x3 - 1).toNatClampNeg))) + 2) V (fun r26 V26 => c0_fed E ((3 * x2) + 2) V26 (fun r35 V35 => (r26 ≤ r35 → vp_in x3 10 ∧ (w0_sorts E Q 2 [some (vr 16), some (vi x1), some (vi (x2 + 1)), none] [] (up2 V35 213 (x3.toNatClampNeg) x2))) ∧ (r35 < r26 → vp_in (x3 - 1) 10 ∧ (vp_in x3 10 ∧ (w0_sorts E Q 9 [some (vr 16), some (vi x1), some (vi x2), some (vi (x3 + (-1)))] [] (up2 V35 213 (x3.toNatClampNeg) (V35 213 ((x3 - 1).toNatClampNeg))))))))))) : w0_sorts E Q 9 [some (vr 16), some (vi x1), some (vi x2), some (vi x3)] [] V := by
  refine wp_iload_n dX0_sorts_9 rfl ?_
  refine wp_if_le 61 dX0_sorts_10 (by decide) (fun hc => ?_) (fun hc => ?_)
  · replace h := h.1 hc
    refine wp_aload_n dX0_sorts_61 rfl ?_
    refine wp_getrs dX0_sorts_62 fk0_89_0 (cb_16 hC) (ck_16 hC) rfl (cr_16 hC) ?_
    refine wp_iload_n dX0_sorts_65 rfl ?_
    refine wp_iload_n dX0_sorts_66 rfl ?_
    refine wp_iast dX0_sorts_67 (cb_213 hC) (ck_213 hC) h.1 ?_
    replace h := h.2
    refine wc4_2 1 dX0_sorts_68 rfl ?_
    refine wp_goto 2 dX0_sorts_71 (by decide) ?_
    exact wp_drop [some (vr 16), some (vi x1), some (vi (x2 + 1)), none] ⟨rfl, ⟨rfl, ⟨rfl, trivial⟩⟩⟩ h
  · replace h := h.2 (Int32.not_le.mp hc)
    refine wp_aload_n dX0_sorts_13 rfl ?_
    refine wp_iconst (v := 3) dX0_sorts_14 rfl ?_
    refine wp_aload_n dX0_sorts_15 rfl ?_
    refine wp_getrs dX0_sorts_16 fk0_89_0 (cb_16 hC) (ck_16 hC) rfl (cr_16 hC) ?_
    refine wp_iload_n dX0_sorts_19 rfl ?_
    refine wp_iconst (v := 1) dX0_sorts_20 rfl ?_
    refine wp_isub dX0_sorts_21 ?_
    refine wp_iald dX0_sorts_22 (cb_213 hC).2 (ck_213 hC) h.1 ?_
    replace h := h.2
    refine wp_imul dX0_sorts_23 ?_
    refine wp_iconst (v := 2) dX0_sorts_24 rfl ?_
    refine wp_iadd dX0_sorts_25 ?_
    refine wq_VI1 lk0_250 rfl (cb_16 hC) (ck_16 hC) dX0_sorts_26 h (rmQ_ok (by decide) (by decide)) ⟨Nat.le_refl _, Nat.le_refl _⟩ (Nat.le_of_ble_eq_true rfl) (fun r26 V26 h => ?_)
    refine wp_aload_n dX0_sorts_29 rfl ?_
    refine wp_iconst (v := 3) dX0_sorts_30 rfl ?_
    refine wp_iload_n dX0_sorts_31 rfl ?_
    refine wp_imul dX0_sorts_32 ?_
    refine wp_iconst (v := 2) dX0_sorts_33 rfl ?_
    refine wp_iadd dX0_sorts_34 ?_
    refine wq_VI1 lk0_250 rfl (cb_16 hC) (ck_16 hC) dX0_sorts_35 h (rmQ_ok (by decide) (by decide)) ⟨Nat.le_refl _, Nat.le_refl _⟩ (Nat.le_of_ble_eq_true rfl) (fun r35 V35 h => ?_)
    refine wp_icmp_le 61 dX0_sorts_38 (by decide) (fun hc => ?_) (fun hc => ?_)
    · replace h := h.1 hc
      refine wp_aload_n dX0_sorts_61 rfl ?_
      refine wp_getrs dX0_sorts_62 fk0_89_0 (cb_16 hC) (ck_16 hC) rfl (cr_16 hC) ?_
      refine wp_iload_n dX0_sorts_65 rfl ?_
      refine wp_iload_n dX0_sorts_66 rfl ?_
      refine wp_iast dX0_sorts_67 (cb_213 hC) (ck_213 hC) h.1 ?_
      replace h := h.2
      refine wc4_2 1 dX0_sorts_68 rfl ?_
      refine wp_goto 2 dX0_sorts_71 (by decide) ?_
      exact wp_drop [some (vr 16), some (vi x1), some (vi (x2 + 1)), none] ⟨rfl, ⟨rfl, ⟨rfl, trivial⟩⟩⟩ h
    · replace h := h.2 (Int32.not_le.mp hc)
      refine wp_aload_n dX0_sorts_41 rfl ?_
      refine wp_getrs dX0_sorts_42 fk0_89_0 (cb_16 hC) (ck_16 hC) rfl (cr_16 hC) ?_
      refine wp_iload_n dX0_sorts_45 rfl ?_
      refine wp_aload_n dX0_sorts_46 rfl ?_
      refine wp_getrs dX0_sorts_47 fk0_89_0 (cb_16 hC) (ck_16 hC) rfl (cr_16 hC) ?_
      refine wp_iload_n dX0_sorts_50 rfl ?_
      refine wp_iconst (v := 1) dX0_sorts_51 rfl ?_
      refine wp_isub dX0_sorts_52 ?_
      refine wp_iald dX0_sorts_53 (cb_213 hC).2 (ck_213 hC) h.1 ?_
      replace h := h.2
      refine wp_iast dX0_sorts_54 (cb_213 hC) (ck_213 hC) h.1 ?_
      replace h := h.2
      refine wc4_3 (-1) dX0_sorts_55 rfl ?_
      refine wp_goto 9 dX0_sorts_58 (by decide) ?_
      exact h
theorem n0_sorts {E : eT} {Q : vT → Prop} {V : vT} {x1 : Int32} (h : w0_sorts E Q 0 [some (vr 16), some (vi x1), none, none] [] V) : c0_sorts E x1 V Q := MOk.enter [some (vr 16), some (vi x1), none, none] pn_X0 rfl rfl (Nat.le_of_ble_eq_true rfl) rfl h
theorem b0_isInTime_0 {E : eT} {Q : Int32 → vT → Prop} {V : vT} {tl : Nat} {x1 x2 : Int32} (hC : CM E tl) (h : w0_isInTime E Q 5 [some (vr 16), some (vi x1), some (vi x2), some (vi 0), some (vi 0)] [] V) : w0_isInTime E Q 0 [some (vr 16), some (vi x1), some (vi x2), none, none] [] V := by
  refine wp_iconst (v := 0) dX0_isInTime_0 rfl ?_
  refine wi5_3 dX0_isInTime_1 ?_
  refine wp_iconst (v := 0) dX0_isInTime_2 rfl ?_
  refine wi5_4 dX0_isInTime_3 ?_
  exact h
theorem b0_isInTime_5 {E : eT} {Q : Int32 → vT → Prop} {V : vT} {tl : Nat} {x1 x2 x3 x4 : Int32} (hC : CM E tl) (h : (x2 ≤ x4 → Q 1 V) ∧ (x4 < x2 → vp_in x4 10 ∧ (c0_has E x1 (V 213 ((x4).toNatClampNeg)) V (fun r19 V19 => (¬ r19 = 0 → vp_in x4 10 ∧ (c0_fed E (3 * (V19 213 ((x4).toNatClampNeg))) V19 (fun r39 V39 => vp_in x4 10 ∧ (c0_fed E ((3 * (V39 213 ((x4).toNatClampNeg))) + 2) V39 (fun r57 V57 => ((x3 + r39) ≤ r57 → w0_isInTime E Q 5 [some (vr 16), some (vi x1), some (vi x2), some (vi (x3 + r39)), some (vi (x4 + 1))] [] V57) ∧ (r57 < (x3 + r39) → Q 0 V57)))))) ∧ (r19 = 0 → w0_isInTime E Q 5 [some (vr 16), some (vi x1), some (vi x2), some (vi x3), some (vi (x4 + 1))] [] V19))))) : w0_isInTime E Q 5 [some (vr 16), some (vi x1), some (vi x2), some (vi x3), some (vi x4)] [] V := by
  refine wp_iload dX0_isInTime_5 rfl ?_
  refine wp_iload_n dX0_isInTime_7 rfl ?_
  refine wp_icmp_ge 71 dX0_isInTime_8 (by decide) (fun hc => ?_) (fun hc => ?_)
  · replace h := h.1 hc
    refine wp_iconst (v := 1) dX0_isInTime_71 rfl ?_
    exact wp_iret dX0_isInTime_72 rfl ⟨_, rfl, rfl, rfl, rfl, h⟩
  · replace h := h.2 (Int32.not_le.mp hc)
    refine wp_iload_n dX0_isInTime_11 rfl ?_
    refine wp_aload_n dX0_isInTime_12 rfl ?_
    refine wp_getrs dX0_isInTime_13 fk0_89_0 (cb_16 hC) (ck_16 hC) rfl (cr_16 hC) ?_
    refine wp_iload dX0_isInTime_16 rfl ?_
    refine wp_iald dX0_isInTime_18 (cb_213 hC).2 (ck_213 hC) h.1 ?_
    replace h := h.2
    refine wq_SI2 lk0_247 dX0_isInTime_19 h (rmQ_ok (by decide) (by decide)) ⟨Nat.le_refl _, Nat.le_refl _⟩ (Nat.le_of_ble_eq_true rfl) (fun r19 V19 h => ?_)
    refine wp_if_ne 28 dX0_isInTime_22 (by decide) (fun hc => ?_) (fun hc => ?_)
    · replace h := h.1 hc
      refine wp_iload_n dX0_isInTime_28 rfl ?_
      refine wp_aload_n dX0_isInTime_29 rfl ?_
      refine wp_iconst (v := 3) dX0_isInTime_30 rfl ?_
      refine wp_aload_n dX0_isInTime_31 rfl ?_
      refine wp_getrs dX0_isInTime_32 fk0_89_0 (cb_16 hC) (ck_16 hC) rfl (cr_16 hC) ?_
      refine wp_iload dX0_isInTime_35 rfl ?_
      refine wp_iald dX0_isInTime_37 (cb_213 hC).2 (ck_213 hC) h.1 ?_
      replace h := h.2
      refine wp_imul dX0_isInTime_38 ?_
      refine wq_VI1 lk0_250 rfl (cb_16 hC) (ck_16 hC) dX0_isInTime_39 h (rmQ_ok (by decide) (by decide)) ⟨Nat.le_refl _, Nat.le_refl _⟩ (Nat.le_of_ble_eq_true rfl) (fun r39 V39 h => ?_)
      refine wp_iadd dX0_isInTime_42 ?_
      refine wi5_3 dX0_isInTime_43 ?_
      refine wp_iload_n dX0_isInTime_44 rfl ?_
      refine wp_aload_n dX0_isInTime_45 rfl ?_
      refine wp_iconst (v := 3) dX0_isInTime_46 rfl ?_
      refine wp_aload_n dX0_isInTime_47 rfl ?_
      refine wp_getrs dX0_isInTime_48 fk0_89_0 (cb_16 hC) (ck_16 hC) rfl (cr_16 hC) ?_
      refine wp_iload dX0_isInTime_51 rfl ?_
      refine wp_iald dX0_isInTime_53 (cb_213 hC).2 (ck_213 hC) h.1 ?_
      replace h := h.2
      refine wp_imul dX0_isInTime_54 ?_
      refine wp_iconst (v := 2) dX0_isInTime_55 rfl ?_
      refine wp_iadd dX0_isInTime_56 ?_
      refine wq_VI1 lk0_250 rfl (cb_16 hC) (ck_16 hC) dX0_isInTime_57 h (rmQ_ok (by decide) (by decide)) ⟨Nat.le_refl _, Nat.le_refl _⟩ (Nat.le_of_ble_eq_true rfl) (fun r57 V57 h => ?_)
      refine wp_icmp_le 65 dX0_isInTime_60 (by decide) (fun hc => ?_) (fun hc => ?_)
      · replace h := h.1 hc
        refine wc5_4 1 dX0_isInTime_65 rfl ?_
        refine wp_goto 5 dX0_isInTime_68 (by decide) ?_
        exact h
      · replace h := h.2 (Int32.not_le.mp hc)
        refine wp_iconst (v := 0) dX0_isInTime_63 rfl ?_
        exact wp_iret dX0_isInTime_64 rfl ⟨_, rfl, rfl, rfl, rfl, h⟩
    · replace h := h.2 hc
      refine wp_goto 65 dX0_isInTime_25 (by decide) ?_
      refine wc5_4 1 dX0_isInTime_65 rfl ?_
      refine wp_goto 5 dX0_isInTime_68 (by decide) ?_
      exact h
theorem n0_isInTime {E : eT} {Q : Int32 → vT → Prop} {V : vT} {x1 x2 : Int32} (h : w0_isInTime E Q 0 [some (vr 16), some (vi x1), some (vi x2), none, none] [] V) : c0_isInTime E x1 x2 V Q := MOk.enter [some (vr 16), some (vi x1), some (vi x2), none, none] pn_X0 rfl rfl (Nat.le_of_ble_eq_true rfl) rfl h
theorem b0_premium_0 {E : eT} {Q : Int32 → vT → Prop} {V : vT} {tl : Nat} {x1 x2 : Int32} (hC : CM E tl) (h : c0_within E x1 1 8 V (fun r4 V4 => (r4 = 0 → Q (-1) V4) ∧ (¬ r4 = 0 → c0_in E x2 2 V4 (fun r12 V12 => (r12 = 0 → Q (-1) V12) ∧ (¬ r12 = 0 → ((2 * x1) ≤ (V12 16 7) → w0_premium E Q 43 [some (vr 16), some (vi x1), some (vi x2), some (vi 0), some (vi 1), some (vi 0)] [] (up2 V12 16 7 0)) ∧ ((V12 16 7) < (2 * x1) → Q (-1) V12)))))) : w0_premium E Q 0 [some (vr 16), some (vi x1), some (vi x2), none, none, none] [] V := by
  refine wp_iload_n dX0_premium_0 rfl ?_
  refine wp_iconst (v := 1) dX0_premium_1 rfl ?_
  refine wp_bipush (v := 8) dX0_premium_2 rfl ?_
  refine wq_SI3 lk0_113 dX0_premium_4 h (rmQ_ok (by decide) (by decide)) ⟨Nat.le_refl _, Nat.le_refl _⟩ (Nat.le_of_ble_eq_true rfl) (fun r4 V4 h => ?_)
  refine wp_if_eq 28 dX0_premium_7 (by decide) (fun hc => ?_) (fun hc => ?_)
  · replace h := h.1 hc
    refine wp_iconst (v := (-1)) dX0_premium_28 rfl ?_
    exact wp_iret dX0_premium_29 rfl ⟨_, rfl, rfl, rfl, rfl, h⟩
  · replace h := h.2 hc
    refine wp_iload_n dX0_premium_10 rfl ?_
    refine wp_iconst (v := 2) dX0_premium_11 rfl ?_
    refine wq_SI2 lk0_12 dX0_premium_12 h (rmQ_ok (by decide) (by decide)) ⟨Nat.le_refl _, Nat.le_refl _⟩ (Nat.le_of_ble_eq_true rfl) (fun r12 V12 h => ?_)
    refine wp_if_eq 28 dX0_premium_15 (by decide) (fun hc => ?_) (fun hc => ?_)
    · replace h := h.1 hc
      refine wp_iconst (v := (-1)) dX0_premium_28 rfl ?_
      exact wp_iret dX0_premium_29 rfl ⟨_, rfl, rfl, rfl, rfl, h⟩
    · replace h := h.2 hc
      refine wp_iconst (v := 2) dX0_premium_18 rfl ?_
      refine wp_iload_n dX0_premium_19 rfl ?_
      refine wp_imul dX0_premium_20 ?_
      refine wp_aload_n dX0_premium_21 rfl ?_
      refine wp_geti dX0_premium_22 fk0_106_0 (cb_16 hC) (ck_16 hC) rfl ?_
      refine wp_icmp_le 30 dX0_premium_25 (by decide) (fun hc => ?_) (fun hc => ?_)
      · replace h := h.1 hc
        refine wp_aload_n dX0_premium_30 rfl ?_
        refine wp_iconst (v := 0) dX0_premium_31 rfl ?_
        refine wp_puti dX0_premium_32 fp0_106_0 (cb_16 hC) (ck_16 hC) rfl ?_
        refine wp_iconst (v := 0) dX0_premium_35 rfl ?_
        refine wi6_3 dX0_premium_36 ?_
        refine wp_iconst (v := 1) dX0_premium_37 rfl ?_
        refine wi6_4 dX0_premium_38 ?_
        refine wp_iconst (v := 0) dX0_premium_40 rfl ?_
        refine wi6_5 dX0_premium_41 ?_
        exact h
      · replace h := h.2 (Int32.not_le.mp hc)
        refine wp_iconst (v := (-1)) dX0_premium_28 rfl ?_
        exact wp_iret dX0_premium_29 rfl ⟨_, rfl, rfl, rfl, rfl, h⟩
theorem b0_premium_43 {E : eT} {Q : Int32 → vT → Prop} {V : vT} {tl : Nat} {x1 x2 x3 x4 x5 : Int32} (hC : CM E tl) (h : (x1 ≤ x5 → (¬ x2 = 0 → Q x4 V) ∧ (x2 = 0 → Q x3 V)) ∧ (x5 < x1 → c0_fed E ((2 * x5) + 1) V (fun r56 V56 => (r56 ≤ 10 → c0_fed E (2 * x5) V56 (fun r73 V73 => c0_fed E ((2 * x5) + 1) V73 (fun r83 V83 => c0_fed E ((2 * x5) + 1) V83 (fun r98 V98 => w0_premium E Q 43 [some (vr 16), some (vi x1), some (vi x2), some (vi (x3 + (r73 * r83))), some (vi (x4 * r98)), some (vi (x5 + 1))] [] V98)))) ∧ (10 < r56 → Q (-2) V56)))) : w0_premium E Q 43 [some (vr 16), some (vi x1), some (vi x2), some (vi x3), some (vi x4), some (vi x5)] [] V := by
  refine wp_iload dX0_premium_43 rfl ?_
  refine wp_iload_n dX0_premium_45 rfl ?_
  refine wp_icmp_ge 110 dX0_premium_46 (by decide) (fun hc => ?_) (fun hc => ?_)
  · replace h := h.1 hc
    refine wp_iload_n dX0_premium_110 rfl ?_
    refine wp_if_ne 118 dX0_premium_111 (by decide) (fun hc => ?_) (fun hc => ?_)
    · replace h := h.1 hc
      refine wp_iload dX0_premium_118 rfl ?_
      exact wp_iret dX0_premium_120 rfl ⟨_, rfl, rfl, rfl, rfl, h⟩
    · replace h := h.2 hc
      refine wp_iload_n dX0_premium_114 rfl ?_
      refine wp_goto 120 dX0_premium_115 (by decide) ?_
      exact wp_iret dX0_premium_120 rfl ⟨_, rfl, rfl, rfl, rfl, h⟩
  · replace h := h.2 (Int32.not_le.mp hc)
    refine wp_aload_n dX0_premium_49 rfl ?_
    refine wp_iconst (v := 2) dX0_premium_50 rfl ?_
    refine wp_iload dX0_premium_51 rfl ?_
    refine wp_imul dX0_premium_53 ?_
    refine wp_iconst (v := 1) dX0_premium_54 rfl ?_
    refine wp_iadd dX0_premium_55 ?_
    refine wq_VI1 lk0_250 rfl (cb_16 hC) (ck_16 hC) dX0_premium_56 h (rmQ_ok (by decide) (by decide)) ⟨Nat.le_refl _, Nat.le_refl _⟩ (Nat.le_of_ble_eq_true rfl) (fun r56 V56 h => ?_)
    refine wp_bipush (v := 10) dX0_premium_59 rfl ?_
    refine wp_icmp_le 67 dX0_premium_61 (by decide) (fun hc => ?_) (fun hc => ?_)
    · replace h := h.1 hc
      refine wp_iload_n dX0_premium_67 rfl ?_
      refine wp_aload_n dX0_premium_68 rfl ?_
      refine wp_iconst (v := 2) dX0_premium_69 rfl ?_
      refine wp_iload dX0_premium_70 rfl ?_
      refine wp_imul dX0_premium_72 ?_
      refine wq_VI1 lk0_250 rfl (cb_16 hC) (ck_16 hC) dX0_premium_73 h (rmQ_ok (by decide) (by decide)) ⟨Nat.le_refl _, Nat.le_refl _⟩ (Nat.le_of_ble_eq_true rfl) (fun r73 V73 h => ?_)
      refine wp_aload_n dX0_premium_76 rfl ?_
      refine wp_iconst (v := 2) dX0_premium_77 rfl ?_
      refine wp_iload dX0_premium_78 rfl ?_
      refine wp_imul dX0_premium_80 ?_
      refine wp_iconst (v := 1) dX0_premium_81 rfl ?_
      refine wp_iadd dX0_premium_82 ?_
      refine wq_VI1 lk0_250 rfl (cb_16 hC) (ck_16 hC) dX0_premium_83 h (rmQ_ok (by decide) (by decide)) ⟨Nat.le_refl _, Nat.le_refl _⟩ (Nat.le_of_ble_eq_true rfl) (fun r83 V83 h => ?_)
      refine wp_imul dX0_premium_86 ?_
      refine wp_iadd dX0_premium_87 ?_
      refine wi6_3 dX0_premium_88 ?_
      refine wp_iload dX0_premium_89 rfl ?_
      refine wp_aload_n dX0_premium_91 rfl ?_
      refine wp_iconst (v := 2) dX0_premium_92 rfl ?_
      refine wp_iload dX0_premium_93 rfl ?_
      refine wp_imul dX0_premium_95 ?_
      refine wp_iconst (v := 1) dX0_premium_96 rfl ?_
      refine wp_iadd dX0_premium_97 ?_
      refine wq_VI1 lk0_250 rfl (cb_16 hC) (ck_16 hC) dX0_premium_98 h (rmQ_ok (by decide) (by decide)) ⟨Nat.le_refl _, Nat.le_refl _⟩ (Nat.le_of_ble_eq_true rfl) (fun r98 V98 h => ?_)
      refine wp_imul dX0_premium_101 ?_
      refine wi6_4 dX0_premium_102 ?_
      refine wc6_5 1 dX0_premium_104 rfl ?_
      refine wp_goto 43 dX0_premium_107 (by decide) ?_
      exact h
    · replace h := h.2 (Int32.not_le.mp hc)
      refine wp_bipush (v := (-2)) dX0_premium_64 rfl ?_
      exact wp_iret dX0_premium_66 rfl ⟨_, rfl, rfl, rfl, rfl, h⟩
theorem n0_premium {E : eT} {Q : Int32 → vT → Prop} {V : vT} {x1 x2 : Int32} (h : w0_premium E Q 0 [some (vr 16), some (vi x1), some (vi x2), none, none, none] [] V) : c0_premium E x1 x2 V Q := MOk.enter [some (vr 16), some (vi x1), some (vi x2), none, none, none] pn_X0 rfl rfl (Nat.le_of_ble_eq_true rfl) rfl h
theorem b0_seed_0 {E : eT} {Q : Int32 → vT → Prop} {V : vT} {tl : Nat} {x1 : Int32} (hC : CM E tl) (h : c0_in E x1 65536 V (fun r4 V4 => (¬ r4 = 0 → Q 1 (up2 V4 19 6 x1)) ∧ (r4 = 0 → Q 0 V4))) : w0_seed E Q 0 [some (vr 16), some (vi x1)] [] V := by
  refine wp_iload_n dX0_seed_0 rfl ?_
  refine wp_ldcw (v := 65536) dX0_seed_1 q1157 ?_
  refine wq_SI2 lk0_12 dX0_seed_4 h (rmQ_ok (by decide) (by decide)) ⟨Nat.le_refl _, Nat.le_refl _⟩ (Nat.le_of_ble_eq_true rfl) (fun r4 V4 h => ?_)
  refine wp_if_ne 12 dX0_seed_7 (by decide) (fun hc => ?_) (fun hc => ?_)
  · replace h := h.1 hc
    refine wp_aload_n dX0_seed_12 rfl ?_
    refine wp_getrs dX0_seed_13 fk0_47_0 (cb_16 hC) (ck_16 hC) rfl (cr_2 hC) ?_
    refine wp_iload_n dX0_seed_16 rfl ?_
    refine wp_puti dX0_seed_17 fp0_92_2 (FO.b0 (cf_19 hC)) (FO.k0 (cf_19 hC)) rfl ?_
    refine wp_iconst (v := 1) dX0_seed_20 rfl ?_
    exact wp_iret dX0_seed_21 rfl ⟨_, rfl, rfl, rfl, rfl, h⟩
  · replace h := h.2 hc
    refine wp_iconst (v := 0) dX0_seed_10 rfl ?_
    exact wp_iret dX0_seed_11 rfl ⟨_, rfl, rfl, rfl, rfl, h⟩
theorem n0_seed {E : eT} {Q : Int32 → vT → Prop} {V : vT} {x1 : Int32} (h : w0_seed E Q 0 [some (vr 16), some (vi x1)] [] V) : c0_seed E x1 V Q := MOk.enter [some (vr 16), some (vi x1)] pn_X0 rfl rfl (Nat.le_of_ble_eq_true rfl) rfl h
theorem b0_keep_0 {E : eT} {Q : Int32 → vT → Prop} {V : vT} {tl : Nat} (hC : CM E tl) (h : c3_takes E 77 19 (up2 V 16 8 1) (fun V13 => Q (V13 19 5) V13)) : w0_keep E Q 0 [some (vr 16)] [] V := by
  refine wp_aload_n dX0_keep_0 rfl ?_
  refine wp_iconst (v := 1) dX0_keep_1 rfl ?_
  refine wp_putz dX0_keep_2 fp0_281_0 (cb_16 hC) (ck_16 hC) rfl (by decide) ?_
  refine wp_aload_n dX0_keep_5 rfl ?_
  refine wp_getrs dX0_keep_6 fk0_54_0 (cb_16 hC) (ck_16 hC) rfl (cr_4 hC) ?_
  refine wp_aload_n dX0_keep_9 rfl ?_
  refine wp_getrs dX0_keep_10 fk0_47_0 (cb_16 hC) (ck_16 hC) rfl (cr_2 hC) ?_
  refine wq_VR1 lk0_139 rfl (FO.b0 (cf_77 hC)) (FO.k0 (cf_77 hC)) dX0_keep_13 h (rmQ_ok (by decide) (by decide)) ⟨Nat.le_refl _, Nat.le_refl _⟩ (Nat.le_of_ble_eq_true rfl) (fun r13 V13 h => ?_)
  obtain ⟨rfl, h⟩ := h
  refine wp_pop dX0_keep_16 ?_
  refine wp_aload_n dX0_keep_17 rfl ?_
  refine wp_getrs dX0_keep_18 fk0_47_0 (cb_16 hC) (ck_16 hC) rfl (cr_2 hC) ?_
  refine wp_geti dX0_keep_21 fk0_200_2 (FO.b0 (cf_19 hC)) (FO.k0 (cf_19 hC)) rfl ?_
  exact wp_iret dX0_keep_24 rfl ⟨_, rfl, rfl, rfl, rfl, h⟩
theorem n0_keep {E : eT} {Q : Int32 → vT → Prop} {V : vT} (h : w0_keep E Q 0 [some (vr 16)] [] V) : c0_keep E V Q := MOk.enter [some (vr 16)] pn_X0 rfl rfl (Nat.le_of_ble_eq_true rfl) rfl h
theorem b0_undo_0 {E : eT} {Q : Int32 → vT → Prop} {V : vT} {tl : Nat} (hC : CM E tl) (h : (¬ (V 16 8) = 0 → c3_takes E 19 77 V (fun V17 => Q 1 V17)) ∧ ((V 16 8) = 0 → Q 0 V)) : w0_undo E Q 0 [some (vr 16)] [] V := by
  refine wp_aload_n dX0_undo_0 rfl ?_
  refine wp_geti dX0_undo_1 fk0_281_0 (cb_16 hC) (ck_16 hC) rfl ?_
  refine wp_if_ne 9 dX0_undo_4 (by decide) (fun hc => ?_) (fun hc => ?_)
  · replace h := h.1 hc
    refine wp_aload_n dX0_undo_9 rfl ?_
    refine wp_getrs dX0_undo_10 fk0_47_0 (cb_16 hC) (ck_16 hC) rfl (cr_2 hC) ?_
    refine wp_aload_n dX0_undo_13 rfl ?_
    refine wp_getrs dX0_undo_14 fk0_54_0 (cb_16 hC) (ck_16 hC) rfl (cr_4 hC) ?_
    refine wq_VR1 lk0_139 rfl (FO.b0 (cf_19 hC)) (FO.k0 (cf_19 hC)) dX0_undo_17 h (rmQ_ok (by decide) (by decide)) ⟨Nat.le_refl _, Nat.le_refl _⟩ (Nat.le_of_ble_eq_true rfl) (fun r17 V17 h => ?_)
    obtain ⟨rfl, h⟩ := h
    refine wp_pop dX0_undo_20 ?_
    refine wp_iconst (v := 1) dX0_undo_21 rfl ?_
    exact wp_iret dX0_undo_22 rfl ⟨_, rfl, rfl, rfl, rfl, h⟩
  · replace h := h.2 hc
    refine wp_iconst (v := 0) dX0_undo_7 rfl ?_
    exact wp_iret dX0_undo_8 rfl ⟨_, rfl, rfl, rfl, rfl, h⟩
theorem n0_undo {E : eT} {Q : Int32 → vT → Prop} {V : vT} (h : w0_undo E Q 0 [some (vr 16)] [] V) : c0_undo E V Q := MOk.enter [some (vr 16)] pn_X0 rfl rfl (Nat.le_of_ble_eq_true rfl) rfl h
theorem b0_check_0 {E : eT} {Q : Int32 → vT → Prop} {V : vT} {tl : Nat} {x1 : Int32} (hC : CM E tl) (h : c0_within E x1 0 24 V (fun r4 V4 => (r4 = 0 → Q (-2) V4) ∧ (¬ r4 = 0 → (x1 ≤ (V4 16 7) → w0_check E Q 28 [some (vr 16), some (vi x1), some (vi 0)] [] (up2 V4 16 7 0)) ∧ ((V4 16 7) < x1 → Q (-2) V4)))) : w0_check E Q 0 [some (vr 16), some (vi x1), none] [] V := by
  refine wp_iload_n dX0_check_0 rfl ?_
  refine wp_iconst (v := 0) dX0_check_1 rfl ?_
  refine wp_bipush (v := 24) dX0_check_2 rfl ?_
  refine wq_SI3 lk0_113 dX0_check_4 h (rmQ_ok (by decide) (by decide)) ⟨Nat.le_refl _, Nat.le_refl _⟩ (Nat.le_of_ble_eq_true rfl) (fun r4 V4 h => ?_)
  refine wp_if_eq 18 dX0_check_7 (by decide) (fun hc => ?_) (fun hc => ?_)
  · replace h := h.1 hc
    refine wp_bipush (v := (-2)) dX0_check_18 rfl ?_
    exact wp_iret dX0_check_20 rfl ⟨_, rfl, rfl, rfl, rfl, h⟩
  · replace h := h.2 hc
    refine wp_iload_n dX0_check_10 rfl ?_
    refine wp_aload_n dX0_check_11 rfl ?_
    refine wp_geti dX0_check_12 fk0_106_0 (cb_16 hC) (ck_16 hC) rfl ?_
    refine wp_icmp_le 21 dX0_check_15 (by decide) (fun hc => ?_) (fun hc => ?_)
    · replace h := h.1 hc
      refine wp_aload_n dX0_check_21 rfl ?_
      refine wp_iconst (v := 0) dX0_check_22 rfl ?_
      refine wp_puti dX0_check_23 fp0_106_0 (cb_16 hC) (ck_16 hC) rfl ?_
      refine wp_iconst (v := 0) dX0_check_26 rfl ?_
      refine wi3_2 dX0_check_27 ?_
      exact h
    · replace h := h.2 (Int32.not_le.mp hc)
      refine wp_bipush (v := (-2)) dX0_check_18 rfl ?_
      exact wp_iret dX0_check_20 rfl ⟨_, rfl, rfl, rfl, rfl, h⟩
theorem b0_check_28 {E : eT} {Q : Int32 → vT → Prop} {V : vT} {tl : Nat} {x1 x2 : Int32} (hC : CM E tl) (h : (x1 ≤ x2 → Q (-1) V) ∧ (x2 < x1 → c0_fed E x2 V (fun r35 V35 => c0_isThing E x2 V35 (fun r40 V40 => (r40 = 0 → (r35 = 0 → w0_check E Q 28 [some (vr 16), some (vi x1), some (vi (x2 + 1))] [] V40) ∧ (¬ r35 = 0 → Q x2 V40)) ∧ (¬ r40 = 0 → vp_in x2 24 ∧ ((¬ (V40 (19 + 5 + ((x2).toNatClampNeg)) 4) = 0 → (r35 = 0 → w0_check E Q 28 [some (vr 16), some (vi x1), some (vi (x2 + 1))] [] V40) ∧ (¬ r35 = 0 → Q x2 V40)) ∧ ((V40 (19 + 5 + ((x2).toNatClampNeg)) 4) = 0 → vp_in x2 24 ∧ ((r35 = ((V40 (19 + 5 + ((x2).toNatClampNeg)) 1) &&& 255) → w0_check E Q 28 [some (vr 16), some (vi x1), some (vi (x2 + 1))] [] V40) ∧ (¬ r35 = ((V40 (19 + 5 + ((x2).toNatClampNeg)) 1) &&& 255) → Q x2 V40))))))))) : w0_check E Q 28 [some (vr 16), some (vi x1), some (vi x2)] [] V := by
  refine wp_iload_n dX0_check_28 rfl ?_
  refine wp_iload_n dX0_check_29 rfl ?_
  refine wp_icmp_ge 92 dX0_check_30 (by decide) (fun hc => ?_) (fun hc => ?_)
  · replace h := h.1 hc
    refine wp_iconst (v := (-1)) dX0_check_92 rfl ?_
    exact wp_iret dX0_check_93 rfl ⟨_, rfl, rfl, rfl, rfl, h⟩
  · replace h := h.2 (Int32.not_le.mp hc)
    refine wp_aload_n dX0_check_33 rfl ?_
    refine wp_iload_n dX0_check_34 rfl ?_
    refine wq_VI1 lk0_250 rfl (cb_16 hC) (ck_16 hC) dX0_check_35 h (rmQ_ok (by decide) (by decide)) ⟨Nat.le_refl _, Nat.le_refl _⟩ (Nat.le_of_ble_eq_true rfl) (fun r35 V35 h => ?_)
    refine wp_aload_n dX0_check_38 rfl ?_
    refine wp_iload_n dX0_check_39 rfl ?_
    refine wq_VI1 lk0_181 rfl (cb_16 hC) (ck_16 hC) dX0_check_40 h (rmQ_ok (by decide) (by decide)) ⟨Nat.le_refl _, Nat.le_refl _⟩ (Nat.le_of_ble_eq_true rfl) (fun r40 V40 h => ?_)
    refine wp_if_eq 80 dX0_check_43 (by decide) (fun hc => ?_) (fun hc => ?_)
    · replace h := h.1 hc
      refine wp_iconst (v := 0) dX0_check_80 rfl ?_
      refine wp_icmp_eq 86 dX0_check_81 (by decide) (fun hc => ?_) (fun hc => ?_)
      · replace h := h.1 hc
        refine wc3_2 1 dX0_check_86 rfl ?_
        refine wp_goto 28 dX0_check_89 (by decide) ?_
        exact h
      · replace h := h.2 hc
        refine wp_iload_n dX0_check_84 rfl ?_
        exact wp_iret dX0_check_85 rfl ⟨_, rfl, rfl, rfl, rfl, h⟩
    · replace h := h.2 hc
      refine wp_aload_n dX0_check_46 rfl ?_
      refine wp_getrs dX0_check_47 fk0_47_0 (cb_16 hC) (ck_16 hC) rfl (cr_2 hC) ?_
      refine wp_getrs dX0_check_50 fk0_96_2 (FO.b0 (cf_19 hC)) (FO.k0 (cf_19 hC)) rfl (FO.r3 (cf_19 hC)) ?_
      refine wp_iload_n dX0_check_53 rfl ?_
      have hi54 := h.1.nat.2
      refine wp_aalds dX0_check_54 (FO.b4 (cf_19 hC)).2 (FO.k4 (cf_19 hC)) (by decide) h.1 (FO.rt (cf_19 hC) hi54) ?_
      replace h := h.2
      refine wp_geti dX0_check_55 fk0_194_3 (FO.bt (cf_19 hC) hi54) (FO.kt (cf_19 hC) hi54) rfl ?_
      refine wp_if_ne 80 dX0_check_58 (by decide) (fun hc => ?_) (fun hc => ?_)
      · replace h := h.1 hc
        refine wp_iconst (v := 0) dX0_check_80 rfl ?_
        refine wp_icmp_eq 86 dX0_check_81 (by decide) (fun hc => ?_) (fun hc => ?_)
        · replace h := h.1 hc
          refine wc3_2 1 dX0_check_86 rfl ?_
          refine wp_goto 28 dX0_check_89 (by decide) ?_
          exact h
        · replace h := h.2 hc
          refine wp_iload_n dX0_check_84 rfl ?_
          exact wp_iret dX0_check_85 rfl ⟨_, rfl, rfl, rfl, rfl, h⟩
      · replace h := h.2 hc
        refine wp_aload_n dX0_check_61 rfl ?_
        refine wp_getrs dX0_check_62 fk0_47_0 (cb_16 hC) (ck_16 hC) rfl (cr_2 hC) ?_
        refine wp_getrs dX0_check_65 fk0_96_2 (FO.b0 (cf_19 hC)) (FO.k0 (cf_19 hC)) rfl (FO.r3 (cf_19 hC)) ?_
        refine wp_iload_n dX0_check_68 rfl ?_
        have hi69 := h.1.nat.2
        refine wp_aalds dX0_check_69 (FO.b4 (cf_19 hC)).2 (FO.k4 (cf_19 hC)) (by decide) h.1 (FO.rt (cf_19 hC) hi69) ?_
        replace h := h.2
        refine wp_geti dX0_check_70 fk0_188_3 (FO.bt (cf_19 hC) hi69) (FO.kt (cf_19 hC) hi69) rfl ?_
        refine wp_sipush (v := 255) dX0_check_73 rfl ?_
        refine wp_iand dX0_check_76 ?_
        refine wp_goto 81 dX0_check_77 (by decide) ?_
        refine wp_icmp_eq 86 dX0_check_81 (by decide) (fun hc => ?_) (fun hc => ?_)
        · replace h := h.1 hc
          refine wc3_2 1 dX0_check_86 rfl ?_
          refine wp_goto 28 dX0_check_89 (by decide) ?_
          exact h
        · replace h := h.2 hc
          refine wp_iload_n dX0_check_84 rfl ?_
          exact wp_iret dX0_check_85 rfl ⟨_, rfl, rfl, rfl, rfl, h⟩
theorem n0_check {E : eT} {Q : Int32 → vT → Prop} {V : vT} {x1 : Int32} (h : w0_check E Q 0 [some (vr 16), some (vi x1), none] [] V) : c0_check E x1 V Q := MOk.enter [some (vr 16), some (vi x1), none] pn_X0 rfl rfl (Nat.le_of_ble_eq_true rfl) rfl h
theorem b0_count_0 {E : eT} {Q : Int32 → vT → Prop} {V : vT} {tl : Nat} {x1 : Int32} (hC : CM E tl) (h : (x1 = 0 → Q (V 19 5) V) ∧ (x1 = 1 → c0_toldThings E V (fun r65 V65 => Q r65 V65)) ∧ (x1 = 2 → c3_gone E 19 V (fun r73 V73 => Q r73 V73)) ∧ (x1 = 3 → c3_those E 19 1 V (fun r82 V82 => Q r82 V82)) ∧ (x1 = 4 → c3_those E 19 2 V (fun r91 V91 => Q r91 V91)) ∧ (x1 = 5 → Q (V 19 4) V) ∧ (x1 = 6 → Q (V tl 3) V) ∧ (x1 = 7 → Q (V 16 7) V) ∧ (x1 = 8 → Q (V 19 6) V) ∧ (x1 = 9 → c3_lost E 19 V (fun r128 V128 => Q r128 V128)) ∧ (¬ x1 = 0 → ¬ x1 = 1 → ¬ x1 = 2 → ¬ x1 = 3 → ¬ x1 = 4 → ¬ x1 = 5 → ¬ x1 = 6 → ¬ x1 = 7 → ¬ x1 = 8 → ¬ x1 = 9 → Q (-1) V)) : w0_count E Q 0 [some (vr 16), some (vi x1)] [] V := by
  refine wp_iload_n dX0_count_0 rfl ?_
  by_cases hc0 : x1 = 0
  · replace h := h.1 hc0
    rw [hc0]
    refine wp_tableIn 56 dX0_count_1 (by decide) (by decide) rfl (by decide) ?_
    refine wp_aload_n dX0_count_56 rfl ?_
    refine wp_getrs dX0_count_57 fk0_47_0 (cb_16 hC) (ck_16 hC) rfl (cr_2 hC) ?_
    refine wp_geti dX0_count_60 fk0_200_2 (FO.b0 (cf_19 hC)) (FO.k0 (cf_19 hC)) rfl ?_
    exact wp_iret dX0_count_63 rfl ⟨_, rfl, rfl, rfl, rfl, h⟩
  · skip
    by_cases hc1 : x1 = 1
    · replace h := h.2.1 hc1
      rw [hc1]
      refine wp_tableIn 64 dX0_count_1 (by decide) (by decide) rfl (by decide) ?_
      refine wp_aload_n dX0_count_64 rfl ?_
      refine wq_VI0 lk0_284 rfl (cb_16 hC) (ck_16 hC) dX0_count_65 h (rmQ_ok (by decide) (by decide)) ⟨Nat.le_refl _, Nat.le_refl _⟩ (Nat.le_of_ble_eq_true rfl) (fun r65 V65 h => ?_)
      exact wp_iret dX0_count_68 rfl ⟨_, rfl, rfl, rfl, rfl, h⟩
    · skip
      by_cases hc2 : x1 = 2
      · replace h := h.2.2.1 hc2
        rw [hc2]
        refine wp_tableIn 69 dX0_count_1 (by decide) (by decide) rfl (by decide) ?_
        refine wp_aload_n dX0_count_69 rfl ?_
        refine wp_getrs dX0_count_70 fk0_47_0 (cb_16 hC) (ck_16 hC) rfl (cr_2 hC) ?_
        refine wq_VI0 lk0_167 rfl (FO.b0 (cf_19 hC)) (FO.k0 (cf_19 hC)) dX0_count_73 h (rmQ_ok (by decide) (by decide)) ⟨Nat.le_refl _, Nat.le_refl _⟩ (Nat.le_of_ble_eq_true rfl) (fun r73 V73 h => ?_)
        exact wp_iret dX0_count_76 rfl ⟨_, rfl, rfl, rfl, rfl, h⟩
      · skip
        by_cases hc3 : x1 = 3
        · replace h := h.2.2.2.1 hc3
          rw [hc3]
          refine wp_tableIn 77 dX0_count_1 (by decide) (by decide) rfl (by decide) ?_
          refine wp_aload_n dX0_count_77 rfl ?_
          refine wp_getrs dX0_count_78 fk0_47_0 (cb_16 hC) (ck_16 hC) rfl (cr_2 hC) ?_
          refine wp_iconst (v := 1) dX0_count_81 rfl ?_
          refine wq_VI1 lk0_154 rfl (FO.b0 (cf_19 hC)) (FO.k0 (cf_19 hC)) dX0_count_82 h (rmQ_ok (by decide) (by decide)) ⟨Nat.le_refl _, Nat.le_refl _⟩ (Nat.le_of_ble_eq_true rfl) (fun r82 V82 h => ?_)
          exact wp_iret dX0_count_85 rfl ⟨_, rfl, rfl, rfl, rfl, h⟩
        · skip
          by_cases hc4 : x1 = 4
          · replace h := h.2.2.2.2.1 hc4
            rw [hc4]
            refine wp_tableIn 86 dX0_count_1 (by decide) (by decide) rfl (by decide) ?_
            refine wp_aload_n dX0_count_86 rfl ?_
            refine wp_getrs dX0_count_87 fk0_47_0 (cb_16 hC) (ck_16 hC) rfl (cr_2 hC) ?_
            refine wp_iconst (v := 2) dX0_count_90 rfl ?_
            refine wq_VI1 lk0_154 rfl (FO.b0 (cf_19 hC)) (FO.k0 (cf_19 hC)) dX0_count_91 h (rmQ_ok (by decide) (by decide)) ⟨Nat.le_refl _, Nat.le_refl _⟩ (Nat.le_of_ble_eq_true rfl) (fun r91 V91 h => ?_)
            exact wp_iret dX0_count_94 rfl ⟨_, rfl, rfl, rfl, rfl, h⟩
          · skip
            by_cases hc5 : x1 = 5
            · replace h := h.2.2.2.2.2.1 hc5
              rw [hc5]
              refine wp_tableIn 95 dX0_count_1 (by decide) (by decide) rfl (by decide) ?_
              refine wp_aload_n dX0_count_95 rfl ?_
              refine wp_getrs dX0_count_96 fk0_47_0 (cb_16 hC) (ck_16 hC) rfl (cr_2 hC) ?_
              refine wp_geti dX0_count_99 fk0_287_2 (FO.b0 (cf_19 hC)) (FO.k0 (cf_19 hC)) rfl ?_
              exact wp_iret dX0_count_102 rfl ⟨_, rfl, rfl, rfl, rfl, h⟩
            · skip
              by_cases hc6 : x1 = 6
              · replace h := h.2.2.2.2.2.2.1 hc6
                rw [hc6]
                refine wp_tableIn 103 dX0_count_1 (by decide) (by decide) rfl (by decide) ?_
                refine wp_aload_n dX0_count_103 rfl ?_
                refine wp_getrs dX0_count_104 fk0_64_0 (cb_16 hC) (ck_16 hC) rfl (claw hC) ?_
                refine wp_geti dX0_count_107 fk0_290_4 (TX.b0 (ctx hC)) (TX.k0 (ctx hC)) rfl ?_
                exact wp_iret dX0_count_110 rfl ⟨_, rfl, rfl, rfl, rfl, h⟩
              · skip
                by_cases hc7 : x1 = 7
                · replace h := h.2.2.2.2.2.2.2.1 hc7
                  rw [hc7]
                  refine wp_tableIn 111 dX0_count_1 (by decide) (by decide) rfl (by decide) ?_
                  refine wp_aload_n dX0_count_111 rfl ?_
                  refine wp_geti dX0_count_112 fk0_106_0 (cb_16 hC) (ck_16 hC) rfl ?_
                  exact wp_iret dX0_count_115 rfl ⟨_, rfl, rfl, rfl, rfl, h⟩
                · skip
                  by_cases hc8 : x1 = 8
                  · replace h := h.2.2.2.2.2.2.2.2.1 hc8
                    rw [hc8]
                    refine wp_tableIn 116 dX0_count_1 (by decide) (by decide) rfl (by decide) ?_
                    refine wp_aload_n dX0_count_116 rfl ?_
                    refine wp_getrs dX0_count_117 fk0_47_0 (cb_16 hC) (ck_16 hC) rfl (cr_2 hC) ?_
                    refine wp_geti dX0_count_120 fk0_92_2 (FO.b0 (cf_19 hC)) (FO.k0 (cf_19 hC)) rfl ?_
                    exact wp_iret dX0_count_123 rfl ⟨_, rfl, rfl, rfl, rfl, h⟩
                  · skip
                    by_cases hc9 : x1 = 9
                    · replace h := h.2.2.2.2.2.2.2.2.2.1 hc9
                      rw [hc9]
                      refine wp_tableIn 124 dX0_count_1 (by decide) (by decide) rfl (by decide) ?_
                      refine wp_aload_n dX0_count_124 rfl ?_
                      refine wp_getrs dX0_count_125 fk0_47_0 (cb_16 hC) (ck_16 hC) rfl (cr_2 hC) ?_
                      refine wq_VI0 lk0_164 rfl (FO.b0 (cf_19 hC)) (FO.k0 (cf_19 hC)) dX0_count_128 h (rmQ_ok (by decide) (by decide)) ⟨Nat.le_refl _, Nat.le_refl _⟩ (Nat.le_of_ble_eq_true rfl) (fun r128 V128 h => ?_)
                      exact wp_iret dX0_count_131 rfl ⟨_, rfl, rfl, rfl, rfl, h⟩
                    · skip
                      replace h := h.2.2.2.2.2.2.2.2.2.2 hc0 hc1 hc2 hc3 hc4 hc5 hc6 hc7 hc8 hc9
                      refine wp_tableD 132 dX0_count_1 (fun j9 h8 h9 => ?_) (by decide) ?_
                      · rcases (show j9 = 0 ∨ j9 = 1 ∨ j9 = 2 ∨ j9 = 3 ∨ j9 = 4 ∨ j9 = 5 ∨ j9 = 6 ∨ j9 = 7 ∨ j9 = 8 ∨ j9 = 9 by omega) with rfl | rfl | rfl | rfl | rfl | rfl | rfl | rfl | rfl | rfl
                        · exact absurd h9 (tab_ne hc0 (by decide))
                        · exact absurd h9 (tab_ne hc1 (by decide))
                        · exact absurd h9 (tab_ne hc2 (by decide))
                        · exact absurd h9 (tab_ne hc3 (by decide))
                        · exact absurd h9 (tab_ne hc4 (by decide))
                        · exact absurd h9 (tab_ne hc5 (by decide))
                        · exact absurd h9 (tab_ne hc6 (by decide))
                        · exact absurd h9 (tab_ne hc7 (by decide))
                        · exact absurd h9 (tab_ne hc8 (by decide))
                        · exact absurd h9 (tab_ne hc9 (by decide))
                      refine wp_iconst (v := (-1)) dX0_count_132 rfl ?_
                      exact wp_iret dX0_count_133 rfl ⟨_, rfl, rfl, rfl, rfl, h⟩
theorem n0_count {E : eT} {Q : Int32 → vT → Prop} {V : vT} {x1 : Int32} (h : w0_count E Q 0 [some (vr 16), some (vi x1)] [] V) : c0_count E x1 V Q := MOk.enter [some (vr 16), some (vi x1)] pn_X0 rfl rfl (Nat.le_of_ble_eq_true rfl) rfl h
theorem b0_toldThings_0 {E : eT} {Q : Int32 → vT → Prop} {V : vT} {tl : Nat} (hC : CM E tl) (h : w0_toldThings E Q 4 [some (vr 16), some (vi 0), some (vi 0)] [] V) : w0_toldThings E Q 0 [some (vr 16), none, none] [] V := by
  refine wp_iconst (v := 0) dX0_toldThings_0 rfl ?_
  refine wi3_1 dX0_toldThings_1 ?_
  refine wp_iconst (v := 0) dX0_toldThings_2 rfl ?_
  refine wi3_2 dX0_toldThings_3 ?_
  exact h
theorem b0_toldThings_4 {E : eT} {Q : Int32 → vT → Prop} {V : vT} {tl : Nat} {x1 x2 : Int32} (hC : CM E tl) (h : (24 ≤ x2 → Q x1 V) ∧ (x2 < 24 → c0_isThing E x2 V (fun r13 V13 => (r13 = 0 → w0_toldThings E Q 4 [some (vr 16), some (vi (x1 ||| 0)), some (vi (x2 + 1))] [] V13) ∧ (¬ r13 = 0 → w0_toldThings E Q 4 [some (vr 16), some (vi (x1 ||| ((1 : Int32) <<< (x2 &&& 31)))), some (vi (x2 + 1))] [] V13)))) : w0_toldThings E Q 4 [some (vr 16), some (vi x1), some (vi x2)] [] V := by
  refine wp_iload_n dX0_toldThings_4 rfl ?_
  refine wp_bipush (v := 24) dX0_toldThings_5 rfl ?_
  refine wp_icmp_ge 34 dX0_toldThings_7 (by decide) (fun hc => ?_) (fun hc => ?_)
  · replace h := h.1 hc
    refine wp_iload_n dX0_toldThings_34 rfl ?_
    exact wp_iret dX0_toldThings_35 rfl ⟨_, rfl, rfl, rfl, rfl, h⟩
  · replace h := h.2 (Int32.not_le.mp hc)
    refine wp_iload_n dX0_toldThings_10 rfl ?_
    refine wp_aload_n dX0_toldThings_11 rfl ?_
    refine wp_iload_n dX0_toldThings_12 rfl ?_
    refine wq_VI1 lk0_181 rfl (cb_16 hC) (ck_16 hC) dX0_toldThings_13 h (rmQ_ok (by decide) (by decide)) ⟨Nat.le_refl _, Nat.le_refl _⟩ (Nat.le_of_ble_eq_true rfl) (fun r13 V13 h => ?_)
    refine wp_if_eq 25 dX0_toldThings_16 (by decide) (fun hc => ?_) (fun hc => ?_)
    · replace h := h.1 hc
      refine wp_iconst (v := 0) dX0_toldThings_25 rfl ?_
      refine wp_ior dX0_toldThings_26 ?_
      refine wi3_1 dX0_toldThings_27 ?_
      refine wc3_2 1 dX0_toldThings_28 rfl ?_
      refine wp_goto 4 dX0_toldThings_31 (by decide) ?_
      exact h
    · replace h := h.2 hc
      refine wp_iconst (v := 1) dX0_toldThings_19 rfl ?_
      refine wp_iload_n dX0_toldThings_20 rfl ?_
      refine wp_ishl dX0_toldThings_21 ?_
      refine wp_goto 26 dX0_toldThings_22 (by decide) ?_
      refine wp_ior dX0_toldThings_26 ?_
      refine wi3_1 dX0_toldThings_27 ?_
      refine wc3_2 1 dX0_toldThings_28 rfl ?_
      refine wp_goto 4 dX0_toldThings_31 (by decide) ?_
      exact h
theorem n0_toldThings {E : eT} {Q : Int32 → vT → Prop} {V : vT} (h : w0_toldThings E Q 0 [some (vr 16), none, none] [] V) : c0_toldThings E V Q := MOk.enter [some (vr 16), none, none] pn_X0 rfl rfl (Nat.le_of_ble_eq_true rfl) rfl h
theorem b2_of_0 {E : eT} {Q : vT → Prop} {V : vT} {tl : Nat} {x1 x2 x3 x4 x5 : Int32} (hC : CM E tl) (h : Q (up2 (up2 (up2 (up2 (up2 V 18 1 x1) 18 2 x2) 18 3 x3) 18 4 x4) 18 5 x5)) : w2_of E Q 0 [some (vr 18), some (vi x1), some (vi x2), some (vi x3), some (vi x4), some (vi x5)] [] V := by
  refine wp_aload_n dX2_of_0 rfl ?_
  refine wp_iload_n dX2_of_1 rfl ?_
  refine wp_puti dX2_of_2 fp2_9_1 (cb_18 hC) (ck_18 hC) rfl ?_
  refine wp_aload_n dX2_of_5 rfl ?_
  refine wp_iload_n dX2_of_6 rfl ?_
  refine wp_puti dX2_of_7 fp2_15_1 (cb_18 hC) (ck_18 hC) rfl ?_
  refine wp_aload_n dX2_of_10 rfl ?_
  refine wp_iload_n dX2_of_11 rfl ?_
  refine wp_puti dX2_of_12 fp2_18_1 (cb_18 hC) (ck_18 hC) rfl ?_
  refine wp_aload_n dX2_of_15 rfl ?_
  refine wp_iload dX2_of_16 rfl ?_
  refine wp_puti dX2_of_18 fp2_21_1 (cb_18 hC) (ck_18 hC) rfl ?_
  refine wp_aload_n dX2_of_21 rfl ?_
  refine wp_iload dX2_of_22 rfl ?_
  refine wp_puti dX2_of_24 fp2_24_1 (cb_18 hC) (ck_18 hC) rfl ?_
  refine wp_aload_n dX2_of_27 rfl ?_
  exact wp_aret dX2_of_28 (Or.inl ⟨_, rfl⟩) ⟨_, rfl, rfl, rfl, rfl, rfl, h⟩
theorem n2_of {E : eT} {Q : vT → Prop} {V : vT} {x1 x2 x3 x4 x5 : Int32} (h : w2_of E Q 0 [some (vr 18), some (vi x1), some (vi x2), some (vi x3), some (vi x4), some (vi x5)] [] V) : c2_of E x1 x2 x3 x4 x5 V Q := MOk.enter [some (vr 18), some (vi x1), some (vi x2), some (vi x3), some (vi x4), some (vi x5)] pn_X2 rfl rfl (Nat.le_of_ble_eq_true rfl) rfl h
theorem b2_with_0 {E : eT} {Q : vT → Prop} {V : vT} {tl : Nat} {x1 x2 x3 x4 : Int32} (hC : CM E tl) (h : Q (up2 (up2 (up2 (up2 V 18 6 x1) 18 7 x2) 18 8 (rmd x3 100)) 18 9 x4)) : w2_with E Q 0 [some (vr 18), some (vi x1), some (vi x2), some (vi x3), some (vi x4)] [] V := by
  refine wp_aload_n dX2_with_0 rfl ?_
  refine wp_iload_n dX2_with_1 rfl ?_
  refine wp_puti dX2_with_2 fp2_27_1 (cb_18 hC) (ck_18 hC) rfl ?_
  refine wp_aload_n dX2_with_5 rfl ?_
  refine wp_iload_n dX2_with_6 rfl ?_
  refine wp_puti dX2_with_7 fp2_30_1 (cb_18 hC) (ck_18 hC) rfl ?_
  refine wp_aload_n dX2_with_10 rfl ?_
  refine wp_iload_n dX2_with_11 rfl ?_
  refine wp_bipush (v := 100) dX2_with_12 rfl ?_
  refine wp_irm dX2_with_14 (by decide) ?_
  refine wp_puti dX2_with_15 fp2_33_1 (cb_18 hC) (ck_18 hC) rfl ?_
  refine wp_aload_n dX2_with_18 rfl ?_
  refine wp_iload dX2_with_19 rfl ?_
  refine wp_puti dX2_with_21 fp2_36_1 (cb_18 hC) (ck_18 hC) rfl ?_
  refine wp_aload_n dX2_with_24 rfl ?_
  exact wp_aret dX2_with_25 (Or.inl ⟨_, rfl⟩) ⟨_, rfl, rfl, rfl, rfl, rfl, h⟩
theorem n2_with {E : eT} {Q : vT → Prop} {V : vT} {x1 x2 x3 x4 : Int32} (h : w2_with E Q 0 [some (vr 18), some (vi x1), some (vi x2), some (vi x3), some (vi x4)] [] V) : c2_with E x1 x2 x3 x4 V Q := MOk.enter [some (vr 18), some (vi x1), some (vi x2), some (vi x3), some (vi x4)] pn_X2 rfl rfl (Nat.le_of_ble_eq_true rfl) rfl h
theorem b2_value_0 {E : eT} {Q : Int32 → vT → Prop} {V : vT} {tl : Nat} {x1 : Int32} (hC : CM E tl) (h : (x1 = 100 → Q (V 18 6) V) ∧ (x1 = 103 → Q (V 18 7) V) ∧ (x1 = 105 → Q (V 18 5) V) ∧ (x1 = 109 → Q (V 18 2) V) ∧ (x1 = 110 → Q (V 18 3) V) ∧ (x1 = 112 → Q (V 18 1) V) ∧ (x1 = 116 → Q (V 18 8) V) ∧ (x1 = 118 → Q (V 18 4) V) ∧ (¬ x1 = 100 → ¬ x1 = 103 → ¬ x1 = 105 → ¬ x1 = 109 → ¬ x1 = 110 → ¬ x1 = 112 → ¬ x1 = 116 → ¬ x1 = 118 → Q (V 18 9) V)) : w2_value E Q 0 [some (vr 18), some (vi x1)] [] V := by
  refine wp_iload_n dX2_value_0 rfl ?_
  by_cases hc100 : x1 = 100
  · replace h := h.1 hc100
    rw [hc100]
    refine wp_tableIn 117 dX2_value_1 (by decide) (by decide) rfl (by decide) ?_
    refine wp_aload_n dX2_value_117 rfl ?_
    refine wp_geti dX2_value_118 fk2_27_1 (cb_18 hC) (ck_18 hC) rfl ?_
    exact wp_iret dX2_value_121 rfl ⟨_, rfl, rfl, rfl, rfl, h⟩
  · skip
    by_cases hc103 : x1 = 103
    · replace h := h.2.1 hc103
      rw [hc103]
      refine wp_tableIn 122 dX2_value_1 (by decide) (by decide) rfl (by decide) ?_
      refine wp_aload_n dX2_value_122 rfl ?_
      refine wp_geti dX2_value_123 fk2_30_1 (cb_18 hC) (ck_18 hC) rfl ?_
      exact wp_iret dX2_value_126 rfl ⟨_, rfl, rfl, rfl, rfl, h⟩
    · skip
      by_cases hc105 : x1 = 105
      · replace h := h.2.2.1 hc105
        rw [hc105]
        refine wp_tableIn 112 dX2_value_1 (by decide) (by decide) rfl (by decide) ?_
        refine wp_aload_n dX2_value_112 rfl ?_
        refine wp_geti dX2_value_113 fk2_24_1 (cb_18 hC) (ck_18 hC) rfl ?_
        exact wp_iret dX2_value_116 rfl ⟨_, rfl, rfl, rfl, rfl, h⟩
      · skip
        by_cases hc109 : x1 = 109
        · replace h := h.2.2.2.1 hc109
          rw [hc109]
          refine wp_tableIn 97 dX2_value_1 (by decide) (by decide) rfl (by decide) ?_
          refine wp_aload_n dX2_value_97 rfl ?_
          refine wp_geti dX2_value_98 fk2_15_1 (cb_18 hC) (ck_18 hC) rfl ?_
          exact wp_iret dX2_value_101 rfl ⟨_, rfl, rfl, rfl, rfl, h⟩
        · skip
          by_cases hc110 : x1 = 110
          · replace h := h.2.2.2.2.1 hc110
            rw [hc110]
            refine wp_tableIn 102 dX2_value_1 (by decide) (by decide) rfl (by decide) ?_
            refine wp_aload_n dX2_value_102 rfl ?_
            refine wp_geti dX2_value_103 fk2_18_1 (cb_18 hC) (ck_18 hC) rfl ?_
            exact wp_iret dX2_value_106 rfl ⟨_, rfl, rfl, rfl, rfl, h⟩
          · skip
            by_cases hc112 : x1 = 112
            · replace h := h.2.2.2.2.2.1 hc112
              rw [hc112]
              refine wp_tableIn 92 dX2_value_1 (by decide) (by decide) rfl (by decide) ?_
              refine wp_aload_n dX2_value_92 rfl ?_
              refine wp_geti dX2_value_93 fk2_9_1 (cb_18 hC) (ck_18 hC) rfl ?_
              exact wp_iret dX2_value_96 rfl ⟨_, rfl, rfl, rfl, rfl, h⟩
            · skip
              by_cases hc116 : x1 = 116
              · replace h := h.2.2.2.2.2.2.1 hc116
                rw [hc116]
                refine wp_tableIn 127 dX2_value_1 (by decide) (by decide) rfl (by decide) ?_
                refine wp_aload_n dX2_value_127 rfl ?_
                refine wp_geti dX2_value_128 fk2_33_1 (cb_18 hC) (ck_18 hC) rfl ?_
                exact wp_iret dX2_value_131 rfl ⟨_, rfl, rfl, rfl, rfl, h⟩
              · skip
                by_cases hc118 : x1 = 118
                · replace h := h.2.2.2.2.2.2.2.1 hc118
                  rw [hc118]
                  refine wp_tableIn 107 dX2_value_1 (by decide) (by decide) rfl (by decide) ?_
                  refine wp_aload_n dX2_value_107 rfl ?_
                  refine wp_geti dX2_value_108 fk2_21_1 (cb_18 hC) (ck_18 hC) rfl ?_
                  exact wp_iret dX2_value_111 rfl ⟨_, rfl, rfl, rfl, rfl, h⟩
                · skip
                  replace h := h.2.2.2.2.2.2.2.2 hc100 hc103 hc105 hc109 hc110 hc112 hc116 hc118
                  refine wp_tableD 132 dX2_value_1 (fun j9 h8 h9 => ?_) (by decide) ?_
                  · rcases (show j9 = 0 ∨ j9 = 1 ∨ j9 = 2 ∨ j9 = 3 ∨ j9 = 4 ∨ j9 = 5 ∨ j9 = 6 ∨ j9 = 7 ∨ j9 = 8 ∨ j9 = 9 ∨ j9 = 10 ∨ j9 = 11 ∨ j9 = 12 ∨ j9 = 13 ∨ j9 = 14 ∨ j9 = 15 ∨ j9 = 16 ∨ j9 = 17 ∨ j9 = 18 by omega) with rfl | rfl | rfl | rfl | rfl | rfl | rfl | rfl | rfl | rfl | rfl | rfl | rfl | rfl | rfl | rfl | rfl | rfl | rfl
                    · exact absurd h9 (tab_ne hc100 (by decide))
                    · exact rfl
                    · exact rfl
                    · exact absurd h9 (tab_ne hc103 (by decide))
                    · exact rfl
                    · exact absurd h9 (tab_ne hc105 (by decide))
                    · exact rfl
                    · exact rfl
                    · exact rfl
                    · exact absurd h9 (tab_ne hc109 (by decide))
                    · exact absurd h9 (tab_ne hc110 (by decide))
                    · exact rfl
                    · exact absurd h9 (tab_ne hc112 (by decide))
                    · exact rfl
                    · exact rfl
                    · exact rfl
                    · exact absurd h9 (tab_ne hc116 (by decide))
                    · exact rfl
                    · exact absurd h9 (tab_ne hc118 (by decide))
                  refine wp_aload_n dX2_value_132 rfl ?_
                  refine wp_geti dX2_value_133 fk2_36_1 (cb_18 hC) (ck_18 hC) rfl ?_
                  exact wp_iret dX2_value_136 rfl ⟨_, rfl, rfl, rfl, rfl, h⟩
theorem n2_value {E : eT} {Q : Int32 → vT → Prop} {V : vT} {x1 : Int32} (h : w2_value E Q 0 [some (vr 18), some (vi x1)] [] V) : c2_value E x1 V Q := MOk.enter [some (vr 18), some (vi x1)] pn_X2 rfl rfl (Nat.le_of_ble_eq_true rfl) rfl h
theorem b3_isNew_0 {E : eT} {Q : vT → Prop} {V : vT} {tl : Nat} {f : Nat} (hC : CM E tl) (hF : FO E f) (h : w3_isNew E Q 2 [some (vr f), some (vi 0)] [] V) : w3_isNew E Q 0 [some (vr f), none] [] V := by
  refine wp_iconst (v := 0) dX3_isNew_0 rfl ?_
  refine wi2_1 dX3_isNew_1 ?_
  exact h
theorem b3_isNew_2 {E : eT} {Q : vT → Prop} {V : vT} {tl : Nat} {f : Nat} {x1 : Int32} (hC : CM E tl) (hF : FO E f) (h : (96 ≤ x1 → Q V) ∧ (x1 < 96 → vp_in x1 96 ∧ (vp_in x1 96 ∧ (w3_isNew E Q 2 [some (vr f), some (vi (x1 + 1))] [] (up2 (up2 V (f + 1) (x1.toNatClampNeg) 0) (f + 2) (x1.toNatClampNeg) 0))))) : w3_isNew E Q 2 [some (vr f), some (vi x1)] [] V := by
  refine wp_iload_n dX3_isNew_2 rfl ?_
  refine wp_bipush (v := 96) dX3_isNew_3 rfl ?_
  refine wp_icmp_ge 28 dX3_isNew_5 (by decide) (fun hc => ?_) (fun hc => ?_)
  · replace h := h.1 hc
    exact wp_vret dX3_isNew_28 ⟨rfl, rfl, rfl, rfl, h⟩
  · replace h := h.2 (Int32.not_le.mp hc)
    refine wp_aload_n dX3_isNew_8 rfl ?_
    refine wp_getrs dX3_isNew_9 fk3_15_2 (FO.b0 hF) (FO.k0 hF) rfl (FO.r0 hF) ?_
    refine wp_iload_n dX3_isNew_12 rfl ?_
    refine wp_iconst (v := 0) dX3_isNew_13 rfl ?_
    refine wp_iast dX3_isNew_14 (FO.b1 hF) (FO.k1 hF) h.1 ?_
    replace h := h.2
    refine wp_aload_n dX3_isNew_15 rfl ?_
    refine wp_getrs dX3_isNew_16 fk3_19_2 (FO.b0 hF) (FO.k0 hF) rfl (FO.r1 hF) ?_
    refine wp_iload_n dX3_isNew_19 rfl ?_
    refine wp_iconst (v := 0) dX3_isNew_20 rfl ?_
    refine wp_iast dX3_isNew_21 (FO.b2 hF) (FO.k2 hF) h.1 ?_
    replace h := h.2
    refine wc2_1 1 dX3_isNew_22 rfl ?_
    refine wp_goto 2 dX3_isNew_25 (by decide) ?_
    exact h
theorem n3_isNew {E : eT} {Q : vT → Prop} {V : vT} {f : Nat} (h : w3_isNew E Q 0 [some (vr f), none] [] V) : c3_isNew E f V Q := MOk.enter [some (vr f), none] pn_X3 rfl rfl (Nat.le_of_ble_eq_true rfl) rfl h
theorem b3_takes_0 {E : eT} {Q : vT → Prop} {V : vT} {tl : Nat} {f : Nat} {a1 : Nat} (hC : CM E tl) (hF : FO E f) (hF1 : FO E a1) (h : w3_takes E f Q 2 [some (vr f), some (vr a1), some (vi 0)] [] V) : w3_takes E f Q 0 [some (vr f), some (vr a1), none] [] V := by
  refine wp_iconst (v := 0) dX3_takes_0 rfl ?_
  refine wi3_2 dX3_takes_1 ?_
  exact h
theorem b3_takes_2 {E : eT} {Q : vT → Prop} {V : vT} {tl : Nat} {f : Nat} {a1 : Nat} {x2 : Int32} (hC : CM E tl) (hF : FO E f) (hF1 : FO E a1) (h : (96 ≤ x2 → w3_takes E f Q 71 [some (vr f), some (vr a1), some (vi 0)] [] V) ∧ (x2 < 96 → vp_in x2 96 ∧ ((¬ (V 17 ((x2).toNatClampNeg)) = 1 → vp_in x2 96 ∧ (vp_in x2 96 ∧ ((¬ ((up2 V (f + 1) (x2.toNatClampNeg) 0) (f + 1) ((x2).toNatClampNeg)) = 1 → vp_in x2 96 ∧ (w3_takes E f Q 2 [some (vr f), some (vr a1), some (vi (x2 + 1))] [] (up2 (up2 V (f + 1) (x2.toNatClampNeg) 0) (f + 2) (x2.toNatClampNeg) 0))) ∧ (((up2 V (f + 1) (x2.toNatClampNeg) 0) (f + 1) ((x2).toNatClampNeg)) = 1 → vp_in x2 96 ∧ (vp_in x2 96 ∧ (w3_takes E f Q 2 [some (vr f), some (vr a1), some (vi (x2 + 1))] [] (up2 (up2 V (f + 1) (x2.toNatClampNeg) 0) (f + 2) (x2.toNatClampNeg) ((up2 V (f + 1) (x2.toNatClampNeg) 0) (a1 + 2) ((x2).toNatClampNeg))))))))) ∧ ((V 17 ((x2).toNatClampNeg)) = 1 → vp_in x2 96 ∧ (vp_in x2 96 ∧ (vp_in x2 96 ∧ ((¬ ((up2 V (f + 1) (x2.toNatClampNeg) (V (a1 + 1) ((x2).toNatClampNeg))) (f + 1) ((x2).toNatClampNeg)) = 1 → vp_in x2 96 ∧ (w3_takes E f Q 2 [some (vr f), some (vr a1), some (vi (x2 + 1))] [] (up2 (up2 V (f + 1) (x2.toNatClampNeg) (V (a1 + 1) ((x2).toNatClampNeg))) (f + 2) (x2.toNatClampNeg) 0))) ∧ (((up2 V (f + 1) (x2.toNatClampNeg) (V (a1 + 1) ((x2).toNatClampNeg))) (f + 1) ((x2).toNatClampNeg)) = 1 → vp_in x2 96 ∧ (vp_in x2 96 ∧ (w3_takes E f Q 2 [some (vr f), some (vr a1), some (vi (x2 + 1))] [] (up2 (up2 V (f + 1) (x2.toNatClampNeg) (V (a1 + 1) ((x2).toNatClampNeg))) (f + 2) (x2.toNatClampNeg) ((up2 V (f + 1) (x2.toNatClampNeg) (V (a1 + 1) ((x2).toNatClampNeg))) (a1 + 2) ((x2).toNatClampNeg))))))))))))) : w3_takes E f Q 2 [some (vr f), some (vr a1), some (vi x2)] [] V := by
  refine wp_iload_n dX3_takes_2 rfl ?_
  refine wp_bipush (v := 96) dX3_takes_3 rfl ?_
  refine wp_icmp_ge 69 dX3_takes_5 (by decide) (fun hc => ?_) (fun hc => ?_)
  · replace h := h.1 hc
    refine wp_iconst (v := 0) dX3_takes_69 rfl ?_
    refine wi3_2 dX3_takes_70 ?_
    exact h
  · replace h := h.2 (Int32.not_le.mp hc)
    refine wp_aload_n dX3_takes_8 rfl ?_
    refine wp_getrs dX3_takes_9 fk3_15_2 (FO.b0 hF) (FO.k0 hF) rfl (FO.r0 hF) ?_
    refine wp_iload_n dX3_takes_12 rfl ?_
    refine wp_aload_n dX3_takes_13 rfl ?_
    refine wp_getrs dX3_takes_14 fk3_3_2 (FO.b0 hF) (FO.k0 hF) rfl (FO.r7 hF) ?_
    refine wp_getrs dX3_takes_17 fk3_33_0 (cb_16 hC) (ck_16 hC) rfl (cr_0 hC) ?_
    refine wp_iload_n dX3_takes_20 rfl ?_
    refine wp_iald dX3_takes_21 (cb_17 hC).2 (ck_17 hC) h.1 ?_
    replace h := h.2
    refine wp_iconst (v := 1) dX3_takes_22 rfl ?_
    refine wp_icmp_ne 35 dX3_takes_23 (by decide) (fun hc => ?_) (fun hc => ?_)
    · replace h := h.1 hc
      refine wp_iconst (v := 0) dX3_takes_35 rfl ?_
      refine wp_iast dX3_takes_36 (FO.b1 hF) (FO.k1 hF) h.1 ?_
      replace h := h.2
      refine wp_aload_n dX3_takes_37 rfl ?_
      refine wp_getrs dX3_takes_38 fk3_19_2 (FO.b0 hF) (FO.k0 hF) rfl (FO.r1 hF) ?_
      refine wp_iload_n dX3_takes_41 rfl ?_
      refine wp_aload_n dX3_takes_42 rfl ?_
      refine wp_getrs dX3_takes_43 fk3_15_2 (FO.b0 hF) (FO.k0 hF) rfl (FO.r0 hF) ?_
      refine wp_iload_n dX3_takes_46 rfl ?_
      refine wp_iald dX3_takes_47 (FO.b1 hF).2 (FO.k1 hF) h.1 ?_
      replace h := h.2
      refine wp_iconst (v := 1) dX3_takes_48 rfl ?_
      refine wp_icmp_ne 61 dX3_takes_49 (by decide) (fun hc => ?_) (fun hc => ?_)
      · replace h := h.1 hc
        refine wp_iconst (v := 0) dX3_takes_61 rfl ?_
        refine wp_iast dX3_takes_62 (FO.b2 hF) (FO.k2 hF) h.1 ?_
        replace h := h.2
        refine wc3_2 1 dX3_takes_63 rfl ?_
        refine wp_goto 2 dX3_takes_66 (by decide) ?_
        exact h
      · replace h := h.2 hc
        refine wp_aload_n dX3_takes_52 rfl ?_
        refine wp_getrs dX3_takes_53 fk3_19_2 (FO.b0 hF1) (FO.k0 hF1) rfl (FO.r1 hF1) ?_
        refine wp_iload_n dX3_takes_56 rfl ?_
        refine wp_iald dX3_takes_57 (FO.b2 hF1).2 (FO.k2 hF1) h.1 ?_
        replace h := h.2
        refine wp_goto 62 dX3_takes_58 (by decide) ?_
        refine wp_iast dX3_takes_62 (FO.b2 hF) (FO.k2 hF) h.1 ?_
        replace h := h.2
        refine wc3_2 1 dX3_takes_63 rfl ?_
        refine wp_goto 2 dX3_takes_66 (by decide) ?_
        exact h
    · replace h := h.2 hc
      refine wp_aload_n dX3_takes_26 rfl ?_
      refine wp_getrs dX3_takes_27 fk3_15_2 (FO.b0 hF1) (FO.k0 hF1) rfl (FO.r0 hF1) ?_
      refine wp_iload_n dX3_takes_30 rfl ?_
      refine wp_iald dX3_takes_31 (FO.b1 hF1).2 (FO.k1 hF1) h.1 ?_
      replace h := h.2
      refine wp_goto 36 dX3_takes_32 (by decide) ?_
      refine wp_iast dX3_takes_36 (FO.b1 hF) (FO.k1 hF) h.1 ?_
      replace h := h.2
      refine wp_aload_n dX3_takes_37 rfl ?_
      refine wp_getrs dX3_takes_38 fk3_19_2 (FO.b0 hF) (FO.k0 hF) rfl (FO.r1 hF) ?_
      refine wp_iload_n dX3_takes_41 rfl ?_
      refine wp_aload_n dX3_takes_42 rfl ?_
      refine wp_getrs dX3_takes_43 fk3_15_2 (FO.b0 hF) (FO.k0 hF) rfl (FO.r0 hF) ?_
      refine wp_iload_n dX3_takes_46 rfl ?_
      refine wp_iald dX3_takes_47 (FO.b1 hF).2 (FO.k1 hF) h.1 ?_
      replace h := h.2
      refine wp_iconst (v := 1) dX3_takes_48 rfl ?_
      refine wp_icmp_ne 61 dX3_takes_49 (by decide) (fun hc => ?_) (fun hc => ?_)
      · replace h := h.1 hc
        refine wp_iconst (v := 0) dX3_takes_61 rfl ?_
        refine wp_iast dX3_takes_62 (FO.b2 hF) (FO.k2 hF) h.1 ?_
        replace h := h.2
        refine wc3_2 1 dX3_takes_63 rfl ?_
        refine wp_goto 2 dX3_takes_66 (by decide) ?_
        exact h
      · replace h := h.2 hc
        refine wp_aload_n dX3_takes_52 rfl ?_
        refine wp_getrs dX3_takes_53 fk3_19_2 (FO.b0 hF1) (FO.k0 hF1) rfl (FO.r1 hF1) ?_
        refine wp_iload_n dX3_takes_56 rfl ?_
        refine wp_iald dX3_takes_57 (FO.b2 hF1).2 (FO.k2 hF1) h.1 ?_
        replace h := h.2
        refine wp_goto 62 dX3_takes_58 (by decide) ?_
        refine wp_iast dX3_takes_62 (FO.b2 hF) (FO.k2 hF) h.1 ?_
        replace h := h.2
        refine wc3_2 1 dX3_takes_63 rfl ?_
        refine wp_goto 2 dX3_takes_66 (by decide) ?_
        exact h
theorem b3_takes_71 {E : eT} {Q : vT → Prop} {V : vT} {tl : Nat} {f : Nat} {a1 : Nat} {x2 : Int32} (hC : CM E tl) (hF : FO E f) (hF1 : FO E a1) (h : (24 ≤ x2 → Q (up2 (up2 (up2 V f 4 (V a1 4)) f 5 ((up2 V f 4 (V a1 4)) a1 5)) f 6 ((up2 (up2 V f 4 (V a1 4)) f 5 ((up2 V f 4 (V a1 4)) a1 5)) a1 6))) ∧ (x2 < 24 → vp_in x2 24 ∧ (vp_in x2 24 ∧ (c4_takes E (f + 5 + ((x2).toNatClampNeg)) (a1 + 5 + ((x2).toNatClampNeg)) V (fun V89 => w3_takes E f Q 71 [some (vr f), some (vr a1), some (vi (x2 + 1))] [] V89))))) : w3_takes E f Q 71 [some (vr f), some (vr a1), some (vi x2)] [] V := by
  refine wp_iload_n dX3_takes_71 rfl ?_
  refine wp_bipush (v := 24) dX3_takes_72 rfl ?_
  refine wp_icmp_ge 98 dX3_takes_74 (by decide) (fun hc => ?_) (fun hc => ?_)
  · replace h := h.1 hc
    refine wp_aload_n dX3_takes_98 rfl ?_
    refine wp_aload_n dX3_takes_99 rfl ?_
    refine wp_geti dX3_takes_100 fk3_40_2 (FO.b0 hF1) (FO.k0 hF1) rfl ?_
    refine wp_puti dX3_takes_103 fp3_40_2 (FO.b0 hF) (FO.k0 hF) rfl ?_
    refine wp_aload_n dX3_takes_106 rfl ?_
    refine wp_aload_n dX3_takes_107 rfl ?_
    refine wp_geti dX3_takes_108 fk3_44_2 (FO.b0 hF1) (FO.k0 hF1) rfl ?_
    refine wp_puti dX3_takes_111 fp3_44_2 (FO.b0 hF) (FO.k0 hF) rfl ?_
    refine wp_aload_n dX3_takes_114 rfl ?_
    refine wp_aload_n dX3_takes_115 rfl ?_
    refine wp_geti dX3_takes_116 fk3_47_2 (FO.b0 hF1) (FO.k0 hF1) rfl ?_
    refine wp_puti dX3_takes_119 fp3_47_2 (FO.b0 hF) (FO.k0 hF) rfl ?_
    refine wp_aload_n dX3_takes_122 rfl ?_
    exact wp_aret dX3_takes_123 (Or.inl ⟨_, rfl⟩) ⟨_, rfl, rfl, rfl, rfl, rfl, h⟩
  · replace h := h.2 (Int32.not_le.mp hc)
    refine wp_aload_n dX3_takes_77 rfl ?_
    refine wp_getrs dX3_takes_78 fk3_28_2 (FO.b0 hF) (FO.k0 hF) rfl (FO.r3 hF) ?_
    refine wp_iload_n dX3_takes_81 rfl ?_
    have hi82 := h.1.nat.2
    refine wp_aalds dX3_takes_82 (FO.b4 hF).2 (FO.k4 hF) (by decide) h.1 (FO.rt hF hi82) ?_
    replace h := h.2
    refine wp_aload_n dX3_takes_83 rfl ?_
    refine wp_getrs dX3_takes_84 fk3_28_2 (FO.b0 hF1) (FO.k0 hF1) rfl (FO.r3 hF1) ?_
    refine wp_iload_n dX3_takes_87 rfl ?_
    have hi88 := h.1.nat.2
    refine wp_aalds dX3_takes_88 (FO.b4 hF1).2 (FO.k4 hF1) (by decide) h.1 (FO.rt hF1 hi88) ?_
    replace h := h.2
    refine wq_VV1 lk3_36 rfl (FO.bt hF hi82) (FO.kt hF hi82) dX3_takes_89 h (rmQ_ok (by decide) (by decide)) ⟨Nat.le_refl _, Nat.le_refl _⟩ (Nat.le_of_ble_eq_true rfl) (fun V89 h => ?_)
    refine wc3_2 1 dX3_takes_92 rfl ?_
    refine wp_goto 71 dX3_takes_95 (by decide) ?_
    exact h
theorem n3_takes {E : eT} {Q : vT → Prop} {V : vT} {f : Nat} {a1 : Nat} (h : w3_takes E f Q 0 [some (vr f), some (vr a1), none] [] V) : c3_takes E f a1 V Q := MOk.enter [some (vr f), some (vr a1), none] pn_X3 rfl rfl (Nat.le_of_ble_eq_true rfl) rfl h
theorem b3_lights_0 {E : eT} {Q : vT → Prop} {V : vT} {tl : Nat} {f : Nat} {x1 x2 : Int32} (hC : CM E tl) (hF : FO E f) (h : vp_in x1 96 ∧ (vp_in x1 96 ∧ (Q (up2 (up2 V (f + 1) (x1.toNatClampNeg) 1) (f + 2) (x1.toNatClampNeg) x2)))) : w3_lights E Q 0 [some (vr f), some (vi x1), some (vi x2)] [] V := by
  refine wp_aload_n dX3_lights_0 rfl ?_
  refine wp_getrs dX3_lights_1 fk3_15_2 (FO.b0 hF) (FO.k0 hF) rfl (FO.r0 hF) ?_
  refine wp_iload_n dX3_lights_4 rfl ?_
  refine wp_iconst (v := 1) dX3_lights_5 rfl ?_
  refine wp_iast dX3_lights_6 (FO.b1 hF) (FO.k1 hF) h.1 ?_
  replace h := h.2
  refine wp_aload_n dX3_lights_7 rfl ?_
  refine wp_getrs dX3_lights_8 fk3_19_2 (FO.b0 hF) (FO.k0 hF) rfl (FO.r1 hF) ?_
  refine wp_iload_n dX3_lights_11 rfl ?_
  refine wp_iload_n dX3_lights_12 rfl ?_
  refine wp_iast dX3_lights_13 (FO.b2 hF) (FO.k2 hF) h.1 ?_
  replace h := h.2
  exact wp_vret dX3_lights_14 ⟨rfl, rfl, rfl, rfl, h⟩
theorem n3_lights {E : eT} {Q : vT → Prop} {V : vT} {f : Nat} {x1 x2 : Int32} (h : w3_lights E Q 0 [some (vr f), some (vi x1), some (vi x2)] [] V) : c3_lights E f x1 x2 V Q := MOk.enter [some (vr f), some (vi x1), some (vi x2)] pn_X3 rfl rfl (Nat.le_of_ble_eq_true rfl) rfl h
theorem b3_waters_0 {E : eT} {Q : vT → Prop} {V : vT} {tl : Nat} {f : Nat} {x1 : Int32} (hC : CM E tl) (hF : FO E f) (h : vp_in x1 96 ∧ (vp_in x1 96 ∧ (Q (up2 (up2 V (f + 1) (x1.toNatClampNeg) 0) (f + 2) (x1.toNatClampNeg) 0)))) : w3_waters E Q 0 [some (vr f), some (vi x1)] [] V := by
  refine wp_aload_n dX3_waters_0 rfl ?_
  refine wp_getrs dX3_waters_1 fk3_15_2 (FO.b0 hF) (FO.k0 hF) rfl (FO.r0 hF) ?_
  refine wp_iload_n dX3_waters_4 rfl ?_
  refine wp_iconst (v := 0) dX3_waters_5 rfl ?_
  refine wp_iast dX3_waters_6 (FO.b1 hF) (FO.k1 hF) h.1 ?_
  replace h := h.2
  refine wp_aload_n dX3_waters_7 rfl ?_
  refine wp_getrs dX3_waters_8 fk3_19_2 (FO.b0 hF) (FO.k0 hF) rfl (FO.r1 hF) ?_
  refine wp_iload_n dX3_waters_11 rfl ?_
  refine wp_iconst (v := 0) dX3_waters_12 rfl ?_
  refine wp_iast dX3_waters_13 (FO.b2 hF) (FO.k2 hF) h.1 ?_
  replace h := h.2
  exact wp_vret dX3_waters_14 ⟨rfl, rfl, rfl, rfl, h⟩
theorem n3_waters {E : eT} {Q : vT → Prop} {V : vT} {f : Nat} {x1 : Int32} (h : w3_waters E Q 0 [some (vr f), some (vi x1)] [] V) : c3_waters E f x1 V Q := MOk.enter [some (vr f), some (vi x1)] pn_X3 rfl rfl (Nat.le_of_ble_eq_true rfl) rfl h
theorem b3_goes_0 {E : eT} {Q : vT → Prop} {V : vT} {tl : Nat} {f : Nat} {x1 : Int32} (hC : CM E tl) (hF : FO E f) (h : w3_goes E f Q 2 [some (vr f), some (vi x1), some (vi 0)] [] V) : w3_goes E f Q 0 [some (vr f), some (vi x1), none] [] V := by
  refine wp_iconst (v := 0) dX3_goes_0 rfl ?_
  refine wi3_2 dX3_goes_1 ?_
  exact h
theorem b3_goes_2 {E : eT} {Q : vT → Prop} {V : vT} {tl : Nat} {f : Nat} {x1 x2 : Int32} (hC : CM E tl) (hF : FO E f) (h : (x1 ≤ x2 → Q V) ∧ (x2 < x1 → (9999 ≤ (V f 5) → Q V) ∧ ((V f 5) < 9999 → c3_minuteGoes E f V (fun V18 => w3_goes E f Q 2 [some (vr f), some (vi x1), some (vi (x2 + 1))] [] V18)))) : w3_goes E f Q 2 [some (vr f), some (vi x1), some (vi x2)] [] V := by
  refine wp_iload_n dX3_goes_2 rfl ?_
  refine wp_iload_n dX3_goes_3 rfl ?_
  refine wp_icmp_ge 27 dX3_goes_4 (by decide) (fun hc => ?_) (fun hc => ?_)
  · replace h := h.1 hc
    refine wp_aload_n dX3_goes_27 rfl ?_
    exact wp_aret dX3_goes_28 (Or.inl ⟨_, rfl⟩) ⟨_, rfl, rfl, rfl, rfl, rfl, h⟩
  · replace h := h.2 (Int32.not_le.mp hc)
    refine wp_aload_n dX3_goes_7 rfl ?_
    refine wp_geti dX3_goes_8 fk3_44_2 (FO.b0 hF) (FO.k0 hF) rfl ?_
    refine wp_sipush (v := 9999) dX3_goes_11 rfl ?_
    refine wp_icmp_ge 27 dX3_goes_14 (by decide) (fun hc => ?_) (fun hc => ?_)
    · replace h := h.1 hc
      refine wp_aload_n dX3_goes_27 rfl ?_
      exact wp_aret dX3_goes_28 (Or.inl ⟨_, rfl⟩) ⟨_, rfl, rfl, rfl, rfl, rfl, h⟩
    · replace h := h.2 (Int32.not_le.mp hc)
      refine wp_aload_n dX3_goes_17 rfl ?_
      refine wq_VV0 lk3_136 rfl (FO.b0 hF) (FO.k0 hF) dX3_goes_18 h (rmQ_ok (by decide) (by decide)) ⟨Nat.le_refl _, Nat.le_refl _⟩ (Nat.le_of_ble_eq_true rfl) (fun V18 h => ?_)
      refine wc3_2 1 dX3_goes_21 rfl ?_
      refine wp_goto 2 dX3_goes_24 (by decide) ?_
      exact h
theorem n3_goes {E : eT} {Q : vT → Prop} {V : vT} {f : Nat} {x1 : Int32} (h : w3_goes E f Q 0 [some (vr f), some (vi x1), none] [] V) : c3_goes E f x1 V Q := MOk.enter [some (vr f), some (vi x1), none] pn_X3 rfl rfl (Nat.le_of_ble_eq_true rfl) rfl h
theorem b3_minuteGoes_0 {E : eT} {Q : vT → Prop} {V : vT} {tl : Nat} {f : Nat} (hC : CM E tl) (hF : FO E f) (h : w3_minuteGoes E Q 2 [some (vr f), some (vi 0)] [] V) : w3_minuteGoes E Q 0 [some (vr f), none] [] V := by
  refine wp_iconst (v := 0) dX3_minuteGoes_0 rfl ?_
  refine wi2_1 dX3_minuteGoes_1 ?_
  exact h
theorem b3_minuteGoes_2 {E : eT} {Q : vT → Prop} {V : vT} {tl : Nat} {f : Nat} {x1 : Int32} (hC : CM E tl) (hF : FO E f) (h : (96 ≤ x1 → w3_minuteGoes E Q 37 [some (vr f), some (vi 0)] [] V) ∧ (x1 < 96 → vp_in x1 96 ∧ ((¬ (V (f + 1) ((x1).toNatClampNeg)) = 1 → vp_in x1 96 ∧ (w3_minuteGoes E Q 2 [some (vr f), some (vi (x1 + 1))] [] (up2 V (f + 3) (x1.toNatClampNeg) 0))) ∧ ((V (f + 1) ((x1).toNatClampNeg)) = 1 → vp_in x1 96 ∧ (w3_minuteGoes E Q 2 [some (vr f), some (vi (x1 + 1))] [] (up2 V (f + 3) (x1.toNatClampNeg) 1)))))) : w3_minuteGoes E Q 2 [some (vr f), some (vi x1)] [] V := by
  refine wp_iload_n dX3_minuteGoes_2 rfl ?_
  refine wp_bipush (v := 96) dX3_minuteGoes_3 rfl ?_
  refine wp_icmp_ge 35 dX3_minuteGoes_5 (by decide) (fun hc => ?_) (fun hc => ?_)
  · replace h := h.1 hc
    refine wp_iconst (v := 0) dX3_minuteGoes_35 rfl ?_
    refine wi2_1 dX3_minuteGoes_36 ?_
    exact h
  · replace h := h.2 (Int32.not_le.mp hc)
    refine wp_aload_n dX3_minuteGoes_8 rfl ?_
    refine wp_getrs dX3_minuteGoes_9 fk3_22_2 (FO.b0 hF) (FO.k0 hF) rfl (FO.r2 hF) ?_
    refine wp_iload_n dX3_minuteGoes_12 rfl ?_
    refine wp_aload_n dX3_minuteGoes_13 rfl ?_
    refine wp_getrs dX3_minuteGoes_14 fk3_15_2 (FO.b0 hF) (FO.k0 hF) rfl (FO.r0 hF) ?_
    refine wp_iload_n dX3_minuteGoes_17 rfl ?_
    refine wp_iald dX3_minuteGoes_18 (FO.b1 hF).2 (FO.k1 hF) h.1 ?_
    replace h := h.2
    refine wp_iconst (v := 1) dX3_minuteGoes_19 rfl ?_
    refine wp_icmp_ne 27 dX3_minuteGoes_20 (by decide) (fun hc => ?_) (fun hc => ?_)
    · replace h := h.1 hc
      refine wp_iconst (v := 0) dX3_minuteGoes_27 rfl ?_
      refine wp_zast dX3_minuteGoes_28 (FO.b3 hF) (FO.k3 hF) (by decide) h.1 ?_
      replace h := h.2
      refine wc2_1 1 dX3_minuteGoes_29 rfl ?_
      refine wp_goto 2 dX3_minuteGoes_32 (by decide) ?_
      exact h
    · replace h := h.2 hc
      refine wp_iconst (v := 1) dX3_minuteGoes_23 rfl ?_
      refine wp_goto 28 dX3_minuteGoes_24 (by decide) ?_
      refine wp_zast dX3_minuteGoes_28 (FO.b3 hF) (FO.k3 hF) (by decide) h.1 ?_
      replace h := h.2
      refine wc2_1 1 dX3_minuteGoes_29 rfl ?_
      refine wp_goto 2 dX3_minuteGoes_32 (by decide) ?_
      exact h
theorem b3_minuteGoes_37 {E : eT} {Q : vT → Prop} {V : vT} {tl : Nat} {f : Nat} {x1 : Int32} (hC : CM E tl) (hF : FO E f) (h : (96 ≤ x1 → Q (up2 V f 5 ((V f 5) + 1))) ∧ (x1 < 96 → vp_in x1 96 ∧ (((V (f + 3) ((x1).toNatClampNeg)) = 0 → w3_minuteGoes E Q 37 [some (vr f), some (vi (x1 + 1))] [] V) ∧ (¬ (V (f + 3) ((x1).toNatClampNeg)) = 0 → c3_burns E f x1 V (fun V54 => w3_minuteGoes E Q 37 [some (vr f), some (vi (x1 + 1))] [] V54))))) : w3_minuteGoes E Q 37 [some (vr f), some (vi x1)] [] V := by
  refine wp_iload_n dX3_minuteGoes_37 rfl ?_
  refine wp_bipush (v := 96) dX3_minuteGoes_38 rfl ?_
  refine wp_icmp_ge 63 dX3_minuteGoes_40 (by decide) (fun hc => ?_) (fun hc => ?_)
  · replace h := h.1 hc
    refine wp_aload_n dX3_minuteGoes_63 rfl ?_
    refine wp_dup dX3_minuteGoes_64 ?_
    refine wp_geti dX3_minuteGoes_65 fk3_44_2 (FO.b0 hF) (FO.k0 hF) rfl ?_
    refine wp_iconst (v := 1) dX3_minuteGoes_68 rfl ?_
    refine wp_iadd dX3_minuteGoes_69 ?_
    refine wp_puti dX3_minuteGoes_70 fp3_44_2 (FO.b0 hF) (FO.k0 hF) rfl ?_
    exact wp_vret dX3_minuteGoes_73 ⟨rfl, rfl, rfl, rfl, h⟩
  · replace h := h.2 (Int32.not_le.mp hc)
    refine wp_aload_n dX3_minuteGoes_43 rfl ?_
    refine wp_getrs dX3_minuteGoes_44 fk3_22_2 (FO.b0 hF) (FO.k0 hF) rfl (FO.r2 hF) ?_
    refine wp_iload_n dX3_minuteGoes_47 rfl ?_
    refine wp_zald dX3_minuteGoes_48 (FO.b3 hF).2 (FO.k3 hF) h.1 ?_
    replace h := h.2
    refine wp_if_eq 57 dX3_minuteGoes_49 (by decide) (fun hc => ?_) (fun hc => ?_)
    · replace h := h.1 hc
      refine wc2_1 1 dX3_minuteGoes_57 rfl ?_
      refine wp_goto 37 dX3_minuteGoes_60 (by decide) ?_
      exact h
    · replace h := h.2 hc
      refine wp_aload_n dX3_minuteGoes_52 rfl ?_
      refine wp_iload_n dX3_minuteGoes_53 rfl ?_
      refine wq_VV1 lk3_132 rfl (FO.b0 hF) (FO.k0 hF) dX3_minuteGoes_54 h (rmQ_ok (by decide) (by decide)) ⟨Nat.le_refl _, Nat.le_refl _⟩ (Nat.le_of_ble_eq_true rfl) (fun V54 h => ?_)
      refine wc2_1 1 dX3_minuteGoes_57 rfl ?_
      refine wp_goto 37 dX3_minuteGoes_60 (by decide) ?_
      exact h
theorem n3_minuteGoes {E : eT} {Q : vT → Prop} {V : vT} {f : Nat} (h : w3_minuteGoes E Q 0 [some (vr f), none] [] V) : c3_minuteGoes E f V Q := MOk.enter [some (vr f), none] pn_X3 rfl rfl (Nat.le_of_ble_eq_true rfl) rfl h
theorem b3_burns_0 {E : eT} {Q : vT → Prop} {V : vT} {tl : Nat} {f : Nat} {x1 : Int32} (hC : CM E tl) (hF : FO E f) (h : w3_burns E Q 11 [some (vr f), some (vi x1), some (vr (f + 4)), some (vi 24), some (vi 0), none] [] V) : w3_burns E Q 0 [some (vr f), some (vi x1), none, none, none, none] [] V := by
  refine wp_aload_n dX3_burns_0 rfl ?_
  refine wp_getrs dX3_burns_1 fk3_28_2 (FO.b0 hF) (FO.k0 hF) rfl (FO.r3 hF) ?_
  refine wa6_2 dX3_burns_4 ?_
  refine wp_aload_n dX3_burns_5 rfl ?_
  refine wp_alen dX3_burns_6 (FO.b4 hF).2 (FO.k4 hF) ?_
  refine wi6_3 dX3_burns_7 ?_
  refine wp_iconst (v := 0) dX3_burns_8 rfl ?_
  refine wi6_4 dX3_burns_9 ?_
  exact h
theorem b3_burns_11 {E : eT} {Q : vT → Prop} {V : vT} {tl : Nat} {f : Nat} {x1 x3 x4 : Int32} (hC : CM E tl) (hF : FO E f) (h : (x3 ≤ x4 → w3_burns E Q 54 [some (vr f), some (vi x1), some (vi 0), none, none, none] [] V) ∧ (x4 < x3 → vp_in x4 24 ∧ (c4_isAt E (f + 5 + ((x4).toNatClampNeg)) x1 V (fun r26 V26 => (r26 = 0 → w3_burns E Q 11 [some (vr f), some (vi x1), some (vr (f + 4)), some (vi x3), some (vi (x4 + 1)), none] [] V26) ∧ (¬ r26 = 0 → (¬ (V26 (f + 5 + ((x4).toNatClampNeg)) 2) = 0 → w3_burns E Q 11 [some (vr f), some (vi x1), some (vr (f + 4)), some (vi x3), some (vi (x4 + 1)), none] [] V26) ∧ ((V26 (f + 5 + ((x4).toNatClampNeg)) 2) = 0 → w3_burns E Q 11 [some (vr f), some (vi x1), some (vr (f + 4)), some (vi x3), some (vi (x4 + 1)), none] [] (up2 V26 (f + 5 + ((x4).toNatClampNeg)) 4 1))))))) : w3_burns E Q 11 [some (vr f), some (vi x1), some (vr (f + 4)), some (vi x3), some (vi x4), none] [] V := by
  refine wp_iload dX3_burns_11 rfl ?_
  refine wp_iload_n dX3_burns_13 rfl ?_
  refine wp_icmp_ge 52 dX3_burns_14 (by decide) (fun hc => ?_) (fun hc => ?_)
  · replace h := h.1 hc
    refine wp_iconst (v := 0) dX3_burns_52 rfl ?_
    refine wi6_2 dX3_burns_53 ?_
    exact wp_drop [some (vr f), some (vi x1), some (vi 0), none, none, none] ⟨rfl, ⟨rfl, ⟨rfl, trivial⟩⟩⟩ h
  · replace h := h.2 (Int32.not_le.mp hc)
    refine wp_aload_n dX3_burns_17 rfl ?_
    refine wp_iload dX3_burns_18 rfl ?_
    have hi20 := h.1.nat.2
    refine wp_aalds dX3_burns_20 (FO.b4 hF).2 (FO.k4 hF) (by decide) h.1 (FO.rt hF hi20) ?_
    replace h := h.2
    refine wa6_5 dX3_burns_21 ?_
    refine wp_aload dX3_burns_23 rfl ?_
    refine wp_iload_n dX3_burns_25 rfl ?_
    refine wq_VI1 lk3_54 rfl (FO.bt hF hi20) (FO.kt hF hi20) dX3_burns_26 h (rmQ_ok (by decide) (by decide)) ⟨Nat.le_refl _, Nat.le_refl _⟩ (Nat.le_of_ble_eq_true rfl) (fun r26 V26 h => ?_)
    refine wp_if_eq 46 dX3_burns_29 (by decide) (fun hc => ?_) (fun hc => ?_)
    · replace h := h.1 hc
      refine wc6_4 1 dX3_burns_46 rfl ?_
      refine wp_goto 11 dX3_burns_49 (by decide) ?_
      exact wp_drop [some (vr f), some (vi x1), some (vr (f + 4)), some (vi x3), some (vi (x4 + 1)), none] ⟨rfl, ⟨rfl, ⟨rfl, ⟨rfl, ⟨rfl, trivial⟩⟩⟩⟩⟩ h
    · replace h := h.2 hc
      refine wp_aload dX3_burns_32 rfl ?_
      refine wp_geti dX3_burns_34 fk3_58_3 (FO.bt hF hi20) (FO.kt hF hi20) rfl ?_
      refine wp_if_ne 46 dX3_burns_37 (by decide) (fun hc => ?_) (fun hc => ?_)
      · replace h := h.1 hc
        refine wc6_4 1 dX3_burns_46 rfl ?_
        refine wp_goto 11 dX3_burns_49 (by decide) ?_
        exact wp_drop [some (vr f), some (vi x1), some (vr (f + 4)), some (vi x3), some (vi (x4 + 1)), none] ⟨rfl, ⟨rfl, ⟨rfl, ⟨rfl, ⟨rfl, trivial⟩⟩⟩⟩⟩ h
      · replace h := h.2 hc
        refine wp_aload dX3_burns_40 rfl ?_
        refine wp_iconst (v := 1) dX3_burns_42 rfl ?_
        refine wp_putz dX3_burns_43 fp3_68_3 (FO.bt hF hi20) (FO.kt hF hi20) rfl (by decide) ?_
        refine wc6_4 1 dX3_burns_46 rfl ?_
        refine wp_goto 11 dX3_burns_49 (by decide) ?_
        exact wp_drop [some (vr f), some (vi x1), some (vr (f + 4)), some (vi x3), some (vi (x4 + 1)), none] ⟨rfl, ⟨rfl, ⟨rfl, ⟨rfl, ⟨rfl, trivial⟩⟩⟩⟩⟩ h
theorem b3_burns_54 {E : eT} {Q : vT → Prop} {V : vT} {tl : Nat} {f : Nat} {x1 x2 : Int32} (hC : CM E tl) (hF : FO E f) (h : (4 ≤ x2 → vp_in x1 96 ∧ (c3_draw E f V (fun r90 V90 => c3_asked E f x1 (V (f + 2) ((x1).toNatClampNeg)) 0 r90 V90 (fun V93 => c5_says E tl 120 V93 (fun r96 V96 => (r96 = 0 → vp_in x1 96 ∧ (vp_in x1 96 ∧ (vp_in x1 96 ∧ ((¬ ((up2 V96 (f + 2) (x1.toNatClampNeg) ((V96 (f + 2) ((x1).toNatClampNeg)) - 1)) (f + 2) ((x1).toNatClampNeg)) = 0 → Q (up2 V96 (f + 2) (x1.toNatClampNeg) ((V96 (f + 2) ((x1).toNatClampNeg)) - 1))) ∧ (((up2 V96 (f + 2) (x1.toNatClampNeg) ((V96 (f + 2) ((x1).toNatClampNeg)) - 1)) (f + 2) ((x1).toNatClampNeg)) = 0 → vp_in x1 96 ∧ (Q (up2 (up2 V96 (f + 2) (x1.toNatClampNeg) ((V96 (f + 2) ((x1).toNatClampNeg)) - 1)) (f + 1) (x1.toNatClampNeg) 2))))))) ∧ (¬ r96 = 0 → vp_in x1 96 ∧ (vp_in x1 96 ∧ ((¬ ((up2 V96 (f + 2) (x1.toNatClampNeg) 0) (f + 2) ((x1).toNatClampNeg)) = 0 → Q (up2 V96 (f + 2) (x1.toNatClampNeg) 0)) ∧ (((up2 V96 (f + 2) (x1.toNatClampNeg) 0) (f + 2) ((x1).toNatClampNeg)) = 0 → vp_in x1 96 ∧ (Q (up2 (up2 V96 (f + 2) (x1.toNatClampNeg) 0) (f + 1) (x1.toNatClampNeg) 2))))))))))) ∧ (x2 < 4 → c3_goesOver E f x1 x2 V (fun V62 => w3_burns E Q 54 [some (vr f), some (vi x1), some (vi (x2 + 1)), none, none, none] [] V62))) : w3_burns E Q 54 [some (vr f), some (vi x1), some (vi x2), none, none, none] [] V := by
  refine wp_iload_n dX3_burns_54 rfl ?_
  refine wp_iconst (v := 4) dX3_burns_55 rfl ?_
  refine wp_icmp_ge 71 dX3_burns_56 (by decide) (fun hc => ?_) (fun hc => ?_)
  · replace h := h.1 hc
    refine wp_aload_n dX3_burns_71 rfl ?_
    refine wp_getrs dX3_burns_72 fk3_3_2 (FO.b0 hF) (FO.k0 hF) rfl (FO.r7 hF) ?_
    refine wp_getrs dX3_burns_75 fk3_96_0 (cb_16 hC) (ck_16 hC) rfl (claw hC) ?_
    refine wp_bipush (v := 120) dX3_burns_78 rfl ?_
    refine wp_aload_n dX3_burns_80 rfl ?_
    refine wp_iload_n dX3_burns_81 rfl ?_
    refine wp_aload_n dX3_burns_82 rfl ?_
    refine wp_getrs dX3_burns_83 fk3_19_2 (FO.b0 hF) (FO.k0 hF) rfl (FO.r1 hF) ?_
    refine wp_iload_n dX3_burns_86 rfl ?_
    refine wp_iald dX3_burns_87 (FO.b2 hF).2 (FO.k2 hF) h.1 ?_
    replace h := h.2
    refine wp_iconst (v := 0) dX3_burns_88 rfl ?_
    refine wp_aload_n dX3_burns_89 rfl ?_
    refine wq_VI0 lk3_112 rfl (FO.b0 hF) (FO.k0 hF) dX3_burns_90 h (rmQ_ok (by decide) (by decide)) ⟨Nat.le_refl _, Nat.le_refl _⟩ (Nat.le_of_ble_eq_true rfl) (fun r90 V90 h => ?_)
    refine wq_VR4 lk3_100 rfl (FO.b0 hF) (FO.k0 hF) dX3_burns_93 h (rmQ_ok (by decide) (by decide)) ⟨Nat.le_refl _, Nat.le_refl _⟩ (Nat.le_of_ble_eq_true rfl) (fun r93 V93 h => ?_)
    obtain ⟨rfl, h⟩ := h
    refine wq_VI2 lk3_128 rfl (TX.b0 (ctx hC)) (TX.k0 (ctx hC)) dX3_burns_96 h (rmQ_ok (by decide) (by decide)) ⟨Nat.le_refl _, Nat.le_refl _⟩ (Nat.le_of_ble_eq_true rfl) (fun r96 V96 h => ?_)
    refine wi6_2 dX3_burns_99 ?_
    refine wp_aload_n dX3_burns_100 rfl ?_
    refine wp_getrs dX3_burns_101 fk3_19_2 (FO.b0 hF) (FO.k0 hF) rfl (FO.r1 hF) ?_
    refine wp_iload_n dX3_burns_104 rfl ?_
    refine wp_iload_n dX3_burns_105 rfl ?_
    refine wp_if_eq 113 dX3_burns_106 (by decide) (fun hc => ?_) (fun hc => ?_)
    · replace h := h.1 hc
      refine wp_aload_n dX3_burns_113 rfl ?_
      refine wp_getrs dX3_burns_114 fk3_19_2 (FO.b0 hF) (FO.k0 hF) rfl (FO.r1 hF) ?_
      refine wp_iload_n dX3_burns_117 rfl ?_
      refine wp_iald dX3_burns_118 (FO.b2 hF).2 (FO.k2 hF) h.1 ?_
      replace h := h.2
      refine wp_iconst (v := 1) dX3_burns_119 rfl ?_
      refine wp_isub dX3_burns_120 ?_
      refine wp_iast dX3_burns_121 (FO.b2 hF) (FO.k2 hF) h.1 ?_
      replace h := h.2
      refine wp_aload_n dX3_burns_122 rfl ?_
      refine wp_getrs dX3_burns_123 fk3_19_2 (FO.b0 hF) (FO.k0 hF) rfl (FO.r1 hF) ?_
      refine wp_iload_n dX3_burns_126 rfl ?_
      refine wp_iald dX3_burns_127 (FO.b2 hF).2 (FO.k2 hF) h.1 ?_
      replace h := h.2
      refine wp_if_ne 138 dX3_burns_128 (by decide) (fun hc => ?_) (fun hc => ?_)
      · replace h := h.1 hc
        exact wp_vret dX3_burns_138 ⟨rfl, rfl, rfl, rfl, h⟩
      · replace h := h.2 hc
        refine wp_aload_n dX3_burns_131 rfl ?_
        refine wp_getrs dX3_burns_132 fk3_15_2 (FO.b0 hF) (FO.k0 hF) rfl (FO.r0 hF) ?_
        refine wp_iload_n dX3_burns_135 rfl ?_
        refine wp_iconst (v := 2) dX3_burns_136 rfl ?_
        refine wp_iast dX3_burns_137 (FO.b1 hF) (FO.k1 hF) h.1 ?_
        replace h := h.2
        exact wp_vret dX3_burns_138 ⟨rfl, rfl, rfl, rfl, h⟩
    · replace h := h.2 hc
      refine wp_iconst (v := 0) dX3_burns_109 rfl ?_
      refine wp_goto 121 dX3_burns_110 (by decide) ?_
      refine wp_iast dX3_burns_121 (FO.b2 hF) (FO.k2 hF) h.1 ?_
      replace h := h.2
      refine wp_aload_n dX3_burns_122 rfl ?_
      refine wp_getrs dX3_burns_123 fk3_19_2 (FO.b0 hF) (FO.k0 hF) rfl (FO.r1 hF) ?_
      refine wp_iload_n dX3_burns_126 rfl ?_
      refine wp_iald dX3_burns_127 (FO.b2 hF).2 (FO.k2 hF) h.1 ?_
      replace h := h.2
      refine wp_if_ne 138 dX3_burns_128 (by decide) (fun hc => ?_) (fun hc => ?_)
      · replace h := h.1 hc
        exact wp_vret dX3_burns_138 ⟨rfl, rfl, rfl, rfl, h⟩
      · replace h := h.2 hc
        refine wp_aload_n dX3_burns_131 rfl ?_
        refine wp_getrs dX3_burns_132 fk3_15_2 (FO.b0 hF) (FO.k0 hF) rfl (FO.r0 hF) ?_
        refine wp_iload_n dX3_burns_135 rfl ?_
        refine wp_iconst (v := 2) dX3_burns_136 rfl ?_
        refine wp_iast dX3_burns_137 (FO.b1 hF) (FO.k1 hF) h.1 ?_
        replace h := h.2
        exact wp_vret dX3_burns_138 ⟨rfl, rfl, rfl, rfl, h⟩
  · replace h := h.2 (Int32.not_le.mp hc)
    refine wp_aload_n dX3_burns_59 rfl ?_
    refine wp_iload_n dX3_burns_60 rfl ?_
    refine wp_iload_n dX3_burns_61 rfl ?_
    refine wq_VV2 lk3_125 rfl (FO.b0 hF) (FO.k0 hF) dX3_burns_62 h (rmQ_ok (by decide) (by decide)) ⟨Nat.le_refl _, Nat.le_refl _⟩ (Nat.le_of_ble_eq_true rfl) (fun V62 h => ?_)
    refine wc6_2 1 dX3_burns_65 rfl ?_
    refine wp_goto 54 dX3_burns_68 (by decide) ?_
    exact h
theorem n3_burns {E : eT} {Q : vT → Prop} {V : vT} {f : Nat} {x1 : Int32} (h : w3_burns E Q 0 [some (vr f), some (vi x1), none, none, none, none] [] V) : c3_burns E f x1 V Q := MOk.enter [some (vr f), some (vi x1), none, none, none, none] pn_X3 rfl rfl (Nat.le_of_ble_eq_true rfl) rfl h
theorem b3_goesOver_0 {E : eT} {Q : vT → Prop} {V : vT} {tl : Nat} {f : Nat} {x1 x2 : Int32} (hC : CM E tl) (hF : FO E f) (h : c0_next E x1 x2 V (fun r2 V2 => (r2 = (-1) → Q V2) ∧ (¬ r2 = (-1) → vp_in r2 96 ∧ ((¬ (V2 17 ((r2).toNatClampNeg)) = 1 → Q V2) ∧ ((V2 17 ((r2).toNatClampNeg)) = 1 → vp_in r2 96 ∧ (((V2 (f + 1) ((r2).toNatClampNeg)) = 0 → vp_in x1 96 ∧ (c3_asked E f r2 (V2 (f + 2) ((x1).toNatClampNeg)) x2 0 V2 (fun V53 => c5_tells E tl 115 V53 (fun r56 V56 => c0_held E r56 10 V56 (fun r61 V61 => c3_draw E f V61 (fun r67 V67 => (r67 < r61 → c3_asked E f r2 0 0 0 V67 (fun V91 => c5_tells E tl 98 V91 (fun r94 V94 => c0_held E r94 9 V94 (fun r99 V99 => c3_lights E f r2 (mxI 1 r99) V99 (fun V111 => Q V111))))) ∧ (r61 ≤ r67 → Q V67))))))) ∧ (¬ (V2 (f + 1) ((r2).toNatClampNeg)) = 0 → Q V2))))))) : w3_goesOver E Q 0 [some (vr f), some (vi x1), some (vi x2), none, none, none] [] V := by
  refine wp_iload_n dX3_goesOver_0 rfl ?_
  refine wp_iload_n dX3_goesOver_1 rfl ?_
  refine wq_NI2 lk3_50 dX3_goesOver_2 h (rmQ_ok (by decide) (by decide)) ⟨Nat.le_refl _, Nat.le_refl _⟩ (Nat.le_of_ble_eq_true rfl) (fun r2 V2 h => ?_)
  refine wi6_3 dX3_goesOver_5 ?_
  refine wp_iload_n dX3_goesOver_6 rfl ?_
  refine wp_iconst (v := (-1)) dX3_goesOver_7 rfl ?_
  refine wp_icmp_eq 33 dX3_goesOver_8 (by decide) (fun hc => ?_) (fun hc => ?_)
  · replace h := h.1 hc
    exact wp_vret dX3_goesOver_33 ⟨rfl, rfl, rfl, rfl, h⟩
  · replace h := h.2 hc
    refine wp_aload_n dX3_goesOver_11 rfl ?_
    refine wp_getrs dX3_goesOver_12 fk3_3_2 (FO.b0 hF) (FO.k0 hF) rfl (FO.r7 hF) ?_
    refine wp_getrs dX3_goesOver_15 fk3_33_0 (cb_16 hC) (ck_16 hC) rfl (cr_0 hC) ?_
    refine wp_iload_n dX3_goesOver_18 rfl ?_
    refine wp_iald dX3_goesOver_19 (cb_17 hC).2 (ck_17 hC) h.1 ?_
    replace h := h.2
    refine wp_iconst (v := 1) dX3_goesOver_20 rfl ?_
    refine wp_icmp_ne 33 dX3_goesOver_21 (by decide) (fun hc => ?_) (fun hc => ?_)
    · replace h := h.1 hc
      exact wp_vret dX3_goesOver_33 ⟨rfl, rfl, rfl, rfl, h⟩
    · replace h := h.2 hc
      refine wp_aload_n dX3_goesOver_24 rfl ?_
      refine wp_getrs dX3_goesOver_25 fk3_15_2 (FO.b0 hF) (FO.k0 hF) rfl (FO.r0 hF) ?_
      refine wp_iload_n dX3_goesOver_28 rfl ?_
      refine wp_iald dX3_goesOver_29 (FO.b1 hF).2 (FO.k1 hF) h.1 ?_
      replace h := h.2
      refine wp_if_eq 34 dX3_goesOver_30 (by decide) (fun hc => ?_) (fun hc => ?_)
      · replace h := h.1 hc
        refine wp_aload_n dX3_goesOver_34 rfl ?_
        refine wp_getrs dX3_goesOver_35 fk3_3_2 (FO.b0 hF) (FO.k0 hF) rfl (FO.r7 hF) ?_
        refine wp_getrs dX3_goesOver_38 fk3_96_0 (cb_16 hC) (ck_16 hC) rfl (claw hC) ?_
        refine wp_bipush (v := 115) dX3_goesOver_41 rfl ?_
        refine wp_aload_n dX3_goesOver_43 rfl ?_
        refine wp_iload_n dX3_goesOver_44 rfl ?_
        refine wp_aload_n dX3_goesOver_45 rfl ?_
        refine wp_getrs dX3_goesOver_46 fk3_19_2 (FO.b0 hF) (FO.k0 hF) rfl (FO.r1 hF) ?_
        refine wp_iload_n dX3_goesOver_49 rfl ?_
        refine wp_iald dX3_goesOver_50 (FO.b2 hF).2 (FO.k2 hF) h.1 ?_
        replace h := h.2
        refine wp_iload_n dX3_goesOver_51 rfl ?_
        refine wp_iconst (v := 0) dX3_goesOver_52 rfl ?_
        refine wq_VR4 lk3_100 rfl (FO.b0 hF) (FO.k0 hF) dX3_goesOver_53 h (rmQ_ok (by decide) (by decide)) ⟨Nat.le_refl _, Nat.le_refl _⟩ (Nat.le_of_ble_eq_true rfl) (fun r53 V53 h => ?_)
        obtain ⟨rfl, h⟩ := h
        refine wq_VI2 lk3_103 rfl (TX.b0 (ctx hC)) (TX.k0 (ctx hC)) dX3_goesOver_56 h (rmQ_ok (by decide) (by decide)) ⟨Nat.le_refl _, Nat.le_refl _⟩ (Nat.le_of_ble_eq_true rfl) (fun r56 V56 h => ?_)
        refine wp_bipush (v := 10) dX3_goesOver_59 rfl ?_
        refine wq_NI2 lk3_109 dX3_goesOver_61 h (rmQ_ok (by decide) (by decide)) ⟨Nat.le_refl _, Nat.le_refl _⟩ (Nat.le_of_ble_eq_true rfl) (fun r61 V61 h => ?_)
        refine wi6_4 dX3_goesOver_64 ?_
        refine wp_aload_n dX3_goesOver_66 rfl ?_
        refine wq_VI0 lk3_112 rfl (FO.b0 hF) (FO.k0 hF) dX3_goesOver_67 h (rmQ_ok (by decide) (by decide)) ⟨Nat.le_refl _, Nat.le_refl _⟩ (Nat.le_of_ble_eq_true rfl) (fun r67 V67 h => ?_)
        refine wp_iload dX3_goesOver_70 rfl ?_
        refine wp_icmp_lt 76 dX3_goesOver_72 (by decide) (fun hc => ?_) (fun hc => ?_)
        · replace h := h.1 hc
          refine wp_iconst (v := 1) dX3_goesOver_76 rfl ?_
          refine wp_aload_n dX3_goesOver_77 rfl ?_
          refine wp_getrs dX3_goesOver_78 fk3_3_2 (FO.b0 hF) (FO.k0 hF) rfl (FO.r7 hF) ?_
          refine wp_getrs dX3_goesOver_81 fk3_96_0 (cb_16 hC) (ck_16 hC) rfl (claw hC) ?_
          refine wp_bipush (v := 98) dX3_goesOver_84 rfl ?_
          refine wp_aload_n dX3_goesOver_86 rfl ?_
          refine wp_iload_n dX3_goesOver_87 rfl ?_
          refine wp_iconst (v := 0) dX3_goesOver_88 rfl ?_
          refine wp_iconst (v := 0) dX3_goesOver_89 rfl ?_
          refine wp_iconst (v := 0) dX3_goesOver_90 rfl ?_
          refine wq_VR4 lk3_100 rfl (FO.b0 hF) (FO.k0 hF) dX3_goesOver_91 h (rmQ_ok (by decide) (by decide)) ⟨Nat.le_refl _, Nat.le_refl _⟩ (Nat.le_of_ble_eq_true rfl) (fun r91 V91 h => ?_)
          obtain ⟨rfl, h⟩ := h
          refine wq_VI2 lk3_103 rfl (TX.b0 (ctx hC)) (TX.k0 (ctx hC)) dX3_goesOver_94 h (rmQ_ok (by decide) (by decide)) ⟨Nat.le_refl _, Nat.le_refl _⟩ (Nat.le_of_ble_eq_true rfl) (fun r94 V94 h => ?_)
          refine wp_bipush (v := 9) dX3_goesOver_97 rfl ?_
          refine wq_NI2 lk3_109 dX3_goesOver_99 h (rmQ_ok (by decide) (by decide)) ⟨Nat.le_refl _, Nat.le_refl _⟩ (Nat.le_of_ble_eq_true rfl) (fun r99 V99 h => ?_)
          refine wp_mmax dX3_goesOver_102 q969 q451 q124 q452 (by decide) (Nat.le_of_ble_eq_true rfl) (Nat.le_refl _) (Nat.le_refl _) ?_
          refine wi6_5 dX3_goesOver_105 ?_
          refine wp_aload_n dX3_goesOver_107 rfl ?_
          refine wp_iload_n dX3_goesOver_108 rfl ?_
          refine wp_iload dX3_goesOver_109 rfl ?_
          refine wq_VV2 lk3_121 rfl (FO.b0 hF) (FO.k0 hF) dX3_goesOver_111 h (rmQ_ok (by decide) (by decide)) ⟨Nat.le_refl _, Nat.le_refl _⟩ (Nat.le_of_ble_eq_true rfl) (fun V111 h => ?_)
          exact wp_vret dX3_goesOver_114 ⟨rfl, rfl, rfl, rfl, h⟩
        · replace h := h.2 (Int32.not_lt.mp hc)
          exact wp_vret dX3_goesOver_75 ⟨rfl, rfl, rfl, rfl, h⟩
      · replace h := h.2 hc
        exact wp_vret dX3_goesOver_33 ⟨rfl, rfl, rfl, rfl, h⟩
theorem n3_goesOver {E : eT} {Q : vT → Prop} {V : vT} {f : Nat} {x1 x2 : Int32} (h : w3_goesOver E Q 0 [some (vr f), some (vi x1), some (vi x2), none, none, none] [] V) : c3_goesOver E f x1 x2 V Q := MOk.enter [some (vr f), some (vi x1), some (vi x2), none, none, none] pn_X3 rfl rfl (Nat.le_of_ble_eq_true rfl) rfl h
theorem b3_asked_0 {E : eT} {Q : vT → Prop} {V : vT} {tl : Nat} {f : Nat} {x1 x2 x3 x4 : Int32} (hC : CM E tl) (hF : FO E f) (h : c3_around E f x1 V (fun r11 V11 => c3_valueAt E f x1 V11 (fun r16 V16 => c3_sumsAt E f x1 V16 (fun r21 V21 => c2_of E x1 x2 r11 r16 r21 V21 (fun V24 => c2_with E x3 (V24 f 4) (V24 f 5) x4 V24 (fun V38 => Q V38)))))) : w3_asked E Q 0 [some (vr f), some (vi x1), some (vi x2), some (vi x3), some (vi x4)] [] V := by
  refine wp_aload_n dX3_asked_0 rfl ?_
  refine wp_getrs dX3_asked_1 fk3_3_2 (FO.b0 hF) (FO.k0 hF) rfl (FO.r7 hF) ?_
  refine wp_getrs dX3_asked_4 fk3_72_0 (cb_16 hC) (ck_16 hC) rfl (cr_1 hC) ?_
  refine wp_iload_n dX3_asked_7 rfl ?_
  refine wp_iload_n dX3_asked_8 rfl ?_
  refine wp_aload_n dX3_asked_9 rfl ?_
  refine wp_iload_n dX3_asked_10 rfl ?_
  refine wq_VI1 lk3_76 rfl (FO.b0 hF) (FO.k0 hF) dX3_asked_11 h (rmQ_ok (by decide) (by decide)) ⟨Nat.le_refl _, Nat.le_refl _⟩ (Nat.le_of_ble_eq_true rfl) (fun r11 V11 h => ?_)
  refine wp_aload_n dX3_asked_14 rfl ?_
  refine wp_iload_n dX3_asked_15 rfl ?_
  refine wq_VI1 lk3_80 rfl (FO.b0 hF) (FO.k0 hF) dX3_asked_16 h (rmQ_ok (by decide) (by decide)) ⟨Nat.le_refl _, Nat.le_refl _⟩ (Nat.le_of_ble_eq_true rfl) (fun r16 V16 h => ?_)
  refine wp_aload_n dX3_asked_19 rfl ?_
  refine wp_iload_n dX3_asked_20 rfl ?_
  refine wq_VI1 lk3_83 rfl (FO.b0 hF) (FO.k0 hF) dX3_asked_21 h (rmQ_ok (by decide) (by decide)) ⟨Nat.le_refl _, Nat.le_refl _⟩ (Nat.le_of_ble_eq_true rfl) (fun r21 V21 h => ?_)
  refine wq_VR5 lk3_86 rfl (cb_18 hC) (ck_18 hC) dX3_asked_24 h (rmQ_ok (by decide) (by decide)) ⟨Nat.le_refl _, Nat.le_refl _⟩ (Nat.le_of_ble_eq_true rfl) (fun r24 V24 h => ?_)
  obtain ⟨rfl, h⟩ := h
  refine wp_iload_n dX3_asked_27 rfl ?_
  refine wp_aload_n dX3_asked_28 rfl ?_
  refine wp_geti dX3_asked_29 fk3_40_2 (FO.b0 hF) (FO.k0 hF) rfl ?_
  refine wp_aload_n dX3_asked_32 rfl ?_
  refine wp_geti dX3_asked_33 fk3_44_2 (FO.b0 hF) (FO.k0 hF) rfl ?_
  refine wp_iload dX3_asked_36 rfl ?_
  refine wq_VR4 lk3_92 rfl (cb_18 hC) (ck_18 hC) dX3_asked_38 h (rmQ_ok (by decide) (by decide)) ⟨Nat.le_refl _, Nat.le_refl _⟩ (Nat.le_of_ble_eq_true rfl) (fun r38 V38 h => ?_)
  obtain ⟨rfl, h⟩ := h
  exact wp_aret dX3_asked_41 (Or.inl ⟨_, rfl⟩) ⟨_, rfl, rfl, rfl, rfl, rfl, h⟩
theorem n3_asked {E : eT} {Q : vT → Prop} {V : vT} {f : Nat} {x1 x2 x3 x4 : Int32} (h : w3_asked E Q 0 [some (vr f), some (vi x1), some (vi x2), some (vi x3), some (vi x4)] [] V) : c3_asked E f x1 x2 x3 x4 V Q := MOk.enter [some (vr f), some (vi x1), some (vi x2), some (vi x3), some (vi x4)] pn_X3 rfl rfl (Nat.le_of_ble_eq_true rfl) rfl h
theorem b3_around_0 {E : eT} {Q : Int32 → vT → Prop} {V : vT} {tl : Nat} {f : Nat} {x1 : Int32} (hC : CM E tl) (hF : FO E f) (h : w3_around E Q 4 [some (vr f), some (vi x1), some (vi 0), some (vi 0)] [] V) : w3_around E Q 0 [some (vr f), some (vi x1), none, none] [] V := by
  refine wp_iconst (v := 0) dX3_around_0 rfl ?_
  refine wi4_2 dX3_around_1 ?_
  refine wp_iconst (v := 0) dX3_around_2 rfl ?_
  refine wi4_3 dX3_around_3 ?_
  exact h
theorem b3_around_4 {E : eT} {Q : Int32 → vT → Prop} {V : vT} {tl : Nat} {f : Nat} {x1 x2 x3 : Int32} (hC : CM E tl) (hF : FO E f) (h : (4 ≤ x3 → Q x2 V) ∧ (x3 < 4 → c0_next E x1 x3 V (fun r12 V12 => (r12 = (-1) → w3_around E Q 4 [some (vr f), some (vi x1), some (vi (x2 + 0)), some (vi (x3 + 1))] [] V12) ∧ (¬ r12 = (-1) → c0_next E x1 x3 V12 (fun r25 V25 => vp_in r25 96 ∧ ((¬ (V25 (f + 1) ((r25).toNatClampNeg)) = 1 → w3_around E Q 4 [some (vr f), some (vi x1), some (vi (x2 + 0)), some (vi (x3 + 1))] [] V25) ∧ ((V25 (f + 1) ((r25).toNatClampNeg)) = 1 → w3_around E Q 4 [some (vr f), some (vi x1), some (vi (x2 + 1)), some (vi (x3 + 1))] [] V25))))))) : w3_around E Q 4 [some (vr f), some (vi x1), some (vi x2), some (vi x3)] [] V := by
  refine wp_iload_n dX3_around_4 rfl ?_
  refine wp_iconst (v := 4) dX3_around_5 rfl ?_
  refine wp_icmp_ge 46 dX3_around_6 (by decide) (fun hc => ?_) (fun hc => ?_)
  · replace h := h.1 hc
    refine wp_iload_n dX3_around_46 rfl ?_
    exact wp_iret dX3_around_47 rfl ⟨_, rfl, rfl, rfl, rfl, h⟩
  · replace h := h.2 (Int32.not_le.mp hc)
    refine wp_iload_n dX3_around_9 rfl ?_
    refine wp_iload_n dX3_around_10 rfl ?_
    refine wp_iload_n dX3_around_11 rfl ?_
    refine wq_NI2 lk3_50 dX3_around_12 h (rmQ_ok (by decide) (by decide)) ⟨Nat.le_refl _, Nat.le_refl _⟩ (Nat.le_of_ble_eq_true rfl) (fun r12 V12 h => ?_)
    refine wp_iconst (v := (-1)) dX3_around_15 rfl ?_
    refine wp_icmp_eq 37 dX3_around_16 (by decide) (fun hc => ?_) (fun hc => ?_)
    · replace h := h.1 hc
      refine wp_iconst (v := 0) dX3_around_37 rfl ?_
      refine wp_iadd dX3_around_38 ?_
      refine wi4_2 dX3_around_39 ?_
      refine wc4_3 1 dX3_around_40 rfl ?_
      refine wp_goto 4 dX3_around_43 (by decide) ?_
      exact h
    · replace h := h.2 hc
      refine wp_aload_n dX3_around_19 rfl ?_
      refine wp_getrs dX3_around_20 fk3_15_2 (FO.b0 hF) (FO.k0 hF) rfl (FO.r0 hF) ?_
      refine wp_iload_n dX3_around_23 rfl ?_
      refine wp_iload_n dX3_around_24 rfl ?_
      refine wq_NI2 lk3_50 dX3_around_25 h (rmQ_ok (by decide) (by decide)) ⟨Nat.le_refl _, Nat.le_refl _⟩ (Nat.le_of_ble_eq_true rfl) (fun r25 V25 h => ?_)
      refine wp_iald dX3_around_28 (FO.b1 hF).2 (FO.k1 hF) h.1 ?_
      replace h := h.2
      refine wp_iconst (v := 1) dX3_around_29 rfl ?_
      refine wp_icmp_ne 37 dX3_around_30 (by decide) (fun hc => ?_) (fun hc => ?_)
      · replace h := h.1 hc
        refine wp_iconst (v := 0) dX3_around_37 rfl ?_
        refine wp_iadd dX3_around_38 ?_
        refine wi4_2 dX3_around_39 ?_
        refine wc4_3 1 dX3_around_40 rfl ?_
        refine wp_goto 4 dX3_around_43 (by decide) ?_
        exact h
      · replace h := h.2 hc
        refine wp_iconst (v := 1) dX3_around_33 rfl ?_
        refine wp_goto 38 dX3_around_34 (by decide) ?_
        refine wp_iadd dX3_around_38 ?_
        refine wi4_2 dX3_around_39 ?_
        refine wc4_3 1 dX3_around_40 rfl ?_
        refine wp_goto 4 dX3_around_43 (by decide) ?_
        exact h
theorem n3_around {E : eT} {Q : Int32 → vT → Prop} {V : vT} {f : Nat} {x1 : Int32} (h : w3_around E Q 0 [some (vr f), some (vi x1), none, none] [] V) : c3_around E f x1 V Q := MOk.enter [some (vr f), some (vi x1), none, none] pn_X3 rfl rfl (Nat.le_of_ble_eq_true rfl) rfl h
theorem b3_valueAt_0 {E : eT} {Q : Int32 → vT → Prop} {V : vT} {tl : Nat} {f : Nat} {x1 : Int32} (hC : CM E tl) (hF : FO E f) (h : w3_valueAt E Q 14 [none, some (vi x1), some (vi 0), some (vr (f + 4)), some (vi 24), some (vi 0), none] [] V) : w3_valueAt E Q 0 [some (vr f), some (vi x1), none, none, none, none, none] [] V := by
  refine wp_iconst (v := 0) dX3_valueAt_0 rfl ?_
  refine wi7_2 dX3_valueAt_1 ?_
  refine wp_aload_n dX3_valueAt_2 rfl ?_
  refine wp_getrs dX3_valueAt_3 fk3_28_2 (FO.b0 hF) (FO.k0 hF) rfl (FO.r3 hF) ?_
  refine wa7_3 dX3_valueAt_6 ?_
  refine wp_aload_n dX3_valueAt_7 rfl ?_
  refine wp_alen dX3_valueAt_8 (FO.b4 hF).2 (FO.k4 hF) ?_
  refine wi7_4 dX3_valueAt_9 ?_
  refine wp_iconst (v := 0) dX3_valueAt_11 rfl ?_
  refine wi7_5 dX3_valueAt_12 ?_
  exact wp_drop [none, some (vi x1), some (vi 0), some (vr (f + 4)), some (vi 24), some (vi 0), none] ⟨rfl, ⟨rfl, ⟨rfl, ⟨rfl, ⟨rfl, trivial⟩⟩⟩⟩⟩ h
theorem b3_valueAt_14 {E : eT} {Q : Int32 → vT → Prop} {V : vT} {tl : Nat} {f : Nat} {x1 x2 x4 x5 : Int32} (hC : CM E tl) (hF : FO E f) (h : (x4 ≤ x5 → Q x2 V) ∧ (x5 < x4 → vp_in x5 24 ∧ (c4_isAt E (f + 5 + ((x5).toNatClampNeg)) x1 V (fun r31 V31 => (r31 = 0 → w3_valueAt E Q 14 [none, some (vi x1), some (vi (x2 + 0)), some (vr (f + 4)), some (vi x4), some (vi (x5 + 1)), none] [] V31) ∧ (¬ r31 = 0 → (¬ (V31 (f + 5 + ((x5).toNatClampNeg)) 2) = 0 → w3_valueAt E Q 14 [none, some (vi x1), some (vi (x2 + 0)), some (vr (f + 4)), some (vi x4), some (vi (x5 + 1)), none] [] V31) ∧ ((V31 (f + 5 + ((x5).toNatClampNeg)) 2) = 0 → w3_valueAt E Q 14 [none, some (vi x1), some (vi (x2 + (V31 (f + 5 + ((x5).toNatClampNeg)) 1))), some (vr (f + 4)), some (vi x4), some (vi (x5 + 1)), none] [] V31)))))) : w3_valueAt E Q 14 [none, some (vi x1), some (vi x2), some (vr (f + 4)), some (vi x4), some (vi x5), none] [] V := by
  refine wp_iload dX3_valueAt_14 rfl ?_
  refine wp_iload dX3_valueAt_16 rfl ?_
  refine wp_icmp_ge 62 dX3_valueAt_18 (by decide) (fun hc => ?_) (fun hc => ?_)
  · replace h := h.1 hc
    refine wp_iload_n dX3_valueAt_62 rfl ?_
    exact wp_iret dX3_valueAt_63 rfl ⟨_, rfl, rfl, rfl, rfl, h⟩
  · replace h := h.2 (Int32.not_le.mp hc)
    refine wp_aload_n dX3_valueAt_21 rfl ?_
    refine wp_iload dX3_valueAt_22 rfl ?_
    have hi24 := h.1.nat.2
    refine wp_aalds dX3_valueAt_24 (FO.b4 hF).2 (FO.k4 hF) (by decide) h.1 (FO.rt hF hi24) ?_
    replace h := h.2
    refine wa7_6 dX3_valueAt_25 ?_
    refine wp_iload_n dX3_valueAt_27 rfl ?_
    refine wp_aload dX3_valueAt_28 rfl ?_
    refine wp_iload_n dX3_valueAt_30 rfl ?_
    refine wq_VI1 lk3_54 rfl (FO.bt hF hi24) (FO.kt hF hi24) dX3_valueAt_31 h (rmQ_ok (by decide) (by decide)) ⟨Nat.le_refl _, Nat.le_refl _⟩ (Nat.le_of_ble_eq_true rfl) (fun r31 V31 h => ?_)
    refine wp_if_eq 53 dX3_valueAt_34 (by decide) (fun hc => ?_) (fun hc => ?_)
    · replace h := h.1 hc
      refine wp_iconst (v := 0) dX3_valueAt_53 rfl ?_
      refine wp_iadd dX3_valueAt_54 ?_
      refine wi7_2 dX3_valueAt_55 ?_
      refine wc7_5 1 dX3_valueAt_56 rfl ?_
      refine wp_goto 14 dX3_valueAt_59 (by decide) ?_
      exact wp_drop [none, some (vi x1), some (vi (x2 + 0)), some (vr (f + 4)), some (vi x4), some (vi (x5 + 1)), none] ⟨rfl, ⟨rfl, ⟨rfl, ⟨rfl, ⟨rfl, trivial⟩⟩⟩⟩⟩ h
    · replace h := h.2 hc
      refine wp_aload dX3_valueAt_37 rfl ?_
      refine wp_geti dX3_valueAt_39 fk3_58_3 (FO.bt hF hi24) (FO.kt hF hi24) rfl ?_
      refine wp_if_ne 53 dX3_valueAt_42 (by decide) (fun hc => ?_) (fun hc => ?_)
      · replace h := h.1 hc
        refine wp_iconst (v := 0) dX3_valueAt_53 rfl ?_
        refine wp_iadd dX3_valueAt_54 ?_
        refine wi7_2 dX3_valueAt_55 ?_
        refine wc7_5 1 dX3_valueAt_56 rfl ?_
        refine wp_goto 14 dX3_valueAt_59 (by decide) ?_
        exact wp_drop [none, some (vi x1), some (vi (x2 + 0)), some (vr (f + 4)), some (vi x4), some (vi (x5 + 1)), none] ⟨rfl, ⟨rfl, ⟨rfl, ⟨rfl, ⟨rfl, trivial⟩⟩⟩⟩⟩ h
      · replace h := h.2 hc
        refine wp_aload dX3_valueAt_45 rfl ?_
        refine wp_geti dX3_valueAt_47 fk3_61_3 (FO.bt hF hi24) (FO.kt hF hi24) rfl ?_
        refine wp_goto 54 dX3_valueAt_50 (by decide) ?_
        refine wp_iadd dX3_valueAt_54 ?_
        refine wi7_2 dX3_valueAt_55 ?_
        refine wc7_5 1 dX3_valueAt_56 rfl ?_
        refine wp_goto 14 dX3_valueAt_59 (by decide) ?_
        exact wp_drop [none, some (vi x1), some (vi (x2 + (V31 (f + 5 + ((x5).toNatClampNeg)) 1))), some (vr (f + 4)), some (vi x4), some (vi (x5 + 1)), none] ⟨rfl, ⟨rfl, ⟨rfl, ⟨rfl, ⟨rfl, trivial⟩⟩⟩⟩⟩ h
theorem n3_valueAt {E : eT} {Q : Int32 → vT → Prop} {V : vT} {f : Nat} {x1 : Int32} (h : w3_valueAt E Q 0 [some (vr f), some (vi x1), none, none, none, none, none] [] V) : c3_valueAt E f x1 V Q := MOk.enter [some (vr f), some (vi x1), none, none, none, none, none] pn_X3 rfl rfl (Nat.le_of_ble_eq_true rfl) rfl h
theorem b3_sumsAt_0 {E : eT} {Q : Int32 → vT → Prop} {V : vT} {tl : Nat} {f : Nat} {x1 : Int32} (hC : CM E tl) (hF : FO E f) (h : w3_sumsAt E Q 14 [none, some (vi x1), some (vi 0), some (vr (f + 4)), some (vi 24), some (vi 0), none] [] V) : w3_sumsAt E Q 0 [some (vr f), some (vi x1), none, none, none, none, none] [] V := by
  refine wp_iconst (v := 0) dX3_sumsAt_0 rfl ?_
  refine wi7_2 dX3_sumsAt_1 ?_
  refine wp_aload_n dX3_sumsAt_2 rfl ?_
  refine wp_getrs dX3_sumsAt_3 fk3_28_2 (FO.b0 hF) (FO.k0 hF) rfl (FO.r3 hF) ?_
  refine wa7_3 dX3_sumsAt_6 ?_
  refine wp_aload_n dX3_sumsAt_7 rfl ?_
  refine wp_alen dX3_sumsAt_8 (FO.b4 hF).2 (FO.k4 hF) ?_
  refine wi7_4 dX3_sumsAt_9 ?_
  refine wp_iconst (v := 0) dX3_sumsAt_11 rfl ?_
  refine wi7_5 dX3_sumsAt_12 ?_
  exact wp_drop [none, some (vi x1), some (vi 0), some (vr (f + 4)), some (vi 24), some (vi 0), none] ⟨rfl, ⟨rfl, ⟨rfl, ⟨rfl, ⟨rfl, trivial⟩⟩⟩⟩⟩ h
theorem b3_sumsAt_14 {E : eT} {Q : Int32 → vT → Prop} {V : vT} {tl : Nat} {f : Nat} {x1 x2 x4 x5 : Int32} (hC : CM E tl) (hF : FO E f) (h : (x4 ≤ x5 → Q x2 V) ∧ (x5 < x4 → vp_in x5 24 ∧ (c4_isAt E (f + 5 + ((x5).toNatClampNeg)) x1 V (fun r31 V31 => (r31 = 0 → w3_sumsAt E Q 14 [none, some (vi x1), some (vi (x2 + 0)), some (vr (f + 4)), some (vi x4), some (vi (x5 + 1)), none] [] V31) ∧ (¬ r31 = 0 → w3_sumsAt E Q 14 [none, some (vi x1), some (vi (x2 + (V31 (f + 5 + ((x5).toNatClampNeg)) 2))), some (vr (f + 4)), some (vi x4), some (vi (x5 + 1)), none] [] V31))))) : w3_sumsAt E Q 14 [none, some (vi x1), some (vi x2), some (vr (f + 4)), some (vi x4), some (vi x5), none] [] V := by
  refine wp_iload dX3_sumsAt_14 rfl ?_
  refine wp_iload dX3_sumsAt_16 rfl ?_
  refine wp_icmp_ge 54 dX3_sumsAt_18 (by decide) (fun hc => ?_) (fun hc => ?_)
  · replace h := h.1 hc
    refine wp_iload_n dX3_sumsAt_54 rfl ?_
    exact wp_iret dX3_sumsAt_55 rfl ⟨_, rfl, rfl, rfl, rfl, h⟩
  · replace h := h.2 (Int32.not_le.mp hc)
    refine wp_aload_n dX3_sumsAt_21 rfl ?_
    refine wp_iload dX3_sumsAt_22 rfl ?_
    have hi24 := h.1.nat.2
    refine wp_aalds dX3_sumsAt_24 (FO.b4 hF).2 (FO.k4 hF) (by decide) h.1 (FO.rt hF hi24) ?_
    replace h := h.2
    refine wa7_6 dX3_sumsAt_25 ?_
    refine wp_iload_n dX3_sumsAt_27 rfl ?_
    refine wp_aload dX3_sumsAt_28 rfl ?_
    refine wp_iload_n dX3_sumsAt_30 rfl ?_
    refine wq_VI1 lk3_54 rfl (FO.bt hF hi24) (FO.kt hF hi24) dX3_sumsAt_31 h (rmQ_ok (by decide) (by decide)) ⟨Nat.le_refl _, Nat.le_refl _⟩ (Nat.le_of_ble_eq_true rfl) (fun r31 V31 h => ?_)
    refine wp_if_eq 45 dX3_sumsAt_34 (by decide) (fun hc => ?_) (fun hc => ?_)
    · replace h := h.1 hc
      refine wp_iconst (v := 0) dX3_sumsAt_45 rfl ?_
      refine wp_iadd dX3_sumsAt_46 ?_
      refine wi7_2 dX3_sumsAt_47 ?_
      refine wc7_5 1 dX3_sumsAt_48 rfl ?_
      refine wp_goto 14 dX3_sumsAt_51 (by decide) ?_
      exact wp_drop [none, some (vi x1), some (vi (x2 + 0)), some (vr (f + 4)), some (vi x4), some (vi (x5 + 1)), none] ⟨rfl, ⟨rfl, ⟨rfl, ⟨rfl, ⟨rfl, trivial⟩⟩⟩⟩⟩ h
    · replace h := h.2 hc
      refine wp_aload dX3_sumsAt_37 rfl ?_
      refine wp_geti dX3_sumsAt_39 fk3_58_3 (FO.bt hF hi24) (FO.kt hF hi24) rfl ?_
      refine wp_goto 46 dX3_sumsAt_42 (by decide) ?_
      refine wp_iadd dX3_sumsAt_46 ?_
      refine wi7_2 dX3_sumsAt_47 ?_
      refine wc7_5 1 dX3_sumsAt_48 rfl ?_
      refine wp_goto 14 dX3_sumsAt_51 (by decide) ?_
      exact wp_drop [none, some (vi x1), some (vi (x2 + (V31 (f + 5 + ((x5).toNatClampNeg)) 2))), some (vr (f + 4)), some (vi x4), some (vi (x5 + 1)), none] ⟨rfl, ⟨rfl, ⟨rfl, ⟨rfl, ⟨rfl, trivial⟩⟩⟩⟩⟩ h
theorem n3_sumsAt {E : eT} {Q : Int32 → vT → Prop} {V : vT} {f : Nat} {x1 : Int32} (h : w3_sumsAt E Q 0 [some (vr f), some (vi x1), none, none, none, none, none] [] V) : c3_sumsAt E f x1 V Q := MOk.enter [some (vr f), some (vi x1), none, none, none, none, none] pn_X3 rfl rfl (Nat.le_of_ble_eq_true rfl) rfl h
theorem b3_draw_0 {E : eT} {Q : Int32 → vT → Prop} {V : vT} {tl : Nat} {f : Nat} (hC : CM E tl) (hF : FO E f) (h : Q (rmd ((up2 V f 6 (rmd ((25173 * (V f 6)) + 13849) 65536)) f 6) 10) (up2 V f 6 (rmd ((25173 * (V f 6)) + 13849) 65536))) : w3_draw E Q 0 [some (vr f)] [] V := by
  refine wp_aload_n dX3_draw_0 rfl ?_
  refine wp_sipush (v := 25173) dX3_draw_1 rfl ?_
  refine wp_aload_n dX3_draw_4 rfl ?_
  refine wp_geti dX3_draw_5 fk3_47_2 (FO.b0 hF) (FO.k0 hF) rfl ?_
  refine wp_imul dX3_draw_8 ?_
  refine wp_sipush (v := 13849) dX3_draw_9 rfl ?_
  refine wp_iadd dX3_draw_12 ?_
  refine wp_ldc (v := 65536) dX3_draw_13 q968 ?_
  refine wp_irm dX3_draw_15 (by decide) ?_
  refine wp_puti dX3_draw_16 fp3_47_2 (FO.b0 hF) (FO.k0 hF) rfl ?_
  refine wp_aload_n dX3_draw_19 rfl ?_
  refine wp_geti dX3_draw_20 fk3_47_2 (FO.b0 hF) (FO.k0 hF) rfl ?_
  refine wp_bipush (v := 10) dX3_draw_23 rfl ?_
  refine wp_irm dX3_draw_25 (by decide) ?_
  exact wp_iret dX3_draw_26 rfl ⟨_, rfl, rfl, rfl, rfl, h⟩
theorem n3_draw {E : eT} {Q : Int32 → vT → Prop} {V : vT} {f : Nat} (h : w3_draw E Q 0 [some (vr f)] [] V) : c3_draw E f V Q := MOk.enter [some (vr f)] pn_X3 rfl rfl (Nat.le_of_ble_eq_true rfl) rfl h
theorem b3_those_0 {E : eT} {Q : Int32 → vT → Prop} {V : vT} {tl : Nat} {f : Nat} {x1 : Int32} (hC : CM E tl) (hF : FO E f) (h : w3_those E Q 4 [some (vr f), some (vi x1), some (vi 0), some (vi 0)] [] V) : w3_those E Q 0 [some (vr f), some (vi x1), none, none] [] V := by
  refine wp_iconst (v := 0) dX3_those_0 rfl ?_
  refine wi4_2 dX3_those_1 ?_
  refine wp_iconst (v := 0) dX3_those_2 rfl ?_
  refine wi4_3 dX3_those_3 ?_
  exact h
theorem b3_those_4 {E : eT} {Q : Int32 → vT → Prop} {V : vT} {tl : Nat} {f : Nat} {x1 x2 x3 : Int32} (hC : CM E tl) (hF : FO E f) (h : (96 ≤ x3 → Q x2 V) ∧ (x3 < 96 → vp_in x3 96 ∧ ((¬ (V (f + 1) ((x3).toNatClampNeg)) = x1 → w3_those E Q 4 [some (vr f), some (vi x1), some (vi (x2 + 0)), some (vi (x3 + 1))] [] V) ∧ ((V (f + 1) ((x3).toNatClampNeg)) = x1 → w3_those E Q 4 [some (vr f), some (vi x1), some (vi (x2 + 1)), some (vi (x3 + 1))] [] V)))) : w3_those E Q 4 [some (vr f), some (vi x1), some (vi x2), some (vi x3)] [] V := by
  refine wp_iload_n dX3_those_4 rfl ?_
  refine wp_bipush (v := 96) dX3_those_5 rfl ?_
  refine wp_icmp_ge 34 dX3_those_7 (by decide) (fun hc => ?_) (fun hc => ?_)
  · replace h := h.1 hc
    refine wp_iload_n dX3_those_34 rfl ?_
    exact wp_iret dX3_those_35 rfl ⟨_, rfl, rfl, rfl, rfl, h⟩
  · replace h := h.2 (Int32.not_le.mp hc)
    refine wp_iload_n dX3_those_10 rfl ?_
    refine wp_aload_n dX3_those_11 rfl ?_
    refine wp_getrs dX3_those_12 fk3_15_2 (FO.b0 hF) (FO.k0 hF) rfl (FO.r0 hF) ?_
    refine wp_iload_n dX3_those_15 rfl ?_
    refine wp_iald dX3_those_16 (FO.b1 hF).2 (FO.k1 hF) h.1 ?_
    replace h := h.2
    refine wp_iload_n dX3_those_17 rfl ?_
    refine wp_icmp_ne 25 dX3_those_18 (by decide) (fun hc => ?_) (fun hc => ?_)
    · replace h := h.1 hc
      refine wp_iconst (v := 0) dX3_those_25 rfl ?_
      refine wp_iadd dX3_those_26 ?_
      refine wi4_2 dX3_those_27 ?_
      refine wc4_3 1 dX3_those_28 rfl ?_
      refine wp_goto 4 dX3_those_31 (by decide) ?_
      exact h
    · replace h := h.2 hc
      refine wp_iconst (v := 1) dX3_those_21 rfl ?_
      refine wp_goto 26 dX3_those_22 (by decide) ?_
      refine wp_iadd dX3_those_26 ?_
      refine wi4_2 dX3_those_27 ?_
      refine wc4_3 1 dX3_those_28 rfl ?_
      refine wp_goto 4 dX3_those_31 (by decide) ?_
      exact h
theorem n3_those {E : eT} {Q : Int32 → vT → Prop} {V : vT} {f : Nat} {x1 : Int32} (h : w3_those E Q 0 [some (vr f), some (vi x1), none, none] [] V) : c3_those E f x1 V Q := MOk.enter [some (vr f), some (vi x1), none, none] pn_X3 rfl rfl (Nat.le_of_ble_eq_true rfl) rfl h
theorem b3_lost_0 {E : eT} {Q : Int32 → vT → Prop} {V : vT} {tl : Nat} {f : Nat} (hC : CM E tl) (hF : FO E f) (h : w3_lost E Q 13 [none, some (vi 0), some (vr (f + 4)), some (vi 24), some (vi 0), none] [] V) : w3_lost E Q 0 [some (vr f), none, none, none, none, none] [] V := by
  refine wp_iconst (v := 0) dX3_lost_0 rfl ?_
  refine wi6_1 dX3_lost_1 ?_
  refine wp_aload_n dX3_lost_2 rfl ?_
  refine wp_getrs dX3_lost_3 fk3_28_2 (FO.b0 hF) (FO.k0 hF) rfl (FO.r3 hF) ?_
  refine wa6_2 dX3_lost_6 ?_
  refine wp_aload_n dX3_lost_7 rfl ?_
  refine wp_alen dX3_lost_8 (FO.b4 hF).2 (FO.k4 hF) ?_
  refine wi6_3 dX3_lost_9 ?_
  refine wp_iconst (v := 0) dX3_lost_10 rfl ?_
  refine wi6_4 dX3_lost_11 ?_
  exact wp_drop [none, some (vi 0), some (vr (f + 4)), some (vi 24), some (vi 0), none] ⟨rfl, ⟨rfl, ⟨rfl, ⟨rfl, trivial⟩⟩⟩⟩ h
theorem b3_lost_13 {E : eT} {Q : Int32 → vT → Prop} {V : vT} {tl : Nat} {f : Nat} {x1 x3 x4 : Int32} (hC : CM E tl) (hF : FO E f) (h : (x3 ≤ x4 → Q x1 V) ∧ (x4 < x3 → vp_in x4 24 ∧ (((V (f + 5 + ((x4).toNatClampNeg)) 3) = 0 → w3_lost E Q 13 [none, some (vi (x1 + 0)), some (vr (f + 4)), some (vi x3), some (vi (x4 + 1)), none] [] V) ∧ (¬ (V (f + 5 + ((x4).toNatClampNeg)) 3) = 0 → ((V (f + 5 + ((x4).toNatClampNeg)) 4) = 0 → w3_lost E Q 13 [none, some (vi (x1 + 0)), some (vr (f + 4)), some (vi x3), some (vi (x4 + 1)), none] [] V) ∧ (¬ (V (f + 5 + ((x4).toNatClampNeg)) 4) = 0 → w3_lost E Q 13 [none, some (vi (x1 + (V (f + 5 + ((x4).toNatClampNeg)) 1))), some (vr (f + 4)), some (vi x3), some (vi (x4 + 1)), none] [] V))))) : w3_lost E Q 13 [none, some (vi x1), some (vr (f + 4)), some (vi x3), some (vi x4), none] [] V := by
  refine wp_iload dX3_lost_13 rfl ?_
  refine wp_iload_n dX3_lost_15 rfl ?_
  refine wp_icmp_ge 59 dX3_lost_16 (by decide) (fun hc => ?_) (fun hc => ?_)
  · replace h := h.1 hc
    refine wp_iload_n dX3_lost_59 rfl ?_
    exact wp_iret dX3_lost_60 rfl ⟨_, rfl, rfl, rfl, rfl, h⟩
  · replace h := h.2 (Int32.not_le.mp hc)
    refine wp_aload_n dX3_lost_19 rfl ?_
    refine wp_iload dX3_lost_20 rfl ?_
    have hi22 := h.1.nat.2
    refine wp_aalds dX3_lost_22 (FO.b4 hF).2 (FO.k4 hF) (by decide) h.1 (FO.rt hF hi22) ?_
    replace h := h.2
    refine wa6_5 dX3_lost_23 ?_
    refine wp_iload_n dX3_lost_25 rfl ?_
    refine wp_aload dX3_lost_26 rfl ?_
    refine wp_geti dX3_lost_28 fk3_64_3 (FO.bt hF hi22) (FO.kt hF hi22) rfl ?_
    refine wp_if_eq 50 dX3_lost_31 (by decide) (fun hc => ?_) (fun hc => ?_)
    · replace h := h.1 hc
      refine wp_iconst (v := 0) dX3_lost_50 rfl ?_
      refine wp_iadd dX3_lost_51 ?_
      refine wi6_1 dX3_lost_52 ?_
      refine wc6_4 1 dX3_lost_53 rfl ?_
      refine wp_goto 13 dX3_lost_56 (by decide) ?_
      exact wp_drop [none, some (vi (x1 + 0)), some (vr (f + 4)), some (vi x3), some (vi (x4 + 1)), none] ⟨rfl, ⟨rfl, ⟨rfl, ⟨rfl, trivial⟩⟩⟩⟩ h
    · replace h := h.2 hc
      refine wp_aload dX3_lost_34 rfl ?_
      refine wp_geti dX3_lost_36 fk3_68_3 (FO.bt hF hi22) (FO.kt hF hi22) rfl ?_
      refine wp_if_eq 50 dX3_lost_39 (by decide) (fun hc => ?_) (fun hc => ?_)
      · replace h := h.1 hc
        refine wp_iconst (v := 0) dX3_lost_50 rfl ?_
        refine wp_iadd dX3_lost_51 ?_
        refine wi6_1 dX3_lost_52 ?_
        refine wc6_4 1 dX3_lost_53 rfl ?_
        refine wp_goto 13 dX3_lost_56 (by decide) ?_
        exact wp_drop [none, some (vi (x1 + 0)), some (vr (f + 4)), some (vi x3), some (vi (x4 + 1)), none] ⟨rfl, ⟨rfl, ⟨rfl, ⟨rfl, trivial⟩⟩⟩⟩ h
      · replace h := h.2 hc
        refine wp_aload dX3_lost_42 rfl ?_
        refine wp_geti dX3_lost_44 fk3_61_3 (FO.bt hF hi22) (FO.kt hF hi22) rfl ?_
        refine wp_goto 51 dX3_lost_47 (by decide) ?_
        refine wp_iadd dX3_lost_51 ?_
        refine wi6_1 dX3_lost_52 ?_
        refine wc6_4 1 dX3_lost_53 rfl ?_
        refine wp_goto 13 dX3_lost_56 (by decide) ?_
        exact wp_drop [none, some (vi (x1 + (V (f + 5 + ((x4).toNatClampNeg)) 1))), some (vr (f + 4)), some (vi x3), some (vi (x4 + 1)), none] ⟨rfl, ⟨rfl, ⟨rfl, ⟨rfl, trivial⟩⟩⟩⟩ h
theorem n3_lost {E : eT} {Q : Int32 → vT → Prop} {V : vT} {f : Nat} (h : w3_lost E Q 0 [some (vr f), none, none, none, none, none] [] V) : c3_lost E f V Q := MOk.enter [some (vr f), none, none, none, none, none] pn_X3 rfl rfl (Nat.le_of_ble_eq_true rfl) rfl h
theorem b3_gone_0 {E : eT} {Q : Int32 → vT → Prop} {V : vT} {tl : Nat} {f : Nat} (hC : CM E tl) (hF : FO E f) (h : w3_gone E Q 4 [some (vr f), some (vi 0), some (vi 0)] [] V) : w3_gone E Q 0 [some (vr f), none, none] [] V := by
  refine wp_iconst (v := 0) dX3_gone_0 rfl ?_
  refine wi3_1 dX3_gone_1 ?_
  refine wp_iconst (v := 0) dX3_gone_2 rfl ?_
  refine wi3_2 dX3_gone_3 ?_
  exact h
theorem b3_gone_4 {E : eT} {Q : Int32 → vT → Prop} {V : vT} {tl : Nat} {f : Nat} {x1 x2 : Int32} (hC : CM E tl) (hF : FO E f) (h : (24 ≤ x2 → Q x1 V) ∧ (x2 < 24 → vp_in x2 24 ∧ (((V (f + 5 + ((x2).toNatClampNeg)) 3) = 0 → w3_gone E Q 4 [some (vr f), some (vi (x1 ||| 0)), some (vi (x2 + 1))] [] V) ∧ (¬ (V (f + 5 + ((x2).toNatClampNeg)) 3) = 0 → vp_in x2 24 ∧ (((V (f + 5 + ((x2).toNatClampNeg)) 4) = 0 → w3_gone E Q 4 [some (vr f), some (vi (x1 ||| 0)), some (vi (x2 + 1))] [] V) ∧ (¬ (V (f + 5 + ((x2).toNatClampNeg)) 4) = 0 → w3_gone E Q 4 [some (vr f), some (vi (x1 ||| ((1 : Int32) <<< (x2 &&& 31)))), some (vi (x2 + 1))] [] V)))))) : w3_gone E Q 4 [some (vr f), some (vi x1), some (vi x2)] [] V := by
  refine wp_iload_n dX3_gone_4 rfl ?_
  refine wp_bipush (v := 24) dX3_gone_5 rfl ?_
  refine wp_icmp_ge 50 dX3_gone_7 (by decide) (fun hc => ?_) (fun hc => ?_)
  · replace h := h.1 hc
    refine wp_iload_n dX3_gone_50 rfl ?_
    exact wp_iret dX3_gone_51 rfl ⟨_, rfl, rfl, rfl, rfl, h⟩
  · replace h := h.2 (Int32.not_le.mp hc)
    refine wp_iload_n dX3_gone_10 rfl ?_
    refine wp_aload_n dX3_gone_11 rfl ?_
    refine wp_getrs dX3_gone_12 fk3_28_2 (FO.b0 hF) (FO.k0 hF) rfl (FO.r3 hF) ?_
    refine wp_iload_n dX3_gone_15 rfl ?_
    have hi16 := h.1.nat.2
    refine wp_aalds dX3_gone_16 (FO.b4 hF).2 (FO.k4 hF) (by decide) h.1 (FO.rt hF hi16) ?_
    replace h := h.2
    refine wp_geti dX3_gone_17 fk3_64_3 (FO.bt hF hi16) (FO.kt hF hi16) rfl ?_
    refine wp_if_eq 41 dX3_gone_20 (by decide) (fun hc => ?_) (fun hc => ?_)
    · replace h := h.1 hc
      refine wp_iconst (v := 0) dX3_gone_41 rfl ?_
      refine wp_ior dX3_gone_42 ?_
      refine wi3_1 dX3_gone_43 ?_
      refine wc3_2 1 dX3_gone_44 rfl ?_
      refine wp_goto 4 dX3_gone_47 (by decide) ?_
      exact h
    · replace h := h.2 hc
      refine wp_aload_n dX3_gone_23 rfl ?_
      refine wp_getrs dX3_gone_24 fk3_28_2 (FO.b0 hF) (FO.k0 hF) rfl (FO.r3 hF) ?_
      refine wp_iload_n dX3_gone_27 rfl ?_
      have hi28 := h.1.nat.2
      refine wp_aalds dX3_gone_28 (FO.b4 hF).2 (FO.k4 hF) (by decide) h.1 (FO.rt hF hi28) ?_
      replace h := h.2
      refine wp_geti dX3_gone_29 fk3_68_3 (FO.bt hF hi28) (FO.kt hF hi28) rfl ?_
      refine wp_if_eq 41 dX3_gone_32 (by decide) (fun hc => ?_) (fun hc => ?_)
      · replace h := h.1 hc
        refine wp_iconst (v := 0) dX3_gone_41 rfl ?_
        refine wp_ior dX3_gone_42 ?_
        refine wi3_1 dX3_gone_43 ?_
        refine wc3_2 1 dX3_gone_44 rfl ?_
        refine wp_goto 4 dX3_gone_47 (by decide) ?_
        exact h
      · replace h := h.2 hc
        refine wp_iconst (v := 1) dX3_gone_35 rfl ?_
        refine wp_iload_n dX3_gone_36 rfl ?_
        refine wp_ishl dX3_gone_37 ?_
        refine wp_goto 42 dX3_gone_38 (by decide) ?_
        refine wp_ior dX3_gone_42 ?_
        refine wi3_1 dX3_gone_43 ?_
        refine wc3_2 1 dX3_gone_44 rfl ?_
        refine wp_goto 4 dX3_gone_47 (by decide) ?_
        exact h
theorem n3_gone {E : eT} {Q : Int32 → vT → Prop} {V : vT} {f : Nat} (h : w3_gone E Q 0 [some (vr f), none, none] [] V) : c3_gone E f V Q := MOk.enter [some (vr f), none, none] pn_X3 rfl rfl (Nat.le_of_ble_eq_true rfl) rfl h
theorem b3_thingsAt_0 {E : eT} {Q : Int32 → vT → Prop} {V : vT} {tl : Nat} {f : Nat} {x1 : Int32} (hC : CM E tl) (hF : FO E f) (h : w3_thingsAt E Q 4 [some (vr f), some (vi x1), some (vi 0), some (vi 0)] [] V) : w3_thingsAt E Q 0 [some (vr f), some (vi x1), none, none] [] V := by
  refine wp_iconst (v := 0) dX3_thingsAt_0 rfl ?_
  refine wi4_2 dX3_thingsAt_1 ?_
  refine wp_iconst (v := 0) dX3_thingsAt_2 rfl ?_
  refine wi4_3 dX3_thingsAt_3 ?_
  exact h
theorem b3_thingsAt_4 {E : eT} {Q : Int32 → vT → Prop} {V : vT} {tl : Nat} {f : Nat} {x1 x2 x3 : Int32} (hC : CM E tl) (hF : FO E f) (h : (24 ≤ x3 → Q x2 V) ∧ (x3 < 24 → vp_in x3 24 ∧ (c4_isAt E (f + 5 + ((x3).toNatClampNeg)) x1 V (fun r18 V18 => (r18 = 0 → w3_thingsAt E Q 4 [some (vr f), some (vi x1), some (vi (x2 ||| 0)), some (vi (x3 + 1))] [] V18) ∧ (¬ r18 = 0 → w3_thingsAt E Q 4 [some (vr f), some (vi x1), some (vi (x2 ||| ((1 : Int32) <<< (x3 &&& 31)))), some (vi (x3 + 1))] [] V18))))) : w3_thingsAt E Q 4 [some (vr f), some (vi x1), some (vi x2), some (vi x3)] [] V := by
  refine wp_iload_n dX3_thingsAt_4 rfl ?_
  refine wp_bipush (v := 24) dX3_thingsAt_5 rfl ?_
  refine wp_icmp_ge 39 dX3_thingsAt_7 (by decide) (fun hc => ?_) (fun hc => ?_)
  · replace h := h.1 hc
    refine wp_iload_n dX3_thingsAt_39 rfl ?_
    exact wp_iret dX3_thingsAt_40 rfl ⟨_, rfl, rfl, rfl, rfl, h⟩
  · replace h := h.2 (Int32.not_le.mp hc)
    refine wp_iload_n dX3_thingsAt_10 rfl ?_
    refine wp_aload_n dX3_thingsAt_11 rfl ?_
    refine wp_getrs dX3_thingsAt_12 fk3_28_2 (FO.b0 hF) (FO.k0 hF) rfl (FO.r3 hF) ?_
    refine wp_iload_n dX3_thingsAt_15 rfl ?_
    have hi16 := h.1.nat.2
    refine wp_aalds dX3_thingsAt_16 (FO.b4 hF).2 (FO.k4 hF) (by decide) h.1 (FO.rt hF hi16) ?_
    replace h := h.2
    refine wp_iload_n dX3_thingsAt_17 rfl ?_
    refine wq_VI1 lk3_54 rfl (FO.bt hF hi16) (FO.kt hF hi16) dX3_thingsAt_18 h (rmQ_ok (by decide) (by decide)) ⟨Nat.le_refl _, Nat.le_refl _⟩ (Nat.le_of_ble_eq_true rfl) (fun r18 V18 h => ?_)
    refine wp_if_eq 30 dX3_thingsAt_21 (by decide) (fun hc => ?_) (fun hc => ?_)
    · replace h := h.1 hc
      refine wp_iconst (v := 0) dX3_thingsAt_30 rfl ?_
      refine wp_ior dX3_thingsAt_31 ?_
      refine wi4_2 dX3_thingsAt_32 ?_
      refine wc4_3 1 dX3_thingsAt_33 rfl ?_
      refine wp_goto 4 dX3_thingsAt_36 (by decide) ?_
      exact h
    · replace h := h.2 hc
      refine wp_iconst (v := 1) dX3_thingsAt_24 rfl ?_
      refine wp_iload_n dX3_thingsAt_25 rfl ?_
      refine wp_ishl dX3_thingsAt_26 ?_
      refine wp_goto 31 dX3_thingsAt_27 (by decide) ?_
      refine wp_ior dX3_thingsAt_31 ?_
      refine wi4_2 dX3_thingsAt_32 ?_
      refine wc4_3 1 dX3_thingsAt_33 rfl ?_
      refine wp_goto 4 dX3_thingsAt_36 (by decide) ?_
      exact h
theorem n3_thingsAt {E : eT} {Q : Int32 → vT → Prop} {V : vT} {f : Nat} {x1 : Int32} (h : w3_thingsAt E Q 0 [some (vr f), some (vi x1), none, none] [] V) : c3_thingsAt E f x1 V Q := MOk.enter [some (vr f), some (vi x1), none, none] pn_X3 rfl rfl (Nat.le_of_ble_eq_true rfl) rfl h
theorem b4_takes_0 {E : eT} {Q : vT → Prop} {V : vT} {o : Nat} {a1 : Nat} (hb : 16 ≤ o ∧ o < E.2.2.1) (hk : E.2.2.2.1 o = .inl 3) (hb1 : 16 ≤ a1 ∧ a1 < E.2.2.1) (hk1 : E.2.2.2.1 a1 = .inl 3) (h : (((up2 (up2 (up2 V o 0 (V a1 0)) o 1 ((up2 V o 0 (V a1 0)) a1 1)) o 2 ((up2 (up2 V o 0 (V a1 0)) o 1 ((up2 V o 0 (V a1 0)) a1 1)) a1 2)) a1 3) = 0 ∨ ((up2 (up2 (up2 V o 0 (V a1 0)) o 1 ((up2 V o 0 (V a1 0)) a1 1)) o 2 ((up2 (up2 V o 0 (V a1 0)) o 1 ((up2 V o 0 (V a1 0)) a1 1)) a1 2)) a1 3) = 1) ∧ ((((up2 (up2 (up2 (up2 V o 0 (V a1 0)) o 1 ((up2 V o 0 (V a1 0)) a1 1)) o 2 ((up2 (up2 V o 0 (V a1 0)) o 1 ((up2 V o 0 (V a1 0)) a1 1)) a1 2)) o 3 ((up2 (up2 (up2 V o 0 (V a1 0)) o 1 ((up2 V o 0 (V a1 0)) a1 1)) o 2 ((up2 (up2 V o 0 (V a1 0)) o 1 ((up2 V o 0 (V a1 0)) a1 1)) a1 2)) a1 3)) a1 4) = 0 ∨ ((up2 (up2 (up2 (up2 V o 0 (V a1 0)) o 1 ((up2 V o 0 (V a1 0)) a1 1)) o 2 ((up2 (up2 V o 0 (V a1 0)) o 1 ((up2 V o 0 (V a1 0)) a1 1)) a1 2)) o 3 ((up2 (up2 (up2 V o 0 (V a1 0)) o 1 ((up2 V o 0 (V a1 0)) a1 1)) o 2 ((up2 (up2 V o 0 (V a1 0)) o 1 ((up2 V o 0 (V a1 0)) a1 1)) a1 2)) a1 3)) a1 4) = 1) ∧ (Q (up2 (up2 (up2 (up2 (up2 V o 0 (V a1 0)) o 1 ((up2 V o 0 (V a1 0)) a1 1)) o 2 ((up2 (up2 V o 0 (V a1 0)) o 1 ((up2 V o 0 (V a1 0)) a1 1)) a1 2)) o 3 ((up2 (up2 (up2 V o 0 (V a1 0)) o 1 ((up2 V o 0 (V a1 0)) a1 1)) o 2 ((up2 (up2 V o 0 (V a1 0)) o 1 ((up2 V o 0 (V a1 0)) a1 1)) a1 2)) a1 3)) o 4 ((up2 (up2 (up2 (up2 V o 0 (V a1 0)) o 1 ((up2 V o 0 (V a1 0)) a1 1)) o 2 ((up2 (up2 V o 0 (V a1 0)) o 1 ((up2 V o 0 (V a1 0)) a1 1)) a1 2)) o 3 ((up2 (up2 (up2 V o 0 (V a1 0)) o 1 ((up2 V o 0 (V a1 0)) a1 1)) o 2 ((up2 (up2 V o 0 (V a1 0)) o 1 ((up2 V o 0 (V a1 0)) a1 1)) a1 2)) a1 3)) a1 4))))) : w4_takes E Q 0 [some (vr o), some (vr a1)] [] V := by
  refine wp_aload_n dX4_takes_0 rfl ?_
  refine wp_aload_n dX4_takes_1 rfl ?_
  refine wp_geti dX4_takes_2 fk4_7_3 hb1 hk1 rfl ?_
  refine wp_puti dX4_takes_5 fp4_7_3 hb hk rfl ?_
  refine wp_aload_n dX4_takes_8 rfl ?_
  refine wp_aload_n dX4_takes_9 rfl ?_
  refine wp_geti dX4_takes_10 fk4_13_3 hb1 hk1 rfl ?_
  refine wp_puti dX4_takes_13 fp4_13_3 hb hk rfl ?_
  refine wp_aload_n dX4_takes_16 rfl ?_
  refine wp_aload_n dX4_takes_17 rfl ?_
  refine wp_geti dX4_takes_18 fk4_16_3 hb1 hk1 rfl ?_
  refine wp_puti dX4_takes_21 fp4_16_3 hb hk rfl ?_
  refine wp_aload_n dX4_takes_24 rfl ?_
  refine wp_aload_n dX4_takes_25 rfl ?_
  refine wp_geti dX4_takes_26 fk4_19_3 hb1 hk1 rfl ?_
  refine wp_putz dX4_takes_29 fp4_19_3 hb hk rfl h.1 ?_
  replace h := h.2
  refine wp_aload_n dX4_takes_32 rfl ?_
  refine wp_aload_n dX4_takes_33 rfl ?_
  refine wp_geti dX4_takes_34 fk4_23_3 hb1 hk1 rfl ?_
  refine wp_putz dX4_takes_37 fp4_23_3 hb hk rfl h.1 ?_
  replace h := h.2
  exact wp_vret dX4_takes_40 ⟨rfl, rfl, rfl, rfl, h⟩
theorem n4_takes {E : eT} {Q : vT → Prop} {V : vT} {o : Nat} {a1 : Nat} (h : w4_takes E Q 0 [some (vr o), some (vr a1)] [] V) : c4_takes E o a1 V Q := MOk.enter [some (vr o), some (vr a1)] pn_X4 rfl rfl (Nat.le_of_ble_eq_true rfl) rfl h
theorem b4_isAt_0 {E : eT} {Q : Int32 → vT → Prop} {V : vT} {o : Nat} {x1 : Int32} (hb : 16 ≤ o ∧ o < E.2.2.1) (hk : E.2.2.2.1 o = .inl 3) (h : ((V o 3) = 0 → Q 0 V) ∧ (¬ (V o 3) = 0 → (¬ (V o 4) = 0 → Q 0 V) ∧ ((V o 4) = 0 → (¬ (V o 0) = x1 → Q 0 V) ∧ ((V o 0) = x1 → Q 1 V)))) : w4_isAt E Q 0 [some (vr o), some (vi x1)] [] V := by
  refine wp_aload_n dX4_isAt_0 rfl ?_
  refine wp_geti dX4_isAt_1 fk4_19_3 hb hk rfl ?_
  refine wp_if_eq 26 dX4_isAt_4 (by decide) (fun hc => ?_) (fun hc => ?_)
  · replace h := h.1 hc
    refine wp_iconst (v := 0) dX4_isAt_26 rfl ?_
    exact wp_iret dX4_isAt_27 rfl ⟨_, rfl, rfl, rfl, rfl, h⟩
  · replace h := h.2 hc
    refine wp_aload_n dX4_isAt_7 rfl ?_
    refine wp_geti dX4_isAt_8 fk4_23_3 hb hk rfl ?_
    refine wp_if_ne 26 dX4_isAt_11 (by decide) (fun hc => ?_) (fun hc => ?_)
    · replace h := h.1 hc
      refine wp_iconst (v := 0) dX4_isAt_26 rfl ?_
      exact wp_iret dX4_isAt_27 rfl ⟨_, rfl, rfl, rfl, rfl, h⟩
    · replace h := h.2 hc
      refine wp_aload_n dX4_isAt_14 rfl ?_
      refine wp_geti dX4_isAt_15 fk4_7_3 hb hk rfl ?_
      refine wp_iload_n dX4_isAt_18 rfl ?_
      refine wp_icmp_ne 26 dX4_isAt_19 (by decide) (fun hc => ?_) (fun hc => ?_)
      · replace h := h.1 hc
        refine wp_iconst (v := 0) dX4_isAt_26 rfl ?_
        exact wp_iret dX4_isAt_27 rfl ⟨_, rfl, rfl, rfl, rfl, h⟩
      · replace h := h.2 hc
        refine wp_iconst (v := 1) dX4_isAt_22 rfl ?_
        refine wp_goto 27 dX4_isAt_23 (by decide) ?_
        exact wp_iret dX4_isAt_27 rfl ⟨_, rfl, rfl, rfl, rfl, h⟩
theorem n4_isAt {E : eT} {Q : Int32 → vT → Prop} {V : vT} {o : Nat} {x1 : Int32} (h : w4_isAt E Q 0 [some (vr o), some (vi x1)] [] V) : c4_isAt E o x1 V Q := MOk.enter [some (vr o), some (vi x1)] pn_X4 rfl rfl (Nat.le_of_ble_eq_true rfl) rfl h
theorem b4_paid_0 {E : eT} {Q : Int32 → vT → Prop} {V : vT} {o : Nat} (hb : 16 ≤ o ∧ o < E.2.2.1) (hk : E.2.2.2.1 o = .inl 3) (h : ((V o 2) < (V o 1) → ¬ (V o 1) = 0 ∧ (Q (((V o 2) * (V o 2)) / (V o 1)) V)) ∧ ((V o 1) ≤ (V o 2) → Q (V o 1) V)) : w4_paid E Q 0 [some (vr o)] [] V := by
  refine wp_aload_n dX4_paid_0 rfl ?_
  refine wp_geti dX4_paid_1 fk4_16_3 hb hk rfl ?_
  refine wp_aload_n dX4_paid_4 rfl ?_
  refine wp_geti dX4_paid_5 fk4_13_3 hb hk rfl ?_
  refine wp_icmp_lt 18 dX4_paid_8 (by decide) (fun hc => ?_) (fun hc => ?_)
  · replace h := h.1 hc
    refine wp_aload_n dX4_paid_18 rfl ?_
    refine wp_geti dX4_paid_19 fk4_16_3 hb hk rfl ?_
    refine wp_aload_n dX4_paid_22 rfl ?_
    refine wp_geti dX4_paid_23 fk4_16_3 hb hk rfl ?_
    refine wp_imul dX4_paid_26 ?_
    refine wp_aload_n dX4_paid_27 rfl ?_
    refine wp_geti dX4_paid_28 fk4_13_3 hb hk rfl ?_
    refine wp_idiv dX4_paid_31 h.1 ?_
    replace h := h.2
    exact wp_iret dX4_paid_32 rfl ⟨_, rfl, rfl, rfl, rfl, h⟩
  · replace h := h.2 (Int32.not_lt.mp hc)
    refine wp_aload_n dX4_paid_11 rfl ?_
    refine wp_geti dX4_paid_12 fk4_13_3 hb hk rfl ?_
    refine wp_goto 32 dX4_paid_15 (by decide) ?_
    exact wp_iret dX4_paid_32 rfl ⟨_, rfl, rfl, rfl, rfl, h⟩
theorem n4_paid {E : eT} {Q : Int32 → vT → Prop} {V : vT} {o : Nat} (h : w4_paid E Q 0 [some (vr o)] [] V) : c4_paid E o V Q := MOk.enter [some (vr o)] pn_X4 rfl rfl (Nat.le_of_ble_eq_true rfl) rfl h
theorem b7_isGood_0 {E : eT} {Q : Int32 → vT → Prop} {V : vT} {tl : Nat} {o : Nat} (hC : CM E tl) (hS : RD E o) (h : (¬ (V o 4) = 0 → Q 0 V) ∧ ((V o 4) = 0 → Q 1 V)) : w7_isGood E Q 0 [some (vr o)] [] V := by
  refine wp_aload_n dX7_isGood_0 rfl ?_
  refine wp_geti dX7_isGood_1 fk7_33_6 (RD.b0 hS) (RD.k0 hS) rfl ?_
  refine wp_if_ne 11 dX7_isGood_4 (by decide) (fun hc => ?_) (fun hc => ?_)
  · replace h := h.1 hc
    refine wp_iconst (v := 0) dX7_isGood_11 rfl ?_
    exact wp_iret dX7_isGood_12 rfl ⟨_, rfl, rfl, rfl, rfl, h⟩
  · replace h := h.2 hc
    refine wp_iconst (v := 1) dX7_isGood_7 rfl ?_
    refine wp_goto 12 dX7_isGood_8 (by decide) ?_
    exact wp_iret dX7_isGood_12 rfl ⟨_, rfl, rfl, rfl, rfl, h⟩
theorem n7_isGood {E : eT} {Q : Int32 → vT → Prop} {V : vT} {o : Nat} (h : w7_isGood E Q 0 [some (vr o)] [] V) : c7_isGood E o V Q := MOk.enter [some (vr o)] pn_X7 rfl rfl (Nat.le_of_ble_eq_true rfl) rfl h
theorem b7_here_0 {E : eT} {Q : Int32 → vT → Prop} {V : vT} {tl : Nat} {o : Nat} (hC : CM E tl) (hS : RD E o) (h : ((V o 0) ≤ (V o 2) → Q 0 V) ∧ ((V o 2) < (V o 0) → vp_in (V o 2) 260 ∧ (Q ((V 106 ((V o 2).toNatClampNeg)) &&& 255) V))) : w7_here E Q 0 [some (vr o)] [] V := by
  refine wp_aload_n dX7_here_0 rfl ?_
  refine wp_geti dX7_here_1 fk7_26_6 (RD.b0 hS) (RD.k0 hS) rfl ?_
  refine wp_aload_n dX7_here_4 rfl ?_
  refine wp_geti dX7_here_5 fk7_22_6 (RD.b0 hS) (RD.k0 hS) rfl ?_
  refine wp_icmp_ge 30 dX7_here_8 (by decide) (fun hc => ?_) (fun hc => ?_)
  · replace h := h.1 hc
    refine wp_iconst (v := 0) dX7_here_30 rfl ?_
    exact wp_iret dX7_here_31 rfl ⟨_, rfl, rfl, rfl, rfl, h⟩
  · replace h := h.2 (Int32.not_le.mp hc)
    refine wp_aload_n dX7_here_11 rfl ?_
    refine wp_getrs dX7_here_12 fk7_3_6 (RD.b0 hS) (RD.k0 hS) rfl (RD.r6 hS) ?_
    refine wp_getrs dX7_here_15 fk7_29_0 (cb_16 hC) (ck_16 hC) rfl (cr_5 hC) ?_
    refine wp_aload_n dX7_here_18 rfl ?_
    refine wp_geti dX7_here_19 fk7_26_6 (RD.b0 hS) (RD.k0 hS) rfl ?_
    refine wp_bald dX7_here_22 (cb_106 hC).2 (ck_106 hC) h.1 ?_
    replace h := h.2
    refine wp_sipush (v := 255) dX7_here_23 rfl ?_
    refine wp_iand dX7_here_26 ?_
    refine wp_goto 31 dX7_here_27 (by decide) ?_
    exact wp_iret dX7_here_31 rfl ⟨_, rfl, rfl, rfl, rfl, h⟩
theorem n7_here {E : eT} {Q : Int32 → vT → Prop} {V : vT} {o : Nat} (h : w7_here E Q 0 [some (vr o)] [] V) : c7_here E o V Q := MOk.enter [some (vr o)] pn_X7 rfl rfl (Nat.le_of_ble_eq_true rfl) rfl h
theorem b7_bad_0 {E : eT} {Q : vT → Prop} {V : vT} {tl : Nat} {o : Nat} {x1 x2 : Int32} (hC : CM E tl) (hS : RD E o) (h : ((V o 4) ≤ 0 → Q (up2 (up2 V o 4 x1) o 5 x2)) ∧ (0 < (V o 4) → Q V)) : w7_bad E Q 0 [some (vr o), some (vi x1), some (vi x2)] [] V := by
  refine wp_aload_n dX7_bad_0 rfl ?_
  refine wp_geti dX7_bad_1 fk7_33_6 (RD.b0 hS) (RD.k0 hS) rfl ?_
  refine wp_if_le 8 dX7_bad_4 (by decide) (fun hc => ?_) (fun hc => ?_)
  · replace h := h.1 hc
    refine wp_aload_n dX7_bad_8 rfl ?_
    refine wp_iload_n dX7_bad_9 rfl ?_
    refine wp_puti dX7_bad_10 fp7_33_6 (RD.b0 hS) (RD.k0 hS) rfl ?_
    refine wp_aload_n dX7_bad_13 rfl ?_
    refine wp_iload_n dX7_bad_14 rfl ?_
    refine wp_puti dX7_bad_15 fp7_36_6 (RD.b0 hS) (RD.k0 hS) rfl ?_
    exact wp_vret dX7_bad_18 ⟨rfl, rfl, rfl, rfl, h⟩
  · replace h := h.2 (Int32.not_le.mp hc)
    exact wp_vret dX7_bad_7 ⟨rfl, rfl, rfl, rfl, h⟩
theorem n7_bad {E : eT} {Q : vT → Prop} {V : vT} {o : Nat} {x1 x2 : Int32} (h : w7_bad E Q 0 [some (vr o), some (vi x1), some (vi x2)] [] V) : c7_bad E o x1 x2 V Q := MOk.enter [some (vr o), some (vi x1), some (vi x2)] pn_X7 rfl rfl (Nat.le_of_ble_eq_true rfl) rfl h
theorem b7_opens_0 {E : eT} {Q : vT → Prop} {V : vT} {tl : Nat} {o : Nat} (hC : CM E tl) (hS : RD E o) (h : (¬ (V o 3) = 6 → Q (up2 (up2 V o 3 ((V o 3) + 1)) o 2 (((up2 V o 3 ((V o 3) + 1)) o 2) + 1))) ∧ ((V o 3) = 6 → c7_bad E o 5 (V o 2) V (fun V15 => Q (up2 (up2 V15 o 3 ((V15 o 3) + 1)) o 2 (((up2 V15 o 3 ((V15 o 3) + 1)) o 2) + 1))))) : w7_opens E Q 0 [some (vr o)] [] V := by
  refine wp_aload_n dX7_opens_0 rfl ?_
  refine wp_geti dX7_opens_1 fk7_54_6 (RD.b0 hS) (RD.k0 hS) rfl ?_
  refine wp_bipush (v := 6) dX7_opens_4 rfl ?_
  refine wp_icmp_ne 18 dX7_opens_6 (by decide) (fun hc => ?_) (fun hc => ?_)
  · replace h := h.1 hc
    refine wp_aload_n dX7_opens_18 rfl ?_
    refine wp_dup dX7_opens_19 ?_
    refine wp_geti dX7_opens_20 fk7_54_6 (RD.b0 hS) (RD.k0 hS) rfl ?_
    refine wp_iconst (v := 1) dX7_opens_23 rfl ?_
    refine wp_iadd dX7_opens_24 ?_
    refine wp_puti dX7_opens_25 fp7_54_6 (RD.b0 hS) (RD.k0 hS) rfl ?_
    refine wp_aload_n dX7_opens_28 rfl ?_
    refine wp_dup dX7_opens_29 ?_
    refine wp_geti dX7_opens_30 fk7_26_6 (RD.b0 hS) (RD.k0 hS) rfl ?_
    refine wp_iconst (v := 1) dX7_opens_33 rfl ?_
    refine wp_iadd dX7_opens_34 ?_
    refine wp_puti dX7_opens_35 fp7_26_6 (RD.b0 hS) (RD.k0 hS) rfl ?_
    exact wp_vret dX7_opens_38 ⟨rfl, rfl, rfl, rfl, h⟩
  · replace h := h.2 hc
    refine wp_aload_n dX7_opens_9 rfl ?_
    refine wp_iconst (v := 5) dX7_opens_10 rfl ?_
    refine wp_aload_n dX7_opens_11 rfl ?_
    refine wp_geti dX7_opens_12 fk7_26_6 (RD.b0 hS) (RD.k0 hS) rfl ?_
    refine wq_VV2 lk7_50 rfl (RD.b0 hS) (RD.k0 hS) dX7_opens_15 h (rmQ_ok (by decide) (by decide)) ⟨Nat.le_refl _, Nat.le_refl _⟩ (Nat.le_of_ble_eq_true rfl) (fun V15 h => ?_)
    refine wp_aload_n dX7_opens_18 rfl ?_
    refine wp_dup dX7_opens_19 ?_
    refine wp_geti dX7_opens_20 fk7_54_6 (RD.b0 hS) (RD.k0 hS) rfl ?_
    refine wp_iconst (v := 1) dX7_opens_23 rfl ?_
    refine wp_iadd dX7_opens_24 ?_
    refine wp_puti dX7_opens_25 fp7_54_6 (RD.b0 hS) (RD.k0 hS) rfl ?_
    refine wp_aload_n dX7_opens_28 rfl ?_
    refine wp_dup dX7_opens_29 ?_
    refine wp_geti dX7_opens_30 fk7_26_6 (RD.b0 hS) (RD.k0 hS) rfl ?_
    refine wp_iconst (v := 1) dX7_opens_33 rfl ?_
    refine wp_iadd dX7_opens_34 ?_
    refine wp_puti dX7_opens_35 fp7_26_6 (RD.b0 hS) (RD.k0 hS) rfl ?_
    exact wp_vret dX7_opens_38 ⟨rfl, rfl, rfl, rfl, h⟩
theorem n7_opens {E : eT} {Q : vT → Prop} {V : vT} {o : Nat} (h : w7_opens E Q 0 [some (vr o)] [] V) : c7_opens E o V Q := MOk.enter [some (vr o)] pn_X7 rfl rfl (Nat.le_of_ble_eq_true rfl) rfl h
theorem b7_must_0 {E : eT} {Q : vT → Prop} {V : vT} {tl : Nat} {o : Nat} {x1 : Int32} (hC : CM E tl) (hS : RD E o) (h : c7_here E o V (fun r1 V1 => (r1 = x1 → Q (up2 V1 o 2 ((V1 o 2) + 1))) ∧ (¬ r1 = x1 → c7_bad E o 1 (V1 o 2) V1 (fun V14 => Q (up2 V14 o 2 ((V14 o 2) + 1)))))) : w7_must E Q 0 [some (vr o), some (vi x1)] [] V := by
  refine wp_aload_n dX7_must_0 rfl ?_
  refine wq_VI0 lk7_39 rfl (RD.b0 hS) (RD.k0 hS) dX7_must_1 h (rmQ_ok (by decide) (by decide)) ⟨Nat.le_refl _, Nat.le_refl _⟩ (Nat.le_of_ble_eq_true rfl) (fun r1 V1 h => ?_)
  refine wp_iload_n dX7_must_4 rfl ?_
  refine wp_icmp_eq 17 dX7_must_5 (by decide) (fun hc => ?_) (fun hc => ?_)
  · replace h := h.1 hc
    refine wp_aload_n dX7_must_17 rfl ?_
    refine wp_dup dX7_must_18 ?_
    refine wp_geti dX7_must_19 fk7_26_6 (RD.b0 hS) (RD.k0 hS) rfl ?_
    refine wp_iconst (v := 1) dX7_must_22 rfl ?_
    refine wp_iadd dX7_must_23 ?_
    refine wp_puti dX7_must_24 fp7_26_6 (RD.b0 hS) (RD.k0 hS) rfl ?_
    exact wp_vret dX7_must_27 ⟨rfl, rfl, rfl, rfl, h⟩
  · replace h := h.2 hc
    refine wp_aload_n dX7_must_8 rfl ?_
    refine wp_iconst (v := 1) dX7_must_9 rfl ?_
    refine wp_aload_n dX7_must_10 rfl ?_
    refine wp_geti dX7_must_11 fk7_26_6 (RD.b0 hS) (RD.k0 hS) rfl ?_
    refine wq_VV2 lk7_50 rfl (RD.b0 hS) (RD.k0 hS) dX7_must_14 h (rmQ_ok (by decide) (by decide)) ⟨Nat.le_refl _, Nat.le_refl _⟩ (Nat.le_of_ble_eq_true rfl) (fun V14 h => ?_)
    refine wp_aload_n dX7_must_17 rfl ?_
    refine wp_dup dX7_must_18 ?_
    refine wp_geti dX7_must_19 fk7_26_6 (RD.b0 hS) (RD.k0 hS) rfl ?_
    refine wp_iconst (v := 1) dX7_must_22 rfl ?_
    refine wp_iadd dX7_must_23 ?_
    refine wp_puti dX7_must_24 fp7_26_6 (RD.b0 hS) (RD.k0 hS) rfl ?_
    exact wp_vret dX7_must_27 ⟨rfl, rfl, rfl, rfl, h⟩
theorem n7_must {E : eT} {Q : vT → Prop} {V : vT} {o : Nat} {x1 : Int32} (h : w7_must E Q 0 [some (vr o), some (vi x1)] [] V) : c7_must E o x1 V Q := MOk.enter [some (vr o), some (vi x1)] pn_X7 rfl rfl (Nat.le_of_ble_eq_true rfl) rfl h
theorem b7_seesDigit_0 {E : eT} {Q : Int32 → vT → Prop} {V : vT} {tl : Nat} {o : Nat} (hC : CM E tl) (hS : RD E o) (h : c7_here E o V (fun r1 V1 => (r1 < 48 → Q 0 V1) ∧ (48 ≤ r1 → c7_here E o V1 (fun r10 V10 => (57 < r10 → Q 0 V10) ∧ (r10 ≤ 57 → Q 1 V10))))) : w7_seesDigit E Q 0 [some (vr o)] [] V := by
  refine wp_aload_n dX7_seesDigit_0 rfl ?_
  refine wq_VI0 lk7_39 rfl (RD.b0 hS) (RD.k0 hS) dX7_seesDigit_1 h (rmQ_ok (by decide) (by decide)) ⟨Nat.le_refl _, Nat.le_refl _⟩ (Nat.le_of_ble_eq_true rfl) (fun r1 V1 h => ?_)
  refine wp_bipush (v := 48) dX7_seesDigit_4 rfl ?_
  refine wp_icmp_lt 22 dX7_seesDigit_6 (by decide) (fun hc => ?_) (fun hc => ?_)
  · replace h := h.1 hc
    refine wp_iconst (v := 0) dX7_seesDigit_22 rfl ?_
    exact wp_iret dX7_seesDigit_23 rfl ⟨_, rfl, rfl, rfl, rfl, h⟩
  · replace h := h.2 (Int32.not_lt.mp hc)
    refine wp_aload_n dX7_seesDigit_9 rfl ?_
    refine wq_VI0 lk7_39 rfl (RD.b0 hS) (RD.k0 hS) dX7_seesDigit_10 h (rmQ_ok (by decide) (by decide)) ⟨Nat.le_refl _, Nat.le_refl _⟩ (Nat.le_of_ble_eq_true rfl) (fun r10 V10 h => ?_)
    refine wp_bipush (v := 57) dX7_seesDigit_13 rfl ?_
    refine wp_icmp_gt 22 dX7_seesDigit_15 (by decide) (fun hc => ?_) (fun hc => ?_)
    · replace h := h.1 hc
      refine wp_iconst (v := 0) dX7_seesDigit_22 rfl ?_
      exact wp_iret dX7_seesDigit_23 rfl ⟨_, rfl, rfl, rfl, rfl, h⟩
    · replace h := h.2 (Int32.not_lt.mp hc)
      refine wp_iconst (v := 1) dX7_seesDigit_18 rfl ?_
      refine wp_goto 23 dX7_seesDigit_19 (by decide) ?_
      exact wp_iret dX7_seesDigit_23 rfl ⟨_, rfl, rfl, rfl, rfl, h⟩
theorem n7_seesDigit {E : eT} {Q : Int32 → vT → Prop} {V : vT} {o : Nat} (h : w7_seesDigit E Q 0 [some (vr o)] [] V) : c7_seesDigit E o V Q := MOk.enter [some (vr o)] pn_X7 rfl rfl (Nat.le_of_ble_eq_true rfl) rfl h
theorem b7_number_0 {E : eT} {Q : Int32 → vT → Prop} {V : vT} {tl : Nat} {o : Nat} (hC : CM E tl) (hS : RD E o) (h : w7_number E Q 7 [some (vr o), some (vi (V o 2)), some (vi 0)] [] V) : w7_number E Q 0 [some (vr o), none, none] [] V := by
  refine wp_aload_n dX7_number_0 rfl ?_
  refine wp_geti dX7_number_1 fk7_26_6 (RD.b0 hS) (RD.k0 hS) rfl ?_
  refine wi3_1 dX7_number_4 ?_
  refine wp_iconst (v := 0) dX7_number_5 rfl ?_
  refine wi3_2 dX7_number_6 ?_
  exact h
theorem b7_number_7 {E : eT} {Q : Int32 → vT → Prop} {V : vT} {tl : Nat} {o : Nat} {x1 x2 : Int32} (hC : CM E tl) (hS : RD E o) (h : c7_isGood E o V (fun r8 V8 => (r8 = 0 → Q x2 V8) ∧ (¬ r8 = 0 → c7_seesDigit E o V8 (fun r15 V15 => (r15 = 0 → Q x2 V15) ∧ (¬ r15 = 0 → (¬ (V15 o 2) = (x1 + 5) → c7_here E o V15 (fun r45 V45 => w7_number E Q 7 [some (vr o), some (vi x1), some (vi (((10 * x2) + r45) - 48))] [] (up2 V45 o 2 ((V45 o 2) + 1)))) ∧ ((V15 o 2) = (x1 + 5) → c7_bad E o 2 (V15 o 2) V15 (fun V37 => c7_here E o V37 (fun r45' V45' => w7_number E Q 7 [some (vr o), some (vi x1), some (vi (((10 * x2) + r45') - 48))] [] (up2 V45' o 2 ((V45' o 2) + 1)))))))))) : w7_number E Q 7 [some (vr o), some (vi x1), some (vi x2)] [] V := by
  refine wp_aload_n dX7_number_7 rfl ?_
  refine wq_VI0 lk7_43 rfl (RD.b0 hS) (RD.k0 hS) dX7_number_8 h (rmQ_ok (by decide) (by decide)) ⟨Nat.le_refl _, Nat.le_refl _⟩ (Nat.le_of_ble_eq_true rfl) (fun r8 V8 h => ?_)
  refine wp_if_eq 66 dX7_number_11 (by decide) (fun hc => ?_) (fun hc => ?_)
  · replace h := h.1 hc
    refine wp_iload_n dX7_number_66 rfl ?_
    exact wp_iret dX7_number_67 rfl ⟨_, rfl, rfl, rfl, rfl, h⟩
  · replace h := h.2 hc
    refine wp_aload_n dX7_number_14 rfl ?_
    refine wq_VI0 lk7_47 rfl (RD.b0 hS) (RD.k0 hS) dX7_number_15 h (rmQ_ok (by decide) (by decide)) ⟨Nat.le_refl _, Nat.le_refl _⟩ (Nat.le_of_ble_eq_true rfl) (fun r15 V15 h => ?_)
    refine wp_if_eq 66 dX7_number_18 (by decide) (fun hc => ?_) (fun hc => ?_)
    · replace h := h.1 hc
      refine wp_iload_n dX7_number_66 rfl ?_
      exact wp_iret dX7_number_67 rfl ⟨_, rfl, rfl, rfl, rfl, h⟩
    · replace h := h.2 hc
      refine wp_aload_n dX7_number_21 rfl ?_
      refine wp_geti dX7_number_22 fk7_26_6 (RD.b0 hS) (RD.k0 hS) rfl ?_
      refine wp_iload_n dX7_number_25 rfl ?_
      refine wp_iconst (v := 5) dX7_number_26 rfl ?_
      refine wp_iadd dX7_number_27 ?_
      refine wp_icmp_ne 40 dX7_number_28 (by decide) (fun hc => ?_) (fun hc => ?_)
      · replace h := h.1 hc
        refine wp_bipush (v := 10) dX7_number_40 rfl ?_
        refine wp_iload_n dX7_number_42 rfl ?_
        refine wp_imul dX7_number_43 ?_
        refine wp_aload_n dX7_number_44 rfl ?_
        refine wq_VI0 lk7_39 rfl (RD.b0 hS) (RD.k0 hS) dX7_number_45 h (rmQ_ok (by decide) (by decide)) ⟨Nat.le_refl _, Nat.le_refl _⟩ (Nat.le_of_ble_eq_true rfl) (fun r45 V45 h => ?_)
        refine wp_iadd dX7_number_48 ?_
        refine wp_bipush (v := 48) dX7_number_49 rfl ?_
        refine wp_isub dX7_number_51 ?_
        refine wi3_2 dX7_number_52 ?_
        refine wp_aload_n dX7_number_53 rfl ?_
        refine wp_dup dX7_number_54 ?_
        refine wp_geti dX7_number_55 fk7_26_6 (RD.b0 hS) (RD.k0 hS) rfl ?_
        refine wp_iconst (v := 1) dX7_number_58 rfl ?_
        refine wp_iadd dX7_number_59 ?_
        refine wp_puti dX7_number_60 fp7_26_6 (RD.b0 hS) (RD.k0 hS) rfl ?_
        refine wp_goto 7 dX7_number_63 (by decide) ?_
        exact h
      · replace h := h.2 hc
        refine wp_aload_n dX7_number_31 rfl ?_
        refine wp_iconst (v := 2) dX7_number_32 rfl ?_
        refine wp_aload_n dX7_number_33 rfl ?_
        refine wp_geti dX7_number_34 fk7_26_6 (RD.b0 hS) (RD.k0 hS) rfl ?_
        refine wq_VV2 lk7_50 rfl (RD.b0 hS) (RD.k0 hS) dX7_number_37 h (rmQ_ok (by decide) (by decide)) ⟨Nat.le_refl _, Nat.le_refl _⟩ (Nat.le_of_ble_eq_true rfl) (fun V37 h => ?_)
        refine wp_bipush (v := 10) dX7_number_40 rfl ?_
        refine wp_iload_n dX7_number_42 rfl ?_
        refine wp_imul dX7_number_43 ?_
        refine wp_aload_n dX7_number_44 rfl ?_
        refine wq_VI0 lk7_39 rfl (RD.b0 hS) (RD.k0 hS) dX7_number_45 h (rmQ_ok (by decide) (by decide)) ⟨Nat.le_refl _, Nat.le_refl _⟩ (Nat.le_of_ble_eq_true rfl) (fun r45' V45' h => ?_)
        refine wp_iadd dX7_number_48 ?_
        refine wp_bipush (v := 48) dX7_number_49 rfl ?_
        refine wp_isub dX7_number_51 ?_
        refine wi3_2 dX7_number_52 ?_
        refine wp_aload_n dX7_number_53 rfl ?_
        refine wp_dup dX7_number_54 ?_
        refine wp_geti dX7_number_55 fk7_26_6 (RD.b0 hS) (RD.k0 hS) rfl ?_
        refine wp_iconst (v := 1) dX7_number_58 rfl ?_
        refine wp_iadd dX7_number_59 ?_
        refine wp_puti dX7_number_60 fp7_26_6 (RD.b0 hS) (RD.k0 hS) rfl ?_
        refine wp_goto 7 dX7_number_63 (by decide) ?_
        exact h
theorem n7_number {E : eT} {Q : Int32 → vT → Prop} {V : vT} {o : Nat} (h : w7_number E Q 0 [some (vr o), none, none] [] V) : c7_number E o V Q := MOk.enter [some (vr o), none, none] pn_X7 rfl rfl (Nat.le_of_ble_eq_true rfl) rfl h
theorem b16s_sees_0 {E : eT} {Q : Int32 → vT → Prop} {V : vT} {tl : Nat} {o : Nat} {x1 x2 : Int32} (hC : CM E tl) (hS : SV E o) (h : c16s_here E o V (fun r1 V1 => (r1 < x1 → Q 0 V1) ∧ (x1 ≤ r1 → c16s_here E o V1 (fun r9 V9 => (x2 < r9 → Q 0 V9) ∧ (r9 ≤ x2 → Q 1 V9))))) : w16s_sees E Q 0 [some (vr o), some (vi x1), some (vi x2)] [] V := by
  refine wp_aload_n dX16_sees_0 rfl ?_
  refine wq_UI0 lk16_36_13 rfl (SV.b0 hS) (SV.k0 hS) dX16_sees_1 h (rmQ_ok (by decide) (by decide)) ⟨Nat.le_refl _, Nat.le_refl _⟩ (Nat.le_of_ble_eq_true rfl) (fun r1 V1 h => ?_)
  refine wp_iload_n dX16_sees_4 rfl ?_
  refine wp_icmp_lt 20 dX16_sees_5 (by decide) (fun hc => ?_) (fun hc => ?_)
  · replace h := h.1 hc
    refine wp_iconst (v := 0) dX16_sees_20 rfl ?_
    exact wp_iret dX16_sees_21 rfl ⟨_, rfl, rfl, rfl, rfl, h⟩
  · replace h := h.2 (Int32.not_lt.mp hc)
    refine wp_aload_n dX16_sees_8 rfl ?_
    refine wq_UI0 lk16_36_13 rfl (SV.b0 hS) (SV.k0 hS) dX16_sees_9 h (rmQ_ok (by decide) (by decide)) ⟨Nat.le_refl _, Nat.le_refl _⟩ (Nat.le_of_ble_eq_true rfl) (fun r9 V9 h => ?_)
    refine wp_iload_n dX16_sees_12 rfl ?_
    refine wp_icmp_gt 20 dX16_sees_13 (by decide) (fun hc => ?_) (fun hc => ?_)
    · replace h := h.1 hc
      refine wp_iconst (v := 0) dX16_sees_20 rfl ?_
      exact wp_iret dX16_sees_21 rfl ⟨_, rfl, rfl, rfl, rfl, h⟩
    · replace h := h.2 (Int32.not_lt.mp hc)
      refine wp_iconst (v := 1) dX16_sees_16 rfl ?_
      refine wp_goto 21 dX16_sees_17 (by decide) ?_
      exact wp_iret dX16_sees_21 rfl ⟨_, rfl, rfl, rfl, rfl, h⟩
theorem n16s_sees {E : eT} {Q : Int32 → vT → Prop} {V : vT} {o : Nat} {x1 x2 : Int32} (h : w16s_sees E Q 0 [some (vr o), some (vi x1), some (vi x2)] [] V) : c16s_sees E o x1 x2 V Q := MOk.enter [some (vr o), some (vi x1), some (vi x2)] pn_X16 rfl rfl (Nat.le_of_ble_eq_true rfl) rfl h
theorem b16c_sees_0 {E : eT} {Q : Int32 → vT → Prop} {V : vT} {tl : Nat} {o : Nat} {x1 x2 : Int32} (hC : CM E tl) (hS : CL E o) (h : c16c_here E o V (fun r1 V1 => (r1 < x1 → Q 0 V1) ∧ (x1 ≤ r1 → c16c_here E o V1 (fun r9 V9 => (x2 < r9 → Q 0 V9) ∧ (r9 ≤ x2 → Q 1 V9))))) : w16c_sees E Q 0 [some (vr o), some (vi x1), some (vi x2)] [] V := by
  refine wp_aload_n dX16_sees_0 rfl ?_
  refine wq_UI0 lk16_36_14 rfl (CL.b0 hS) (CL.k0 hS) dX16_sees_1 h (rmQ_ok (by decide) (by decide)) ⟨Nat.le_refl _, Nat.le_refl _⟩ (Nat.le_of_ble_eq_true rfl) (fun r1 V1 h => ?_)
  refine wp_iload_n dX16_sees_4 rfl ?_
  refine wp_icmp_lt 20 dX16_sees_5 (by decide) (fun hc => ?_) (fun hc => ?_)
  · replace h := h.1 hc
    refine wp_iconst (v := 0) dX16_sees_20 rfl ?_
    exact wp_iret dX16_sees_21 rfl ⟨_, rfl, rfl, rfl, rfl, h⟩
  · replace h := h.2 (Int32.not_lt.mp hc)
    refine wp_aload_n dX16_sees_8 rfl ?_
    refine wq_UI0 lk16_36_14 rfl (CL.b0 hS) (CL.k0 hS) dX16_sees_9 h (rmQ_ok (by decide) (by decide)) ⟨Nat.le_refl _, Nat.le_refl _⟩ (Nat.le_of_ble_eq_true rfl) (fun r9 V9 h => ?_)
    refine wp_iload_n dX16_sees_12 rfl ?_
    refine wp_icmp_gt 20 dX16_sees_13 (by decide) (fun hc => ?_) (fun hc => ?_)
    · replace h := h.1 hc
      refine wp_iconst (v := 0) dX16_sees_20 rfl ?_
      exact wp_iret dX16_sees_21 rfl ⟨_, rfl, rfl, rfl, rfl, h⟩
    · replace h := h.2 (Int32.not_lt.mp hc)
      refine wp_iconst (v := 1) dX16_sees_16 rfl ?_
      refine wp_goto 21 dX16_sees_17 (by decide) ?_
      exact wp_iret dX16_sees_21 rfl ⟨_, rfl, rfl, rfl, rfl, h⟩
theorem n16c_sees {E : eT} {Q : Int32 → vT → Prop} {V : vT} {o : Nat} {x1 x2 : Int32} (h : w16c_sees E Q 0 [some (vr o), some (vi x1), some (vi x2)] [] V) : c16c_sees E o x1 x2 V Q := MOk.enter [some (vr o), some (vi x1), some (vi x2)] pn_X16 rfl rfl (Nat.le_of_ble_eq_true rfl) rfl h
theorem b16s_here_0 {E : eT} {Q : Int32 → vT → Prop} {V : vT} {tl : Nat} {o : Nat} (hC : CM E tl) (hS : SV E o) (h : ((V o 0) ≤ (V o 1) → Q 0 V) ∧ ((V o 1) < (V o 0) → vp_in (V o 1) 260 ∧ (Q ((V 106 ((V o 1).toNatClampNeg)) &&& 255) V))) : w16s_here E Q 0 [some (vr o)] [] V := by
  refine wp_aload_n dX16_here_0 rfl ?_
  refine wp_geti dX16_here_1 fk16_17_13 (SV.b0 hS) (SV.k0 hS) rfl ?_
  refine wp_aload_n dX16_here_4 rfl ?_
  refine wp_geti dX16_here_5 fk16_13_13 (SV.b0 hS) (SV.k0 hS) rfl ?_
  refine wp_icmp_ge 30 dX16_here_8 (by decide) (fun hc => ?_) (fun hc => ?_)
  · replace h := h.1 hc
    refine wp_iconst (v := 0) dX16_here_30 rfl ?_
    exact wp_iret dX16_here_31 rfl ⟨_, rfl, rfl, rfl, rfl, h⟩
  · replace h := h.2 (Int32.not_le.mp hc)
    refine wp_aload_n dX16_here_11 rfl ?_
    refine wp_getrs dX16_here_12 fk16_1_13 (SV.b0 hS) (SV.k0 hS) rfl (SV.r4 hS) ?_
    refine wp_getrs dX16_here_15 fk16_20_0 (cb_16 hC) (ck_16 hC) rfl (cr_5 hC) ?_
    refine wp_aload_n dX16_here_18 rfl ?_
    refine wp_geti dX16_here_19 fk16_17_13 (SV.b0 hS) (SV.k0 hS) rfl ?_
    refine wp_bald dX16_here_22 (cb_106 hC).2 (ck_106 hC) h.1 ?_
    replace h := h.2
    refine wp_sipush (v := 255) dX16_here_23 rfl ?_
    refine wp_iand dX16_here_26 ?_
    refine wp_goto 31 dX16_here_27 (by decide) ?_
    exact wp_iret dX16_here_31 rfl ⟨_, rfl, rfl, rfl, rfl, h⟩
theorem n16s_here {E : eT} {Q : Int32 → vT → Prop} {V : vT} {o : Nat} (h : w16s_here E Q 0 [some (vr o)] [] V) : c16s_here E o V Q := MOk.enter [some (vr o)] pn_X16 rfl rfl (Nat.le_of_ble_eq_true rfl) rfl h
theorem b16c_here_0 {E : eT} {Q : Int32 → vT → Prop} {V : vT} {tl : Nat} {o : Nat} (hC : CM E tl) (hS : CL E o) (h : ((V o 0) ≤ (V o 1) → Q 0 V) ∧ ((V o 1) < (V o 0) → vp_in (V o 1) 260 ∧ (Q ((V 106 ((V o 1).toNatClampNeg)) &&& 255) V))) : w16c_here E Q 0 [some (vr o)] [] V := by
  refine wp_aload_n dX16_here_0 rfl ?_
  refine wp_geti dX16_here_1 fk16_17_14 (CL.b0 hS) (CL.k0 hS) rfl ?_
  refine wp_aload_n dX16_here_4 rfl ?_
  refine wp_geti dX16_here_5 fk16_13_14 (CL.b0 hS) (CL.k0 hS) rfl ?_
  refine wp_icmp_ge 30 dX16_here_8 (by decide) (fun hc => ?_) (fun hc => ?_)
  · replace h := h.1 hc
    refine wp_iconst (v := 0) dX16_here_30 rfl ?_
    exact wp_iret dX16_here_31 rfl ⟨_, rfl, rfl, rfl, rfl, h⟩
  · replace h := h.2 (Int32.not_le.mp hc)
    refine wp_aload_n dX16_here_11 rfl ?_
    refine wp_getrs dX16_here_12 fk16_1_14 (CL.b0 hS) (CL.k0 hS) rfl (CL.r4 hS) ?_
    refine wp_getrs dX16_here_15 fk16_20_0 (cb_16 hC) (ck_16 hC) rfl (cr_5 hC) ?_
    refine wp_aload_n dX16_here_18 rfl ?_
    refine wp_geti dX16_here_19 fk16_17_14 (CL.b0 hS) (CL.k0 hS) rfl ?_
    refine wp_bald dX16_here_22 (cb_106 hC).2 (ck_106 hC) h.1 ?_
    replace h := h.2
    refine wp_sipush (v := 255) dX16_here_23 rfl ?_
    refine wp_iand dX16_here_26 ?_
    refine wp_goto 31 dX16_here_27 (by decide) ?_
    exact wp_iret dX16_here_31 rfl ⟨_, rfl, rfl, rfl, rfl, h⟩
theorem n16c_here {E : eT} {Q : Int32 → vT → Prop} {V : vT} {o : Nat} (h : w16c_here E Q 0 [some (vr o)] [] V) : c16c_here E o V Q := MOk.enter [some (vr o)] pn_X16 rfl rfl (Nat.le_of_ble_eq_true rfl) rfl h
theorem b16s_place_0 {E : eT} {Q : Int32 → vT → Prop} {V : vT} {tl : Nat} {o : Nat} (hC : CM E tl) (hS : SV E o) (h : Q (V o 1) V) : w16s_place E Q 0 [some (vr o)] [] V := by
  refine wp_aload_n dX16_place_0 rfl ?_
  refine wp_geti dX16_place_1 fk16_17_13 (SV.b0 hS) (SV.k0 hS) rfl ?_
  exact wp_iret dX16_place_4 rfl ⟨_, rfl, rfl, rfl, rfl, h⟩
theorem n16s_place {E : eT} {Q : Int32 → vT → Prop} {V : vT} {o : Nat} (h : w16s_place E Q 0 [some (vr o)] [] V) : c16s_place E o V Q := MOk.enter [some (vr o)] pn_X16 rfl rfl (Nat.le_of_ble_eq_true rfl) rfl h
theorem b16c_place_0 {E : eT} {Q : Int32 → vT → Prop} {V : vT} {tl : Nat} {o : Nat} (hC : CM E tl) (hS : CL E o) (h : Q (V o 1) V) : w16c_place E Q 0 [some (vr o)] [] V := by
  refine wp_aload_n dX16_place_0 rfl ?_
  refine wp_geti dX16_place_1 fk16_17_14 (CL.b0 hS) (CL.k0 hS) rfl ?_
  exact wp_iret dX16_place_4 rfl ⟨_, rfl, rfl, rfl, rfl, h⟩
theorem n16c_place {E : eT} {Q : Int32 → vT → Prop} {V : vT} {o : Nat} (h : w16c_place E Q 0 [some (vr o)] [] V) : c16c_place E o V Q := MOk.enter [some (vr o)] pn_X16 rfl rfl (Nat.le_of_ble_eq_true rfl) rfl h
theorem b16s_bad_0 {E : eT} {Q : vT → Prop} {V : vT} {tl : Nat} {o : Nat} {x1 x2 : Int32} (hC : CM E tl) (hS : SV E o) (h : ((V o 2) ≤ 0 → Q (up2 (up2 V o 2 x1) o 3 x2)) ∧ (0 < (V o 2) → Q V)) : w16s_bad E Q 0 [some (vr o), some (vi x1), some (vi x2)] [] V := by
  refine wp_aload_n dX16_bad_0 rfl ?_
  refine wp_geti dX16_bad_1 fk16_26_13 (SV.b0 hS) (SV.k0 hS) rfl ?_
  refine wp_if_le 8 dX16_bad_4 (by decide) (fun hc => ?_) (fun hc => ?_)
  · replace h := h.1 hc
    refine wp_aload_n dX16_bad_8 rfl ?_
    refine wp_iload_n dX16_bad_9 rfl ?_
    refine wp_puti dX16_bad_10 fp16_26_13 (SV.b0 hS) (SV.k0 hS) rfl ?_
    refine wp_aload_n dX16_bad_13 rfl ?_
    refine wp_iload_n dX16_bad_14 rfl ?_
    refine wp_puti dX16_bad_15 fp16_29_13 (SV.b0 hS) (SV.k0 hS) rfl ?_
    exact wp_vret dX16_bad_18 ⟨rfl, rfl, rfl, rfl, h⟩
  · replace h := h.2 (Int32.not_le.mp hc)
    exact wp_vret dX16_bad_7 ⟨rfl, rfl, rfl, rfl, h⟩
theorem n16s_bad {E : eT} {Q : vT → Prop} {V : vT} {o : Nat} {x1 x2 : Int32} (h : w16s_bad E Q 0 [some (vr o), some (vi x1), some (vi x2)] [] V) : c16s_bad E o x1 x2 V Q := MOk.enter [some (vr o), some (vi x1), some (vi x2)] pn_X16 rfl rfl (Nat.le_of_ble_eq_true rfl) rfl h
theorem b16c_bad_0 {E : eT} {Q : vT → Prop} {V : vT} {tl : Nat} {o : Nat} {x1 x2 : Int32} (hC : CM E tl) (hS : CL E o) (h : ((V o 2) ≤ 0 → Q (up2 (up2 V o 2 x1) o 3 x2)) ∧ (0 < (V o 2) → Q V)) : w16c_bad E Q 0 [some (vr o), some (vi x1), some (vi x2)] [] V := by
  refine wp_aload_n dX16_bad_0 rfl ?_
  refine wp_geti dX16_bad_1 fk16_26_14 (CL.b0 hS) (CL.k0 hS) rfl ?_
  refine wp_if_le 8 dX16_bad_4 (by decide) (fun hc => ?_) (fun hc => ?_)
  · replace h := h.1 hc
    refine wp_aload_n dX16_bad_8 rfl ?_
    refine wp_iload_n dX16_bad_9 rfl ?_
    refine wp_puti dX16_bad_10 fp16_26_14 (CL.b0 hS) (CL.k0 hS) rfl ?_
    refine wp_aload_n dX16_bad_13 rfl ?_
    refine wp_iload_n dX16_bad_14 rfl ?_
    refine wp_puti dX16_bad_15 fp16_29_14 (CL.b0 hS) (CL.k0 hS) rfl ?_
    exact wp_vret dX16_bad_18 ⟨rfl, rfl, rfl, rfl, h⟩
  · replace h := h.2 (Int32.not_le.mp hc)
    exact wp_vret dX16_bad_7 ⟨rfl, rfl, rfl, rfl, h⟩
theorem n16c_bad {E : eT} {Q : vT → Prop} {V : vT} {o : Nat} {x1 x2 : Int32} (h : w16c_bad E Q 0 [some (vr o), some (vi x1), some (vi x2)] [] V) : c16c_bad E o x1 x2 V Q := MOk.enter [some (vr o), some (vi x1), some (vi x2)] pn_X16 rfl rfl (Nat.le_of_ble_eq_true rfl) rfl h
theorem b16s_isGood_0 {E : eT} {Q : Int32 → vT → Prop} {V : vT} {tl : Nat} {o : Nat} (hC : CM E tl) (hS : SV E o) (h : (¬ (V o 2) = 0 → Q 0 V) ∧ ((V o 2) = 0 → Q 1 V)) : w16s_isGood E Q 0 [some (vr o)] [] V := by
  refine wp_aload_n dX16_isGood_0 rfl ?_
  refine wp_geti dX16_isGood_1 fk16_26_13 (SV.b0 hS) (SV.k0 hS) rfl ?_
  refine wp_if_ne 11 dX16_isGood_4 (by decide) (fun hc => ?_) (fun hc => ?_)
  · replace h := h.1 hc
    refine wp_iconst (v := 0) dX16_isGood_11 rfl ?_
    exact wp_iret dX16_isGood_12 rfl ⟨_, rfl, rfl, rfl, rfl, h⟩
  · replace h := h.2 hc
    refine wp_iconst (v := 1) dX16_isGood_7 rfl ?_
    refine wp_goto 12 dX16_isGood_8 (by decide) ?_
    exact wp_iret dX16_isGood_12 rfl ⟨_, rfl, rfl, rfl, rfl, h⟩
theorem n16s_isGood {E : eT} {Q : Int32 → vT → Prop} {V : vT} {o : Nat} (h : w16s_isGood E Q 0 [some (vr o)] [] V) : c16s_isGood E o V Q := MOk.enter [some (vr o)] pn_X16 rfl rfl (Nat.le_of_ble_eq_true rfl) rfl h
theorem b16c_isGood_0 {E : eT} {Q : Int32 → vT → Prop} {V : vT} {tl : Nat} {o : Nat} (hC : CM E tl) (hS : CL E o) (h : (¬ (V o 2) = 0 → Q 0 V) ∧ ((V o 2) = 0 → Q 1 V)) : w16c_isGood E Q 0 [some (vr o)] [] V := by
  refine wp_aload_n dX16_isGood_0 rfl ?_
  refine wp_geti dX16_isGood_1 fk16_26_14 (CL.b0 hS) (CL.k0 hS) rfl ?_
  refine wp_if_ne 11 dX16_isGood_4 (by decide) (fun hc => ?_) (fun hc => ?_)
  · replace h := h.1 hc
    refine wp_iconst (v := 0) dX16_isGood_11 rfl ?_
    exact wp_iret dX16_isGood_12 rfl ⟨_, rfl, rfl, rfl, rfl, h⟩
  · replace h := h.2 hc
    refine wp_iconst (v := 1) dX16_isGood_7 rfl ?_
    refine wp_goto 12 dX16_isGood_8 (by decide) ?_
    exact wp_iret dX16_isGood_12 rfl ⟨_, rfl, rfl, rfl, rfl, h⟩
theorem n16c_isGood {E : eT} {Q : Int32 → vT → Prop} {V : vT} {o : Nat} (h : w16c_isGood E Q 0 [some (vr o)] [] V) : c16c_isGood E o V Q := MOk.enter [some (vr o)] pn_X16 rfl rfl (Nat.le_of_ble_eq_true rfl) rfl h
theorem b16s_goes_0 {E : eT} {Q : vT → Prop} {V : vT} {tl : Nat} {o : Nat} (hC : CM E tl) (hS : SV E o) (h : Q (up2 V o 1 ((V o 1) + 1))) : w16s_goes E Q 0 [some (vr o)] [] V := by
  refine wp_aload_n dX16_goes_0 rfl ?_
  refine wp_dup dX16_goes_1 ?_
  refine wp_geti dX16_goes_2 fk16_17_13 (SV.b0 hS) (SV.k0 hS) rfl ?_
  refine wp_iconst (v := 1) dX16_goes_5 rfl ?_
  refine wp_iadd dX16_goes_6 ?_
  refine wp_puti dX16_goes_7 fp16_17_13 (SV.b0 hS) (SV.k0 hS) rfl ?_
  exact wp_vret dX16_goes_10 ⟨rfl, rfl, rfl, rfl, h⟩
theorem n16s_goes {E : eT} {Q : vT → Prop} {V : vT} {o : Nat} (h : w16s_goes E Q 0 [some (vr o)] [] V) : c16s_goes E o V Q := MOk.enter [some (vr o)] pn_X16 rfl rfl (Nat.le_of_ble_eq_true rfl) rfl h
theorem b16c_goes_0 {E : eT} {Q : vT → Prop} {V : vT} {tl : Nat} {o : Nat} (hC : CM E tl) (hS : CL E o) (h : Q (up2 V o 1 ((V o 1) + 1))) : w16c_goes E Q 0 [some (vr o)] [] V := by
  refine wp_aload_n dX16_goes_0 rfl ?_
  refine wp_dup dX16_goes_1 ?_
  refine wp_geti dX16_goes_2 fk16_17_14 (CL.b0 hS) (CL.k0 hS) rfl ?_
  refine wp_iconst (v := 1) dX16_goes_5 rfl ?_
  refine wp_iadd dX16_goes_6 ?_
  refine wp_puti dX16_goes_7 fp16_17_14 (CL.b0 hS) (CL.k0 hS) rfl ?_
  exact wp_vret dX16_goes_10 ⟨rfl, rfl, rfl, rfl, h⟩
theorem n16c_goes {E : eT} {Q : vT → Prop} {V : vT} {o : Nat} (h : w16c_goes E Q 0 [some (vr o)] [] V) : c16c_goes E o V Q := MOk.enter [some (vr o)] pn_X16 rfl rfl (Nat.le_of_ble_eq_true rfl) rfl h
theorem b16s_isEnd_0 {E : eT} {Q : Int32 → vT → Prop} {V : vT} {tl : Nat} {o : Nat} (hC : CM E tl) (hS : SV E o) (h : ((V o 1) < (V o 0) → Q 0 V) ∧ ((V o 0) ≤ (V o 1) → Q 1 V)) : w16s_isEnd E Q 0 [some (vr o)] [] V := by
  refine wp_aload_n dX16_isEnd_0 rfl ?_
  refine wp_geti dX16_isEnd_1 fk16_17_13 (SV.b0 hS) (SV.k0 hS) rfl ?_
  refine wp_aload_n dX16_isEnd_4 rfl ?_
  refine wp_geti dX16_isEnd_5 fk16_13_13 (SV.b0 hS) (SV.k0 hS) rfl ?_
  refine wp_icmp_lt 15 dX16_isEnd_8 (by decide) (fun hc => ?_) (fun hc => ?_)
  · replace h := h.1 hc
    refine wp_iconst (v := 0) dX16_isEnd_15 rfl ?_
    exact wp_iret dX16_isEnd_16 rfl ⟨_, rfl, rfl, rfl, rfl, h⟩
  · replace h := h.2 (Int32.not_lt.mp hc)
    refine wp_iconst (v := 1) dX16_isEnd_11 rfl ?_
    refine wp_goto 16 dX16_isEnd_12 (by decide) ?_
    exact wp_iret dX16_isEnd_16 rfl ⟨_, rfl, rfl, rfl, rfl, h⟩
theorem n16s_isEnd {E : eT} {Q : Int32 → vT → Prop} {V : vT} {o : Nat} (h : w16s_isEnd E Q 0 [some (vr o)] [] V) : c16s_isEnd E o V Q := MOk.enter [some (vr o)] pn_X16 rfl rfl (Nat.le_of_ble_eq_true rfl) rfl h
theorem b16c_isEnd_0 {E : eT} {Q : Int32 → vT → Prop} {V : vT} {tl : Nat} {o : Nat} (hC : CM E tl) (hS : CL E o) (h : ((V o 1) < (V o 0) → Q 0 V) ∧ ((V o 0) ≤ (V o 1) → Q 1 V)) : w16c_isEnd E Q 0 [some (vr o)] [] V := by
  refine wp_aload_n dX16_isEnd_0 rfl ?_
  refine wp_geti dX16_isEnd_1 fk16_17_14 (CL.b0 hS) (CL.k0 hS) rfl ?_
  refine wp_aload_n dX16_isEnd_4 rfl ?_
  refine wp_geti dX16_isEnd_5 fk16_13_14 (CL.b0 hS) (CL.k0 hS) rfl ?_
  refine wp_icmp_lt 15 dX16_isEnd_8 (by decide) (fun hc => ?_) (fun hc => ?_)
  · replace h := h.1 hc
    refine wp_iconst (v := 0) dX16_isEnd_15 rfl ?_
    exact wp_iret dX16_isEnd_16 rfl ⟨_, rfl, rfl, rfl, rfl, h⟩
  · replace h := h.2 (Int32.not_lt.mp hc)
    refine wp_iconst (v := 1) dX16_isEnd_11 rfl ?_
    refine wp_goto 16 dX16_isEnd_12 (by decide) ?_
    exact wp_iret dX16_isEnd_16 rfl ⟨_, rfl, rfl, rfl, rfl, h⟩
theorem n16c_isEnd {E : eT} {Q : Int32 → vT → Prop} {V : vT} {o : Nat} (h : w16c_isEnd E Q 0 [some (vr o)] [] V) : c16c_isEnd E o V Q := MOk.enter [some (vr o)] pn_X16 rfl rfl (Nat.le_of_ble_eq_true rfl) rfl h
theorem b16s_answer_0 {E : eT} {Q : Int32 → vT → Prop} {V : vT} {tl : Nat} {o : Nat} {x1 : Int32} (hC : CM E tl) (hS : SV E o) (h : c16s_isGood E o V (fun r1 V1 => (r1 = 0 → Q (((-1000) * (V1 o 2)) - (V1 o 3)) V1) ∧ (¬ r1 = 0 → Q x1 V1))) : w16s_answer E Q 0 [some (vr o), some (vi x1)] [] V := by
  refine wp_aload_n dX16_answer_0 rfl ?_
  refine wq_UI0 lk16_32_13 rfl (SV.b0 hS) (SV.k0 hS) dX16_answer_1 h (rmQ_ok (by decide) (by decide)) ⟨Nat.le_refl _, Nat.le_refl _⟩ (Nat.le_of_ble_eq_true rfl) (fun r1 V1 h => ?_)
  refine wp_if_eq 11 dX16_answer_4 (by decide) (fun hc => ?_) (fun hc => ?_)
  · replace h := h.1 hc
    refine wp_sipush (v := (-1000)) dX16_answer_11 rfl ?_
    refine wp_aload_n dX16_answer_14 rfl ?_
    refine wp_geti dX16_answer_15 fk16_26_13 (SV.b0 hS) (SV.k0 hS) rfl ?_
    refine wp_imul dX16_answer_18 ?_
    refine wp_aload_n dX16_answer_19 rfl ?_
    refine wp_geti dX16_answer_20 fk16_29_13 (SV.b0 hS) (SV.k0 hS) rfl ?_
    refine wp_isub dX16_answer_23 ?_
    exact wp_iret dX16_answer_24 rfl ⟨_, rfl, rfl, rfl, rfl, h⟩
  · replace h := h.2 hc
    refine wp_iload_n dX16_answer_7 rfl ?_
    refine wp_goto 24 dX16_answer_8 (by decide) ?_
    exact wp_iret dX16_answer_24 rfl ⟨_, rfl, rfl, rfl, rfl, h⟩
theorem n16s_answer {E : eT} {Q : Int32 → vT → Prop} {V : vT} {o : Nat} {x1 : Int32} (h : w16s_answer E Q 0 [some (vr o), some (vi x1)] [] V) : c16s_answer E o x1 V Q := MOk.enter [some (vr o), some (vi x1)] pn_X16 rfl rfl (Nat.le_of_ble_eq_true rfl) rfl h
theorem b16c_answer_0 {E : eT} {Q : Int32 → vT → Prop} {V : vT} {tl : Nat} {o : Nat} {x1 : Int32} (hC : CM E tl) (hS : CL E o) (h : c16c_isGood E o V (fun r1 V1 => (r1 = 0 → Q (((-1000) * (V1 o 2)) - (V1 o 3)) V1) ∧ (¬ r1 = 0 → Q x1 V1))) : w16c_answer E Q 0 [some (vr o), some (vi x1)] [] V := by
  refine wp_aload_n dX16_answer_0 rfl ?_
  refine wq_UI0 lk16_32_14 rfl (CL.b0 hS) (CL.k0 hS) dX16_answer_1 h (rmQ_ok (by decide) (by decide)) ⟨Nat.le_refl _, Nat.le_refl _⟩ (Nat.le_of_ble_eq_true rfl) (fun r1 V1 h => ?_)
  refine wp_if_eq 11 dX16_answer_4 (by decide) (fun hc => ?_) (fun hc => ?_)
  · replace h := h.1 hc
    refine wp_sipush (v := (-1000)) dX16_answer_11 rfl ?_
    refine wp_aload_n dX16_answer_14 rfl ?_
    refine wp_geti dX16_answer_15 fk16_26_14 (CL.b0 hS) (CL.k0 hS) rfl ?_
    refine wp_imul dX16_answer_18 ?_
    refine wp_aload_n dX16_answer_19 rfl ?_
    refine wp_geti dX16_answer_20 fk16_29_14 (CL.b0 hS) (CL.k0 hS) rfl ?_
    refine wp_isub dX16_answer_23 ?_
    exact wp_iret dX16_answer_24 rfl ⟨_, rfl, rfl, rfl, rfl, h⟩
  · replace h := h.2 hc
    refine wp_iload_n dX16_answer_7 rfl ?_
    refine wp_goto 24 dX16_answer_8 (by decide) ?_
    exact wp_iret dX16_answer_24 rfl ⟨_, rfl, rfl, rfl, rfl, h⟩
theorem n16c_answer {E : eT} {Q : Int32 → vT → Prop} {V : vT} {o : Nat} {x1 : Int32} (h : w16c_answer E Q 0 [some (vr o), some (vi x1)] [] V) : c16c_answer E o x1 V Q := MOk.enter [some (vr o), some (vi x1)] pn_X16 rfl rfl (Nat.le_of_ble_eq_true rfl) rfl h
theorem b17_read_0 {E : eT} {Q : Int32 → vT → Prop} {V : vT} {tl : Nat} {o : Nat} (hC : CM E tl) (hS : SV E o) (h : c17_row E o V (fun V1 => w17_read E Q 4 [some (vr o), none, none, none, none, none] [] V1)) : w17_read E Q 0 [some (vr o), none, none, none, none, none] [] V := by
  refine wp_aload_n dX17_read_0 rfl ?_
  refine wq_VV0 lk17_66 rfl (SV.b0 hS) (SV.k0 hS) dX17_read_1 h (rmQ_ok (by decide) (by decide)) ⟨Nat.le_refl _, Nat.le_refl _⟩ (Nat.le_of_ble_eq_true rfl) (fun V1 h => ?_)
  exact h
theorem b17_read_4 {E : eT} {Q : Int32 → vT → Prop} {V : vT} {tl : Nat} {o : Nat} (hC : CM E tl) (hS : SV E o) (h : c16s_isGood E o V (fun r5 V5 => (r5 = 0 → w17_read E Q 42 [some (vr o), some (vi 0), some (vr (o + 1)), some (vi 96), some (vi 0), none] [] V5) ∧ (¬ r5 = 0 → c16s_isEnd E o V5 (fun r12 V12 => (¬ r12 = 0 → w17_read E Q 42 [some (vr o), some (vi 0), some (vr (o + 1)), some (vi 96), some (vi 0), none] [] V12) ∧ (r12 = 0 → c16s_goes E o V12 (fun V19 => c17_row E o V19 (fun V23 => w17_read E Q 4 [some (vr o), none, none, none, none, none] [] V23))))))) : w17_read E Q 4 [some (vr o), none, none, none, none, none] [] V := by
  refine wp_aload_n dX17_read_4 rfl ?_
  refine wq_UI0 lk17_53_13 rfl (SV.b0 hS) (SV.k0 hS) dX17_read_5 h (rmQ_ok (by decide) (by decide)) ⟨Nat.le_refl _, Nat.le_refl _⟩ (Nat.le_of_ble_eq_true rfl) (fun r5 V5 h => ?_)
  refine wp_if_eq 29 dX17_read_8 (by decide) (fun hc => ?_) (fun hc => ?_)
  · replace h := h.1 hc
    refine wp_iconst (v := 0) dX17_read_29 rfl ?_
    refine wi6_1 dX17_read_30 ?_
    refine wp_aload_n dX17_read_31 rfl ?_
    refine wp_getrs dX17_read_32 fk17_15_13 (SV.b0 hS) (SV.k0 hS) rfl (SV.r5 hS) ?_
    refine wa6_2 dX17_read_35 ?_
    refine wp_aload_n dX17_read_36 rfl ?_
    refine wp_alen dX17_read_37 (SV.b1 hS).2 (SV.k1 hS) ?_
    refine wi6_3 dX17_read_38 ?_
    refine wp_iconst (v := 0) dX17_read_39 rfl ?_
    refine wi6_4 dX17_read_40 ?_
    exact h
  · replace h := h.2 hc
    refine wp_aload_n dX17_read_11 rfl ?_
    refine wq_UI0 lk17_63_13 rfl (SV.b0 hS) (SV.k0 hS) dX17_read_12 h (rmQ_ok (by decide) (by decide)) ⟨Nat.le_refl _, Nat.le_refl _⟩ (Nat.le_of_ble_eq_true rfl) (fun r12 V12 h => ?_)
    refine wp_if_ne 29 dX17_read_15 (by decide) (fun hc => ?_) (fun hc => ?_)
    · replace h := h.1 hc
      refine wp_iconst (v := 0) dX17_read_29 rfl ?_
      refine wi6_1 dX17_read_30 ?_
      refine wp_aload_n dX17_read_31 rfl ?_
      refine wp_getrs dX17_read_32 fk17_15_13 (SV.b0 hS) (SV.k0 hS) rfl (SV.r5 hS) ?_
      refine wa6_2 dX17_read_35 ?_
      refine wp_aload_n dX17_read_36 rfl ?_
      refine wp_alen dX17_read_37 (SV.b1 hS).2 (SV.k1 hS) ?_
      refine wi6_3 dX17_read_38 ?_
      refine wp_iconst (v := 0) dX17_read_39 rfl ?_
      refine wi6_4 dX17_read_40 ?_
      exact h
    · replace h := h.2 hc
      refine wp_aload_n dX17_read_18 rfl ?_
      refine wq_UV0 lk17_38_13 rfl (SV.b0 hS) (SV.k0 hS) dX17_read_19 h (rmQ_ok (by decide) (by decide)) ⟨Nat.le_refl _, Nat.le_refl _⟩ (Nat.le_of_ble_eq_true rfl) (fun V19 h => ?_)
      refine wp_aload_n dX17_read_22 rfl ?_
      refine wq_VV0 lk17_66 rfl (SV.b0 hS) (SV.k0 hS) dX17_read_23 h (rmQ_ok (by decide) (by decide)) ⟨Nat.le_refl _, Nat.le_refl _⟩ (Nat.le_of_ble_eq_true rfl) (fun V23 h => ?_)
      refine wp_goto 4 dX17_read_26 (by decide) ?_
      exact h
theorem b17_read_42 {E : eT} {Q : Int32 → vT → Prop} {V : vT} {tl : Nat} {o : Nat} {x1 x3 x4 : Int32} (hC : CM E tl) (hS : SV E o) (h : (x3 ≤ x4 → c16s_answer E o x1 V (fun r76 V76 => Q r76 V76)) ∧ (x4 < x3 → vp_in x4 96 ∧ ((¬ (V (o + 1) ((x4).toNatClampNeg)) = 1 → w17_read E Q 42 [some (vr o), some (vi (x1 + 0)), some (vr (o + 1)), some (vi x3), some (vi (x4 + 1)), none] [] V) ∧ ((V (o + 1) ((x4).toNatClampNeg)) = 1 → w17_read E Q 42 [some (vr o), some (vi (x1 + 1)), some (vr (o + 1)), some (vi x3), some (vi (x4 + 1)), none] [] V)))) : w17_read E Q 42 [some (vr o), some (vi x1), some (vr (o + 1)), some (vi x3), some (vi x4), none] [] V := by
  refine wp_iload dX17_read_42 rfl ?_
  refine wp_iload_n dX17_read_44 rfl ?_
  refine wp_icmp_ge 74 dX17_read_45 (by decide) (fun hc => ?_) (fun hc => ?_)
  · replace h := h.1 hc
    refine wp_aload_n dX17_read_74 rfl ?_
    refine wp_iload_n dX17_read_75 rfl ?_
    refine wq_UI1 lk17_69_13 rfl (SV.b0 hS) (SV.k0 hS) dX17_read_76 h (rmQ_ok (by decide) (by decide)) ⟨Nat.le_refl _, Nat.le_refl _⟩ (Nat.le_of_ble_eq_true rfl) (fun r76 V76 h => ?_)
    exact wp_iret dX17_read_79 rfl ⟨_, rfl, rfl, rfl, rfl, h⟩
  · replace h := h.2 (Int32.not_le.mp hc)
    refine wp_aload_n dX17_read_48 rfl ?_
    refine wp_iload dX17_read_49 rfl ?_
    refine wp_iald dX17_read_51 (SV.b1 hS).2 (SV.k1 hS) h.1 ?_
    replace h := h.2
    refine wi6_5 dX17_read_52 ?_
    refine wp_iload_n dX17_read_54 rfl ?_
    refine wp_iload dX17_read_55 rfl ?_
    refine wp_iconst (v := 1) dX17_read_57 rfl ?_
    refine wp_icmp_ne 65 dX17_read_58 (by decide) (fun hc => ?_) (fun hc => ?_)
    · replace h := h.1 hc
      refine wp_iconst (v := 0) dX17_read_65 rfl ?_
      refine wp_iadd dX17_read_66 ?_
      refine wi6_1 dX17_read_67 ?_
      refine wc6_4 1 dX17_read_68 rfl ?_
      refine wp_goto 42 dX17_read_71 (by decide) ?_
      exact wp_drop [some (vr o), some (vi (x1 + 0)), some (vr (o + 1)), some (vi x3), some (vi (x4 + 1)), none] ⟨rfl, ⟨rfl, ⟨rfl, ⟨rfl, ⟨rfl, trivial⟩⟩⟩⟩⟩ h
    · replace h := h.2 hc
      refine wp_iconst (v := 1) dX17_read_61 rfl ?_
      refine wp_goto 66 dX17_read_62 (by decide) ?_
      refine wp_iadd dX17_read_66 ?_
      refine wi6_1 dX17_read_67 ?_
      refine wc6_4 1 dX17_read_68 rfl ?_
      refine wp_goto 42 dX17_read_71 (by decide) ?_
      exact wp_drop [some (vr o), some (vi (x1 + 1)), some (vr (o + 1)), some (vi x3), some (vi (x4 + 1)), none] ⟨rfl, ⟨rfl, ⟨rfl, ⟨rfl, ⟨rfl, trivial⟩⟩⟩⟩⟩ h
theorem n17_read {E : eT} {Q : Int32 → vT → Prop} {V : vT} {o : Nat} (h : w17_read E Q 0 [some (vr o), none, none, none, none, none] [] V) : c17_read E o V Q := MOk.enter [some (vr o), none, none, none, none, none] pn_X17 rfl rfl (Nat.le_of_ble_eq_true rfl) rfl h
theorem b17_row_0 {E : eT} {Q : vT → Prop} {V : vT} {tl : Nat} {o : Nat} (hC : CM E tl) (hS : SV E o) (h : (¬ (V o 6) = 8 → c16s_isGood E o (up2 V o 7 0) (fun r42 V42 => (r42 = 0 → w17_row E Q 52 [some (vr o)] [] V42) ∧ (¬ r42 = 0 → c17_sign E o V42 (fun V49 => w17_row E Q 52 [some (vr o)] [] V49)))) ∧ ((V o 6) = 8 → c16s_sees E o 50 57 V (fun r14 V14 => (¬ r14 = 0 → c16s_place E o V14 (fun r30 V30 => c16s_bad E o 4 r30 V30 (fun V33 => c16s_isGood E o (up2 V33 o 7 0) (fun r42' V42' => (r42' = 0 → w17_row E Q 52 [some (vr o)] [] V42') ∧ (¬ r42' = 0 → c17_sign E o V42' (fun V49' => w17_row E Q 52 [some (vr o)] [] V49')))))) ∧ (r14 = 0 → c17_kind E o V14 (fun r21 V21 => (r21 < 0 → c16s_isGood E o (up2 V21 o 7 0) (fun r42'' V42'' => (r42'' = 0 → w17_row E Q 52 [some (vr o)] [] V42'') ∧ (¬ r42'' = 0 → c17_sign E o V42'' (fun V49'' => w17_row E Q 52 [some (vr o)] [] V49'')))) ∧ (0 ≤ r21 → c16s_place E o V21 (fun r30' V30' => c16s_bad E o 4 r30' V30' (fun V33' => c16s_isGood E o (up2 V33' o 7 0) (fun r42''' V42''' => (r42''' = 0 → w17_row E Q 52 [some (vr o)] [] V42''') ∧ (¬ r42''' = 0 → c17_sign E o V42''' (fun V49''' => w17_row E Q 52 [some (vr o)] [] V49'''))))))))))) : w17_row E Q 0 [some (vr o)] [] V := by
  refine wp_aload_n dX17_row_0 rfl ?_
  refine wp_geti dX17_row_1 fk17_57_13 (SV.b0 hS) (SV.k0 hS) rfl ?_
  refine wp_bipush (v := 8) dX17_row_4 rfl ?_
  refine wp_icmp_ne 36 dX17_row_6 (by decide) (fun hc => ?_) (fun hc => ?_)
  · replace h := h.1 hc
    refine wp_aload_n dX17_row_36 rfl ?_
    refine wp_iconst (v := 0) dX17_row_37 rfl ?_
    refine wp_puti dX17_row_38 fp17_49_13 (SV.b0 hS) (SV.k0 hS) rfl ?_
    refine wp_aload_n dX17_row_41 rfl ?_
    refine wq_UI0 lk17_53_13 rfl (SV.b0 hS) (SV.k0 hS) dX17_row_42 h (rmQ_ok (by decide) (by decide)) ⟨Nat.le_refl _, Nat.le_refl _⟩ (Nat.le_of_ble_eq_true rfl) (fun r42 V42 h => ?_)
    refine wp_if_eq 52 dX17_row_45 (by decide) (fun hc => ?_) (fun hc => ?_)
    · replace h := h.1 hc
      exact h
    · replace h := h.2 hc
      refine wp_aload_n dX17_row_48 rfl ?_
      refine wq_VV0 lk17_60 rfl (SV.b0 hS) (SV.k0 hS) dX17_row_49 h (rmQ_ok (by decide) (by decide)) ⟨Nat.le_refl _, Nat.le_refl _⟩ (Nat.le_of_ble_eq_true rfl) (fun V49 h => ?_)
      exact h
  · replace h := h.2 hc
    refine wp_aload_n dX17_row_9 rfl ?_
    refine wp_bipush (v := 50) dX17_row_10 rfl ?_
    refine wp_bipush (v := 57) dX17_row_12 rfl ?_
    refine wq_UI2 lk17_34_13 rfl (SV.b0 hS) (SV.k0 hS) dX17_row_14 h (rmQ_ok (by decide) (by decide)) ⟨Nat.le_refl _, Nat.le_refl _⟩ (Nat.le_of_ble_eq_true rfl) (fun r14 V14 h => ?_)
    refine wp_if_ne 27 dX17_row_17 (by decide) (fun hc => ?_) (fun hc => ?_)
    · replace h := h.1 hc
      refine wp_aload_n dX17_row_27 rfl ?_
      refine wp_iconst (v := 4) dX17_row_28 rfl ?_
      refine wp_aload_n dX17_row_29 rfl ?_
      refine wq_UI0 lk17_31_13 rfl (SV.b0 hS) (SV.k0 hS) dX17_row_30 h (rmQ_ok (by decide) (by decide)) ⟨Nat.le_refl _, Nat.le_refl _⟩ (Nat.le_of_ble_eq_true rfl) (fun r30 V30 h => ?_)
      refine wq_UV2 lk17_45_13 rfl (SV.b0 hS) (SV.k0 hS) dX17_row_33 h (rmQ_ok (by decide) (by decide)) ⟨Nat.le_refl _, Nat.le_refl _⟩ (Nat.le_of_ble_eq_true rfl) (fun V33 h => ?_)
      refine wp_aload_n dX17_row_36 rfl ?_
      refine wp_iconst (v := 0) dX17_row_37 rfl ?_
      refine wp_puti dX17_row_38 fp17_49_13 (SV.b0 hS) (SV.k0 hS) rfl ?_
      refine wp_aload_n dX17_row_41 rfl ?_
      refine wq_UI0 lk17_53_13 rfl (SV.b0 hS) (SV.k0 hS) dX17_row_42 h (rmQ_ok (by decide) (by decide)) ⟨Nat.le_refl _, Nat.le_refl _⟩ (Nat.le_of_ble_eq_true rfl) (fun r42' V42' h => ?_)
      refine wp_if_eq 52 dX17_row_45 (by decide) (fun hc => ?_) (fun hc => ?_)
      · replace h := h.1 hc
        exact h
      · replace h := h.2 hc
        refine wp_aload_n dX17_row_48 rfl ?_
        refine wq_VV0 lk17_60 rfl (SV.b0 hS) (SV.k0 hS) dX17_row_49 h (rmQ_ok (by decide) (by decide)) ⟨Nat.le_refl _, Nat.le_refl _⟩ (Nat.le_of_ble_eq_true rfl) (fun V49' h => ?_)
        exact h
    · replace h := h.2 hc
      refine wp_aload_n dX17_row_20 rfl ?_
      refine wq_VI0 lk17_42 rfl (SV.b0 hS) (SV.k0 hS) dX17_row_21 h (rmQ_ok (by decide) (by decide)) ⟨Nat.le_refl _, Nat.le_refl _⟩ (Nat.le_of_ble_eq_true rfl) (fun r21 V21 h => ?_)
      refine wp_if_lt 36 dX17_row_24 (by decide) (fun hc => ?_) (fun hc => ?_)
      · replace h := h.1 hc
        refine wp_aload_n dX17_row_36 rfl ?_
        refine wp_iconst (v := 0) dX17_row_37 rfl ?_
        refine wp_puti dX17_row_38 fp17_49_13 (SV.b0 hS) (SV.k0 hS) rfl ?_
        refine wp_aload_n dX17_row_41 rfl ?_
        refine wq_UI0 lk17_53_13 rfl (SV.b0 hS) (SV.k0 hS) dX17_row_42 h (rmQ_ok (by decide) (by decide)) ⟨Nat.le_refl _, Nat.le_refl _⟩ (Nat.le_of_ble_eq_true rfl) (fun r42'' V42'' h => ?_)
        refine wp_if_eq 52 dX17_row_45 (by decide) (fun hc => ?_) (fun hc => ?_)
        · replace h := h.1 hc
          exact h
        · replace h := h.2 hc
          refine wp_aload_n dX17_row_48 rfl ?_
          refine wq_VV0 lk17_60 rfl (SV.b0 hS) (SV.k0 hS) dX17_row_49 h (rmQ_ok (by decide) (by decide)) ⟨Nat.le_refl _, Nat.le_refl _⟩ (Nat.le_of_ble_eq_true rfl) (fun V49'' h => ?_)
          exact h
      · replace h := h.2 (Int32.not_lt.mp hc)
        refine wp_aload_n dX17_row_27 rfl ?_
        refine wp_iconst (v := 4) dX17_row_28 rfl ?_
        refine wp_aload_n dX17_row_29 rfl ?_
        refine wq_UI0 lk17_31_13 rfl (SV.b0 hS) (SV.k0 hS) dX17_row_30 h (rmQ_ok (by decide) (by decide)) ⟨Nat.le_refl _, Nat.le_refl _⟩ (Nat.le_of_ble_eq_true rfl) (fun r30' V30' h => ?_)
        refine wq_UV2 lk17_45_13 rfl (SV.b0 hS) (SV.k0 hS) dX17_row_33 h (rmQ_ok (by decide) (by decide)) ⟨Nat.le_refl _, Nat.le_refl _⟩ (Nat.le_of_ble_eq_true rfl) (fun V33' h => ?_)
        refine wp_aload_n dX17_row_36 rfl ?_
        refine wp_iconst (v := 0) dX17_row_37 rfl ?_
        refine wp_puti dX17_row_38 fp17_49_13 (SV.b0 hS) (SV.k0 hS) rfl ?_
        refine wp_aload_n dX17_row_41 rfl ?_
        refine wq_UI0 lk17_53_13 rfl (SV.b0 hS) (SV.k0 hS) dX17_row_42 h (rmQ_ok (by decide) (by decide)) ⟨Nat.le_refl _, Nat.le_refl _⟩ (Nat.le_of_ble_eq_true rfl) (fun r42''' V42''' h => ?_)
        refine wp_if_eq 52 dX17_row_45 (by decide) (fun hc => ?_) (fun hc => ?_)
        · replace h := h.1 hc
          exact h
        · replace h := h.2 hc
          refine wp_aload_n dX17_row_48 rfl ?_
          refine wq_VV0 lk17_60 rfl (SV.b0 hS) (SV.k0 hS) dX17_row_49 h (rmQ_ok (by decide) (by decide)) ⟨Nat.le_refl _, Nat.le_refl _⟩ (Nat.le_of_ble_eq_true rfl) (fun V49''' h => ?_)
          exact h
theorem b17_row_52 {E : eT} {Q : vT → Prop} {V : vT} {tl : Nat} {o : Nat} (hC : CM E tl) (hS : SV E o) (h : c16s_isGood E o V (fun r53 V53 => (r53 = 0 → Q (up2 V53 o 6 ((V53 o 6) + 1))) ∧ (¬ r53 = 0 → c16s_isEnd E o V53 (fun r60 V60 => (¬ r60 = 0 → Q (up2 V60 o 6 ((V60 o 6) + 1))) ∧ (r60 = 0 → c16s_here E o V60 (fun r67 V67 => (r67 = 47 → Q (up2 V67 o 6 ((V67 o 6) + 1))) ∧ (¬ r67 = 47 → c17_sign E o V67 (fun V76 => w17_row E Q 52 [some (vr o)] [] V76)))))))) : w17_row E Q 52 [some (vr o)] [] V := by
  refine wp_aload_n dX17_row_52 rfl ?_
  refine wq_UI0 lk17_53_13 rfl (SV.b0 hS) (SV.k0 hS) dX17_row_53 h (rmQ_ok (by decide) (by decide)) ⟨Nat.le_refl _, Nat.le_refl _⟩ (Nat.le_of_ble_eq_true rfl) (fun r53 V53 h => ?_)
  refine wp_if_eq 82 dX17_row_56 (by decide) (fun hc => ?_) (fun hc => ?_)
  · replace h := h.1 hc
    refine wp_aload_n dX17_row_82 rfl ?_
    refine wp_dup dX17_row_83 ?_
    refine wp_geti dX17_row_84 fk17_57_13 (SV.b0 hS) (SV.k0 hS) rfl ?_
    refine wp_iconst (v := 1) dX17_row_87 rfl ?_
    refine wp_iadd dX17_row_88 ?_
    refine wp_puti dX17_row_89 fp17_57_13 (SV.b0 hS) (SV.k0 hS) rfl ?_
    exact wp_vret dX17_row_92 ⟨rfl, rfl, rfl, rfl, h⟩
  · replace h := h.2 hc
    refine wp_aload_n dX17_row_59 rfl ?_
    refine wq_UI0 lk17_63_13 rfl (SV.b0 hS) (SV.k0 hS) dX17_row_60 h (rmQ_ok (by decide) (by decide)) ⟨Nat.le_refl _, Nat.le_refl _⟩ (Nat.le_of_ble_eq_true rfl) (fun r60 V60 h => ?_)
    refine wp_if_ne 82 dX17_row_63 (by decide) (fun hc => ?_) (fun hc => ?_)
    · replace h := h.1 hc
      refine wp_aload_n dX17_row_82 rfl ?_
      refine wp_dup dX17_row_83 ?_
      refine wp_geti dX17_row_84 fk17_57_13 (SV.b0 hS) (SV.k0 hS) rfl ?_
      refine wp_iconst (v := 1) dX17_row_87 rfl ?_
      refine wp_iadd dX17_row_88 ?_
      refine wp_puti dX17_row_89 fp17_57_13 (SV.b0 hS) (SV.k0 hS) rfl ?_
      exact wp_vret dX17_row_92 ⟨rfl, rfl, rfl, rfl, h⟩
    · replace h := h.2 hc
      refine wp_aload_n dX17_row_66 rfl ?_
      refine wq_UI0 lk17_19_13 rfl (SV.b0 hS) (SV.k0 hS) dX17_row_67 h (rmQ_ok (by decide) (by decide)) ⟨Nat.le_refl _, Nat.le_refl _⟩ (Nat.le_of_ble_eq_true rfl) (fun r67 V67 h => ?_)
      refine wp_bipush (v := 47) dX17_row_70 rfl ?_
      refine wp_icmp_eq 82 dX17_row_72 (by decide) (fun hc => ?_) (fun hc => ?_)
      · replace h := h.1 hc
        refine wp_aload_n dX17_row_82 rfl ?_
        refine wp_dup dX17_row_83 ?_
        refine wp_geti dX17_row_84 fk17_57_13 (SV.b0 hS) (SV.k0 hS) rfl ?_
        refine wp_iconst (v := 1) dX17_row_87 rfl ?_
        refine wp_iadd dX17_row_88 ?_
        refine wp_puti dX17_row_89 fp17_57_13 (SV.b0 hS) (SV.k0 hS) rfl ?_
        exact wp_vret dX17_row_92 ⟨rfl, rfl, rfl, rfl, h⟩
      · replace h := h.2 hc
        refine wp_aload_n dX17_row_75 rfl ?_
        refine wq_VV0 lk17_60 rfl (SV.b0 hS) (SV.k0 hS) dX17_row_76 h (rmQ_ok (by decide) (by decide)) ⟨Nat.le_refl _, Nat.le_refl _⟩ (Nat.le_of_ble_eq_true rfl) (fun V76 h => ?_)
        refine wp_goto 52 dX17_row_79 (by decide) ?_
        exact h
theorem n17_row {E : eT} {Q : vT → Prop} {V : vT} {o : Nat} (h : w17_row E Q 0 [some (vr o)] [] V) : c17_row E o V Q := MOk.enter [some (vr o)] pn_X17 rfl rfl (Nat.le_of_ble_eq_true rfl) rfl h
theorem b17_kind_0 {E : eT} {Q : Int32 → vT → Prop} {V : vT} {tl : Nat} {o : Nat} (hC : CM E tl) (hS : SV E o) (h : c16s_here E o V (fun r1 V1 => (¬ r1 = 0 → c16s_here E o V1 (fun r14 V14 => cj0_indexOf E 5 r14 V14 (fun r17 V17 => Q r17 V17))) ∧ (r1 = 0 → Q (-1) V1))) : w17_kind E Q 0 [some (vr o)] [] V := by
  refine wp_aload_n dX17_kind_0 rfl ?_
  refine wq_UI0 lk17_19_13 rfl (SV.b0 hS) (SV.k0 hS) dX17_kind_1 h (rmQ_ok (by decide) (by decide)) ⟨Nat.le_refl _, Nat.le_refl _⟩ (Nat.le_of_ble_eq_true rfl) (fun r1 V1 h => ?_)
  refine wp_if_ne 11 dX17_kind_4 (by decide) (fun hc => ?_) (fun hc => ?_)
  · replace h := h.1 hc
    refine wp_ldcS (i := 5) dX17_kind_11 (fun _ hK9 => hK9.2.2.2.2.1.2.2) ?_
    refine wp_aload_n dX17_kind_13 rfl ?_
    refine wq_UI0 lk17_19_13 rfl (SV.b0 hS) (SV.k0 hS) dX17_kind_14 h (rmQ_ok (by decide) (by decide)) ⟨Nat.le_refl _, Nat.le_refl _⟩ (Nat.le_of_ble_eq_true rfl) (fun r14 V14 h => ?_)
    refine wq_ZI1 lk17_25 (STR.b (cstr_5 hC)) (STR.k (cstr_5 hC)) dX17_kind_17 h (rmQ_ok (by decide) (by decide)) ⟨Nat.le_refl _, Nat.le_refl _⟩ (Nat.le_of_ble_eq_true rfl) (fun r17 V17 h => ?_)
    exact wp_iret dX17_kind_20 rfl ⟨_, rfl, rfl, rfl, rfl, h⟩
  · replace h := h.2 hc
    refine wp_iconst (v := (-1)) dX17_kind_7 rfl ?_
    refine wp_goto 20 dX17_kind_8 (by decide) ?_
    exact wp_iret dX17_kind_20 rfl ⟨_, rfl, rfl, rfl, rfl, h⟩
theorem n17_kind {E : eT} {Q : Int32 → vT → Prop} {V : vT} {o : Nat} (h : w17_kind E Q 0 [some (vr o)] [] V) : c17_kind E o V Q := MOk.enter [some (vr o)] pn_X17 rfl rfl (Nat.le_of_ble_eq_true rfl) rfl h
theorem b17_sign_0 {E : eT} {Q : vT → Prop} {V : vT} {tl : Nat} {o : Nat} (hC : CM E tl) (hS : SV E o) (h : c16s_place E o V (fun r1 V1 => c16s_sees E o 50 57 V1 (fun r10 V10 => (r10 = 0 → w17_sign E Q 37 [some (vr o), some (vi r1), some (vi 1), none, none] [] V10) ∧ (¬ r10 = 0 → c16s_here E o V10 (fun r17 V17 => ((r17 - 48) ≤ 1 → w17_sign E Q 37 [some (vr o), some (vi r1), some (vi (r17 - 48)), none, none] [] V17) ∧ (1 < (r17 - 48) → c16s_goes E o V17 (fun V34 => w17_sign E Q 37 [some (vr o), some (vi r1), some (vi (r17 - 48)), none, none] [] V34))))))) : w17_sign E Q 0 [some (vr o), none, none, none, none] [] V := by
  refine wp_aload_n dX17_sign_0 rfl ?_
  refine wq_UI0 lk17_31_13 rfl (SV.b0 hS) (SV.k0 hS) dX17_sign_1 h (rmQ_ok (by decide) (by decide)) ⟨Nat.le_refl _, Nat.le_refl _⟩ (Nat.le_of_ble_eq_true rfl) (fun r1 V1 h => ?_)
  refine wi5_1 dX17_sign_4 ?_
  refine wp_aload_n dX17_sign_5 rfl ?_
  refine wp_bipush (v := 50) dX17_sign_6 rfl ?_
  refine wp_bipush (v := 57) dX17_sign_8 rfl ?_
  refine wq_UI2 lk17_34_13 rfl (SV.b0 hS) (SV.k0 hS) dX17_sign_10 h (rmQ_ok (by decide) (by decide)) ⟨Nat.le_refl _, Nat.le_refl _⟩ (Nat.le_of_ble_eq_true rfl) (fun r10 V10 h => ?_)
  refine wp_if_eq 26 dX17_sign_13 (by decide) (fun hc => ?_) (fun hc => ?_)
  · replace h := h.1 hc
    refine wp_iconst (v := 1) dX17_sign_26 rfl ?_
    refine wi5_2 dX17_sign_27 ?_
    refine wp_iload_n dX17_sign_28 rfl ?_
    refine wp_iconst (v := 1) dX17_sign_29 rfl ?_
    refine wp_icmp_le 37 dX17_sign_30 (by decide) (fun _ => ?_) (fun hc => absurd hc (by decide))
    exact h
  · replace h := h.2 hc
    refine wp_aload_n dX17_sign_16 rfl ?_
    refine wq_UI0 lk17_19_13 rfl (SV.b0 hS) (SV.k0 hS) dX17_sign_17 h (rmQ_ok (by decide) (by decide)) ⟨Nat.le_refl _, Nat.le_refl _⟩ (Nat.le_of_ble_eq_true rfl) (fun r17 V17 h => ?_)
    refine wp_bipush (v := 48) dX17_sign_20 rfl ?_
    refine wp_isub dX17_sign_22 ?_
    refine wp_goto 27 dX17_sign_23 (by decide) ?_
    refine wi5_2 dX17_sign_27 ?_
    refine wp_iload_n dX17_sign_28 rfl ?_
    refine wp_iconst (v := 1) dX17_sign_29 rfl ?_
    refine wp_icmp_le 37 dX17_sign_30 (by decide) (fun hc => ?_) (fun hc => ?_)
    · replace h := h.1 hc
      exact h
    · replace h := h.2 (Int32.not_le.mp hc)
      refine wp_aload_n dX17_sign_33 rfl ?_
      refine wq_UV0 lk17_38_13 rfl (SV.b0 hS) (SV.k0 hS) dX17_sign_34 h (rmQ_ok (by decide) (by decide)) ⟨Nat.le_refl _, Nat.le_refl _⟩ (Nat.le_of_ble_eq_true rfl) (fun V34 h => ?_)
      exact h
theorem b17_sign_37 {E : eT} {Q : vT → Prop} {V : vT} {tl : Nat} {o : Nat} {x1 x2 : Int32} (hC : CM E tl) (hS : SV E o) (h : c17_kind E o V (fun r38 V38 => (0 ≤ r38 → (((V38 o 7) + x2) ≤ 12 → w17_sign E Q 76 [some (vr o), none, some (vi x2), some (vi r38), none] [] V38) ∧ (12 < ((V38 o 7) + x2) → c16s_bad E o 6 x1 V38 (fun V73 => w17_sign E Q 76 [some (vr o), none, some (vi x2), some (vi r38), none] [] V73))) ∧ (r38 < 0 → c16s_place E o V38 (fun r49 V49 => c16s_bad E o 1 r49 V49 (fun V52 => w17_sign E Q 76 [some (vr o), none, some (vi x2), some (vi r38), none] [] V52))))) : w17_sign E Q 37 [some (vr o), some (vi x1), some (vi x2), none, none] [] V := by
  refine wp_aload_n dX17_sign_37 rfl ?_
  refine wq_VI0 lk17_42 rfl (SV.b0 hS) (SV.k0 hS) dX17_sign_38 h (rmQ_ok (by decide) (by decide)) ⟨Nat.le_refl _, Nat.le_refl _⟩ (Nat.le_of_ble_eq_true rfl) (fun r38 V38 h => ?_)
  refine wi5_3 dX17_sign_41 ?_
  refine wp_iload_n dX17_sign_42 rfl ?_
  refine wp_if_ge 58 dX17_sign_43 (by decide) (fun hc => ?_) (fun hc => ?_)
  · replace h := h.1 hc
    refine wp_aload_n dX17_sign_58 rfl ?_
    refine wp_geti dX17_sign_59 fk17_49_13 (SV.b0 hS) (SV.k0 hS) rfl ?_
    refine wp_iload_n dX17_sign_62 rfl ?_
    refine wp_iadd dX17_sign_63 ?_
    refine wp_bipush (v := 12) dX17_sign_64 rfl ?_
    refine wp_icmp_le 76 dX17_sign_66 (by decide) (fun hc => ?_) (fun hc => ?_)
    · replace h := h.1 hc
      exact wp_drop [some (vr o), none, some (vi x2), some (vi r38), none] ⟨rfl, ⟨rfl, ⟨rfl, trivial⟩⟩⟩ h
    · replace h := h.2 (Int32.not_le.mp hc)
      refine wp_aload_n dX17_sign_69 rfl ?_
      refine wp_bipush (v := 6) dX17_sign_70 rfl ?_
      refine wp_iload_n dX17_sign_72 rfl ?_
      refine wq_UV2 lk17_45_13 rfl (SV.b0 hS) (SV.k0 hS) dX17_sign_73 h (rmQ_ok (by decide) (by decide)) ⟨Nat.le_refl _, Nat.le_refl _⟩ (Nat.le_of_ble_eq_true rfl) (fun V73 h => ?_)
      exact wp_drop [some (vr o), none, some (vi x2), some (vi r38), none] ⟨rfl, ⟨rfl, ⟨rfl, trivial⟩⟩⟩ h
  · replace h := h.2 (Int32.not_le.mp hc)
    refine wp_aload_n dX17_sign_46 rfl ?_
    refine wp_iconst (v := 1) dX17_sign_47 rfl ?_
    refine wp_aload_n dX17_sign_48 rfl ?_
    refine wq_UI0 lk17_31_13 rfl (SV.b0 hS) (SV.k0 hS) dX17_sign_49 h (rmQ_ok (by decide) (by decide)) ⟨Nat.le_refl _, Nat.le_refl _⟩ (Nat.le_of_ble_eq_true rfl) (fun r49 V49 h => ?_)
    refine wq_UV2 lk17_45_13 rfl (SV.b0 hS) (SV.k0 hS) dX17_sign_52 h (rmQ_ok (by decide) (by decide)) ⟨Nat.le_refl _, Nat.le_refl _⟩ (Nat.le_of_ble_eq_true rfl) (fun V52 h => ?_)
    refine wp_goto 76 dX17_sign_55 (by decide) ?_
    exact wp_drop [some (vr o), none, some (vi x2), some (vi r38), none] ⟨rfl, ⟨rfl, ⟨rfl, trivial⟩⟩⟩ h
theorem b17_sign_76 {E : eT} {Q : vT → Prop} {V : vT} {tl : Nat} {o : Nat} {x2 x3 : Int32} (hC : CM E tl) (hS : SV E o) (h : c16s_goes E o V (fun V77 => w17_sign E Q 83 [some (vr o), none, some (vi x2), some (vi x3), some (vi 0)] [] V77)) : w17_sign E Q 76 [some (vr o), none, some (vi x2), some (vi x3), none] [] V := by
  refine wp_aload_n dX17_sign_76 rfl ?_
  refine wq_UV0 lk17_38_13 rfl (SV.b0 hS) (SV.k0 hS) dX17_sign_77 h (rmQ_ok (by decide) (by decide)) ⟨Nat.le_refl _, Nat.le_refl _⟩ (Nat.le_of_ble_eq_true rfl) (fun V77 h => ?_)
  refine wp_iconst (v := 0) dX17_sign_80 rfl ?_
  refine wi5_4 dX17_sign_81 ?_
  exact h
theorem b17_sign_83 {E : eT} {Q : vT → Prop} {V : vT} {tl : Nat} {o : Nat} {x2 x3 x4 : Int32} (hC : CM E tl) (hS : SV E o) (h : (x2 ≤ x4 → Q V) ∧ (x4 < x2 → c16s_isGood E o V (fun r90 V90 => (r90 = 0 → Q V90) ∧ (¬ r90 = 0 → vp_in ((12 * (V90 o 6)) + (V90 o 7)) 96 ∧ (w17_sign E Q 83 [some (vr o), none, some (vi x2), some (vi x3), some (vi (x4 + 1))] [] (up2 (up2 V90 (o + 1) (((12 * (V90 o 6)) + (V90 o 7)).toNatClampNeg) x3) o 7 (((up2 V90 (o + 1) (((12 * (V90 o 6)) + (V90 o 7)).toNatClampNeg) x3) o 7) + 1))))))) : w17_sign E Q 83 [some (vr o), none, some (vi x2), some (vi x3), some (vi x4)] [] V := by
  refine wp_iload dX17_sign_83 rfl ?_
  refine wp_iload_n dX17_sign_85 rfl ?_
  refine wp_icmp_ge 130 dX17_sign_86 (by decide) (fun hc => ?_) (fun hc => ?_)
  · replace h := h.1 hc
    exact wp_vret dX17_sign_130 ⟨rfl, rfl, rfl, rfl, h⟩
  · replace h := h.2 (Int32.not_le.mp hc)
    refine wp_aload_n dX17_sign_89 rfl ?_
    refine wq_UI0 lk17_53_13 rfl (SV.b0 hS) (SV.k0 hS) dX17_sign_90 h (rmQ_ok (by decide) (by decide)) ⟨Nat.le_refl _, Nat.le_refl _⟩ (Nat.le_of_ble_eq_true rfl) (fun r90 V90 h => ?_)
    refine wp_if_eq 130 dX17_sign_93 (by decide) (fun hc => ?_) (fun hc => ?_)
    · replace h := h.1 hc
      exact wp_vret dX17_sign_130 ⟨rfl, rfl, rfl, rfl, h⟩
    · replace h := h.2 hc
      refine wp_aload_n dX17_sign_96 rfl ?_
      refine wp_getrs dX17_sign_97 fk17_15_13 (SV.b0 hS) (SV.k0 hS) rfl (SV.r5 hS) ?_
      refine wp_bipush (v := 12) dX17_sign_100 rfl ?_
      refine wp_aload_n dX17_sign_102 rfl ?_
      refine wp_geti dX17_sign_103 fk17_57_13 (SV.b0 hS) (SV.k0 hS) rfl ?_
      refine wp_imul dX17_sign_106 ?_
      refine wp_aload_n dX17_sign_107 rfl ?_
      refine wp_geti dX17_sign_108 fk17_49_13 (SV.b0 hS) (SV.k0 hS) rfl ?_
      refine wp_iadd dX17_sign_111 ?_
      refine wp_iload_n dX17_sign_112 rfl ?_
      refine wp_iast dX17_sign_113 (SV.b1 hS) (SV.k1 hS) h.1 ?_
      replace h := h.2
      refine wp_aload_n dX17_sign_114 rfl ?_
      refine wp_dup dX17_sign_115 ?_
      refine wp_geti dX17_sign_116 fk17_49_13 (SV.b0 hS) (SV.k0 hS) rfl ?_
      refine wp_iconst (v := 1) dX17_sign_119 rfl ?_
      refine wp_iadd dX17_sign_120 ?_
      refine wp_puti dX17_sign_121 fp17_49_13 (SV.b0 hS) (SV.k0 hS) rfl ?_
      refine wc5_4 1 dX17_sign_124 rfl ?_
      refine wp_goto 83 dX17_sign_127 (by decide) ?_
      exact h
theorem n17_sign {E : eT} {Q : vT → Prop} {V : vT} {o : Nat} (h : w17_sign E Q 0 [some (vr o), none, none, none, none] [] V) : c17_sign E o V Q := MOk.enter [some (vr o), none, none, none, none] pn_X17 rfl rfl (Nat.le_of_ble_eq_true rfl) rfl h
theorem b18_read_0 {E : eT} {Q : Int32 → vT → Prop} {V : vT} {tl : Nat} {o : Nat} (hC : CM E tl) (hS : CL E o) (h : c18_line E o V (fun V1 => w18_read E Q 4 [some (vr o)] [] V1)) : w18_read E Q 0 [some (vr o)] [] V := by
  refine wp_aload_n dX18_read_0 rfl ?_
  refine wq_VV0 lk18_106 rfl (CL.b0 hS) (CL.k0 hS) dX18_read_1 h (rmQ_ok (by decide) (by decide)) ⟨Nat.le_refl _, Nat.le_refl _⟩ (Nat.le_of_ble_eq_true rfl) (fun V1 h => ?_)
  exact h
theorem b18_read_4 {E : eT} {Q : Int32 → vT → Prop} {V : vT} {tl : Nat} {o : Nat} (hC : CM E tl) (hS : CL E o) (h : c16c_isGood E o V (fun r5 V5 => (r5 = 0 → c16c_answer E o (V5 o 6) V5 (fun r59 V59 => Q r59 V59)) ∧ (¬ r5 = 0 → c16c_isEnd E o V5 (fun r12 V12 => (¬ r12 = 0 → c16c_answer E o (V12 o 6) V12 (fun r59' V59' => Q r59' V59')) ∧ (r12 = 0 → c16c_here E o V12 (fun r19 V19 => (r19 = 59 → c16c_goes E o V19 (fun V37 => c16c_isGood E o V37 (fun r41 V41 => (r41 = 0 → w18_read E Q 4 [some (vr o)] [] V41) ∧ (¬ r41 = 0 → c18_line E o V41 (fun V48 => w18_read E Q 4 [some (vr o)] [] V48))))) ∧ (¬ r19 = 59 → c16c_place E o V19 (fun r30 V30 => c16c_bad E o 1 r30 V30 (fun V33 => c16c_goes E o V33 (fun V37' => c16c_isGood E o V37' (fun r41' V41' => (r41' = 0 → w18_read E Q 4 [some (vr o)] [] V41') ∧ (¬ r41' = 0 → c18_line E o V41' (fun V48' => w18_read E Q 4 [some (vr o)] [] V48'))))))))))))) : w18_read E Q 4 [some (vr o)] [] V := by
  refine wp_aload_n dX18_read_4 rfl ?_
  refine wq_UI0 lk18_23_14 rfl (CL.b0 hS) (CL.k0 hS) dX18_read_5 h (rmQ_ok (by decide) (by decide)) ⟨Nat.le_refl _, Nat.le_refl _⟩ (Nat.le_of_ble_eq_true rfl) (fun r5 V5 h => ?_)
  refine wp_if_eq 54 dX18_read_8 (by decide) (fun hc => ?_) (fun hc => ?_)
  · replace h := h.1 hc
    refine wp_aload_n dX18_read_54 rfl ?_
    refine wp_aload_n dX18_read_55 rfl ?_
    refine wp_geti dX18_read_56 fk18_91_14 (CL.b0 hS) (CL.k0 hS) rfl ?_
    refine wq_UI1 lk18_112_14 rfl (CL.b0 hS) (CL.k0 hS) dX18_read_59 h (rmQ_ok (by decide) (by decide)) ⟨Nat.le_refl _, Nat.le_refl _⟩ (Nat.le_of_ble_eq_true rfl) (fun r59 V59 h => ?_)
    exact wp_iret dX18_read_62 rfl ⟨_, rfl, rfl, rfl, rfl, h⟩
  · replace h := h.2 hc
    refine wp_aload_n dX18_read_11 rfl ?_
    refine wq_UI0 lk18_109_14 rfl (CL.b0 hS) (CL.k0 hS) dX18_read_12 h (rmQ_ok (by decide) (by decide)) ⟨Nat.le_refl _, Nat.le_refl _⟩ (Nat.le_of_ble_eq_true rfl) (fun r12 V12 h => ?_)
    refine wp_if_ne 54 dX18_read_15 (by decide) (fun hc => ?_) (fun hc => ?_)
    · replace h := h.1 hc
      refine wp_aload_n dX18_read_54 rfl ?_
      refine wp_aload_n dX18_read_55 rfl ?_
      refine wp_geti dX18_read_56 fk18_91_14 (CL.b0 hS) (CL.k0 hS) rfl ?_
      refine wq_UI1 lk18_112_14 rfl (CL.b0 hS) (CL.k0 hS) dX18_read_59 h (rmQ_ok (by decide) (by decide)) ⟨Nat.le_refl _, Nat.le_refl _⟩ (Nat.le_of_ble_eq_true rfl) (fun r59' V59' h => ?_)
      exact wp_iret dX18_read_62 rfl ⟨_, rfl, rfl, rfl, rfl, h⟩
    · replace h := h.2 hc
      refine wp_aload_n dX18_read_18 rfl ?_
      refine wq_UI0 lk18_35_14 rfl (CL.b0 hS) (CL.k0 hS) dX18_read_19 h (rmQ_ok (by decide) (by decide)) ⟨Nat.le_refl _, Nat.le_refl _⟩ (Nat.le_of_ble_eq_true rfl) (fun r19 V19 h => ?_)
      refine wp_bipush (v := 59) dX18_read_22 rfl ?_
      refine wp_icmp_eq 36 dX18_read_24 (by decide) (fun hc => ?_) (fun hc => ?_)
      · replace h := h.1 hc
        refine wp_aload_n dX18_read_36 rfl ?_
        refine wq_UV0 lk18_38_14 rfl (CL.b0 hS) (CL.k0 hS) dX18_read_37 h (rmQ_ok (by decide) (by decide)) ⟨Nat.le_refl _, Nat.le_refl _⟩ (Nat.le_of_ble_eq_true rfl) (fun V37 h => ?_)
        refine wp_aload_n dX18_read_40 rfl ?_
        refine wq_UI0 lk18_23_14 rfl (CL.b0 hS) (CL.k0 hS) dX18_read_41 h (rmQ_ok (by decide) (by decide)) ⟨Nat.le_refl _, Nat.le_refl _⟩ (Nat.le_of_ble_eq_true rfl) (fun r41 V41 h => ?_)
        refine wp_if_eq 4 dX18_read_44 (by decide) (fun hc => ?_) (fun hc => ?_)
        · replace h := h.1 hc
          exact h
        · replace h := h.2 hc
          refine wp_aload_n dX18_read_47 rfl ?_
          refine wq_VV0 lk18_106 rfl (CL.b0 hS) (CL.k0 hS) dX18_read_48 h (rmQ_ok (by decide) (by decide)) ⟨Nat.le_refl _, Nat.le_refl _⟩ (Nat.le_of_ble_eq_true rfl) (fun V48 h => ?_)
          refine wp_goto 4 dX18_read_51 (by decide) ?_
          exact h
      · replace h := h.2 hc
        refine wp_aload_n dX18_read_27 rfl ?_
        refine wp_iconst (v := 1) dX18_read_28 rfl ?_
        refine wp_aload_n dX18_read_29 rfl ?_
        refine wq_UI0 lk18_19_14 rfl (CL.b0 hS) (CL.k0 hS) dX18_read_30 h (rmQ_ok (by decide) (by decide)) ⟨Nat.le_refl _, Nat.le_refl _⟩ (Nat.le_of_ble_eq_true rfl) (fun r30 V30 h => ?_)
        refine wq_UV2 lk18_31_14 rfl (CL.b0 hS) (CL.k0 hS) dX18_read_33 h (rmQ_ok (by decide) (by decide)) ⟨Nat.le_refl _, Nat.le_refl _⟩ (Nat.le_of_ble_eq_true rfl) (fun V33 h => ?_)
        refine wp_aload_n dX18_read_36 rfl ?_
        refine wq_UV0 lk18_38_14 rfl (CL.b0 hS) (CL.k0 hS) dX18_read_37 h (rmQ_ok (by decide) (by decide)) ⟨Nat.le_refl _, Nat.le_refl _⟩ (Nat.le_of_ble_eq_true rfl) (fun V37' h => ?_)
        refine wp_aload_n dX18_read_40 rfl ?_
        refine wq_UI0 lk18_23_14 rfl (CL.b0 hS) (CL.k0 hS) dX18_read_41 h (rmQ_ok (by decide) (by decide)) ⟨Nat.le_refl _, Nat.le_refl _⟩ (Nat.le_of_ble_eq_true rfl) (fun r41' V41' h => ?_)
        refine wp_if_eq 4 dX18_read_44 (by decide) (fun hc => ?_) (fun hc => ?_)
        · replace h := h.1 hc
          exact h
        · replace h := h.2 hc
          refine wp_aload_n dX18_read_47 rfl ?_
          refine wq_VV0 lk18_106 rfl (CL.b0 hS) (CL.k0 hS) dX18_read_48 h (rmQ_ok (by decide) (by decide)) ⟨Nat.le_refl _, Nat.le_refl _⟩ (Nat.le_of_ble_eq_true rfl) (fun V48' h => ?_)
          refine wp_goto 4 dX18_read_51 (by decide) ?_
          exact h
theorem n18_read {E : eT} {Q : Int32 → vT → Prop} {V : vT} {o : Nat} (h : w18_read E Q 0 [some (vr o)] [] V) : c18_read E o V Q := MOk.enter [some (vr o)] pn_X18 rfl rfl (Nat.le_of_ble_eq_true rfl) rfl h
theorem b18_line_0 {E : eT} {Q : vT → Prop} {V : vT} {tl : Nat} {o : Nat} (hC : CM E tl) (hS : CL E o) (h : c16c_place E o V (fun r1 V1 => c16c_here E o V1 (fun r6 V6 => c16c_sees E o 48 57 V6 (fun r15 V15 => (¬ r15 = 0 → w18_line E Q 50 [some (vr o), some (vi r1), some (vi r6), some (vi r15)] [] V15) ∧ (r15 = 0 → (r6 = 42 → w18_line E Q 50 [some (vr o), some (vi r1), some (vi r6), some (vi r15)] [] V15) ∧ (¬ r6 = 42 → (r6 = 126 → w18_line E Q 50 [some (vr o), some (vi r1), some (vi r6), some (vi r15)] [] V15) ∧ (¬ r6 = 126 → (r6 = 33 → w18_line E Q 50 [some (vr o), some (vi r1), some (vi r6), some (vi r15)] [] V15) ∧ (¬ r6 = 33 → c16c_bad E o 1 r1 V15 (fun V44 => w18_line E Q 65 [some (vr o), none, some (vi r6), some (vi r15)] [] V44))))))))) : w18_line E Q 0 [some (vr o), none, none, none] [] V := by
  refine wp_aload_n dX18_line_0 rfl ?_
  refine wq_UI0 lk18_19_14 rfl (CL.b0 hS) (CL.k0 hS) dX18_line_1 h (rmQ_ok (by decide) (by decide)) ⟨Nat.le_refl _, Nat.le_refl _⟩ (Nat.le_of_ble_eq_true rfl) (fun r1 V1 h => ?_)
  refine wi4_1 dX18_line_4 ?_
  refine wp_aload_n dX18_line_5 rfl ?_
  refine wq_UI0 lk18_35_14 rfl (CL.b0 hS) (CL.k0 hS) dX18_line_6 h (rmQ_ok (by decide) (by decide)) ⟨Nat.le_refl _, Nat.le_refl _⟩ (Nat.le_of_ble_eq_true rfl) (fun r6 V6 h => ?_)
  refine wi4_2 dX18_line_9 ?_
  refine wp_aload_n dX18_line_10 rfl ?_
  refine wp_bipush (v := 48) dX18_line_11 rfl ?_
  refine wp_bipush (v := 57) dX18_line_13 rfl ?_
  refine wq_UI2 lk18_27_14 rfl (CL.b0 hS) (CL.k0 hS) dX18_line_15 h (rmQ_ok (by decide) (by decide)) ⟨Nat.le_refl _, Nat.le_refl _⟩ (Nat.le_of_ble_eq_true rfl) (fun r15 V15 h => ?_)
  refine wi4_3 dX18_line_18 ?_
  refine wp_iload_n dX18_line_19 rfl ?_
  refine wp_if_ne 50 dX18_line_20 (by decide) (fun hc => ?_) (fun hc => ?_)
  · replace h := h.1 hc
    exact h
  · replace h := h.2 hc
    refine wp_iload_n dX18_line_23 rfl ?_
    refine wp_bipush (v := 42) dX18_line_24 rfl ?_
    refine wp_icmp_eq 50 dX18_line_26 (by decide) (fun hc => ?_) (fun hc => ?_)
    · replace h := h.1 hc
      exact h
    · replace h := h.2 hc
      refine wp_iload_n dX18_line_29 rfl ?_
      refine wp_bipush (v := 126) dX18_line_30 rfl ?_
      refine wp_icmp_eq 50 dX18_line_32 (by decide) (fun hc => ?_) (fun hc => ?_)
      · replace h := h.1 hc
        exact h
      · replace h := h.2 hc
        refine wp_iload_n dX18_line_35 rfl ?_
        refine wp_bipush (v := 33) dX18_line_36 rfl ?_
        refine wp_icmp_eq 50 dX18_line_38 (by decide) (fun hc => ?_) (fun hc => ?_)
        · replace h := h.1 hc
          exact h
        · replace h := h.2 hc
          refine wp_aload_n dX18_line_41 rfl ?_
          refine wp_iconst (v := 1) dX18_line_42 rfl ?_
          refine wp_iload_n dX18_line_43 rfl ?_
          refine wq_UV2 lk18_31_14 rfl (CL.b0 hS) (CL.k0 hS) dX18_line_44 h (rmQ_ok (by decide) (by decide)) ⟨Nat.le_refl _, Nat.le_refl _⟩ (Nat.le_of_ble_eq_true rfl) (fun V44 h => ?_)
          refine wp_goto 65 dX18_line_47 (by decide) ?_
          exact wp_drop [some (vr o), none, some (vi r6), some (vi r15)] ⟨rfl, ⟨rfl, ⟨rfl, trivial⟩⟩⟩ h
theorem b18_line_50 {E : eT} {Q : vT → Prop} {V : vT} {tl : Nat} {o : Nat} {x1 x2 x3 : Int32} (hC : CM E tl) (hS : CL E o) (h : (¬ (V o 6) = 16 → w18_line E Q 65 [some (vr o), none, some (vi x2), some (vi x3)] [] V) ∧ ((V o 6) = 16 → c16c_bad E o 4 x1 V (fun V62 => w18_line E Q 65 [some (vr o), none, some (vi x2), some (vi x3)] [] V62))) : w18_line E Q 50 [some (vr o), some (vi x1), some (vi x2), some (vi x3)] [] V := by
  refine wp_aload_n dX18_line_50 rfl ?_
  refine wp_geti dX18_line_51 fk18_91_14 (CL.b0 hS) (CL.k0 hS) rfl ?_
  refine wp_bipush (v := 16) dX18_line_54 rfl ?_
  refine wp_icmp_ne 65 dX18_line_56 (by decide) (fun hc => ?_) (fun hc => ?_)
  · replace h := h.1 hc
    exact wp_drop [some (vr o), none, some (vi x2), some (vi x3)] ⟨rfl, ⟨rfl, ⟨rfl, trivial⟩⟩⟩ h
  · replace h := h.2 hc
    refine wp_aload_n dX18_line_59 rfl ?_
    refine wp_iconst (v := 4) dX18_line_60 rfl ?_
    refine wp_iload_n dX18_line_61 rfl ?_
    refine wq_UV2 lk18_31_14 rfl (CL.b0 hS) (CL.k0 hS) dX18_line_62 h (rmQ_ok (by decide) (by decide)) ⟨Nat.le_refl _, Nat.le_refl _⟩ (Nat.le_of_ble_eq_true rfl) (fun V62 h => ?_)
    exact wp_drop [some (vr o), none, some (vi x2), some (vi x3)] ⟨rfl, ⟨rfl, ⟨rfl, trivial⟩⟩⟩ h
theorem b18_line_65 {E : eT} {Q : vT → Prop} {V : vT} {tl : Nat} {o : Nat} {x2 x3 : Int32} (hC : CM E tl) (hS : CL E o) (h : c16c_isGood E o (up2 V o 6 ((V o 6) + 1)) (fun r76 V76 => (¬ r76 = 0 → (x3 = 0 → c16c_goes E o V76 (fun V93 => (¬ x2 = 42 → (¬ x2 = 126 → c16c_sees E o 48 51 V93 (fun r127 V127 => (¬ r127 = 0 → w18_line E Q 142 [some (vr o), none, none, none] [] V127) ∧ (r127 = 0 → c16c_place E o V127 (fun r136 V136 => c16c_bad E o 1 r136 V136 (fun V139 => w18_line E Q 142 [some (vr o), none, none, none] [] V139))))) ∧ (x2 = 126 → c18_wet E o V93 (fun V116 => Q V116))) ∧ (x2 = 42 → c18_lit E o V93 (fun V103 => Q V103)))) ∧ (¬ x3 = 0 → c18_thing E o V76 (fun V88 => Q V88))) ∧ (r76 = 0 → Q V76))) : w18_line E Q 65 [some (vr o), none, some (vi x2), some (vi x3)] [] V := by
  refine wp_aload_n dX18_line_65 rfl ?_
  refine wp_dup dX18_line_66 ?_
  refine wp_geti dX18_line_67 fk18_91_14 (CL.b0 hS) (CL.k0 hS) rfl ?_
  refine wp_iconst (v := 1) dX18_line_70 rfl ?_
  refine wp_iadd dX18_line_71 ?_
  refine wp_puti dX18_line_72 fp18_91_14 (CL.b0 hS) (CL.k0 hS) rfl ?_
  refine wp_aload_n dX18_line_75 rfl ?_
  refine wq_UI0 lk18_23_14 rfl (CL.b0 hS) (CL.k0 hS) dX18_line_76 h (rmQ_ok (by decide) (by decide)) ⟨Nat.le_refl _, Nat.le_refl _⟩ (Nat.le_of_ble_eq_true rfl) (fun r76 V76 h => ?_)
  refine wp_if_ne 83 dX18_line_79 (by decide) (fun hc => ?_) (fun hc => ?_)
  · replace h := h.1 hc
    refine wp_iload_n dX18_line_83 rfl ?_
    refine wp_if_eq 92 dX18_line_84 (by decide) (fun hc => ?_) (fun hc => ?_)
    · replace h := h.1 hc
      refine wp_aload_n dX18_line_92 rfl ?_
      refine wq_UV0 lk18_38_14 rfl (CL.b0 hS) (CL.k0 hS) dX18_line_93 h (rmQ_ok (by decide) (by decide)) ⟨Nat.le_refl _, Nat.le_refl _⟩ (Nat.le_of_ble_eq_true rfl) (fun V93 h => ?_)
      refine wp_iload_n dX18_line_96 rfl ?_
      refine wp_bipush (v := 42) dX18_line_97 rfl ?_
      refine wp_icmp_ne 109 dX18_line_99 (by decide) (fun hc => ?_) (fun hc => ?_)
      · replace h := h.1 hc
        refine wp_iload_n dX18_line_109 rfl ?_
        refine wp_bipush (v := 126) dX18_line_110 rfl ?_
        refine wp_icmp_ne 122 dX18_line_112 (by decide) (fun hc => ?_) (fun hc => ?_)
        · replace h := h.1 hc
          refine wp_aload_n dX18_line_122 rfl ?_
          refine wp_bipush (v := 48) dX18_line_123 rfl ?_
          refine wp_bipush (v := 51) dX18_line_125 rfl ?_
          refine wq_UI2 lk18_27_14 rfl (CL.b0 hS) (CL.k0 hS) dX18_line_127 h (rmQ_ok (by decide) (by decide)) ⟨Nat.le_refl _, Nat.le_refl _⟩ (Nat.le_of_ble_eq_true rfl) (fun r127 V127 h => ?_)
          refine wp_if_ne 142 dX18_line_130 (by decide) (fun hc => ?_) (fun hc => ?_)
          · replace h := h.1 hc
            exact wp_drop [some (vr o), none, none, none] ⟨rfl, trivial⟩ h
          · replace h := h.2 hc
            refine wp_aload_n dX18_line_133 rfl ?_
            refine wp_iconst (v := 1) dX18_line_134 rfl ?_
            refine wp_aload_n dX18_line_135 rfl ?_
            refine wq_UI0 lk18_19_14 rfl (CL.b0 hS) (CL.k0 hS) dX18_line_136 h (rmQ_ok (by decide) (by decide)) ⟨Nat.le_refl _, Nat.le_refl _⟩ (Nat.le_of_ble_eq_true rfl) (fun r136 V136 h => ?_)
            refine wq_UV2 lk18_31_14 rfl (CL.b0 hS) (CL.k0 hS) dX18_line_139 h (rmQ_ok (by decide) (by decide)) ⟨Nat.le_refl _, Nat.le_refl _⟩ (Nat.le_of_ble_eq_true rfl) (fun V139 h => ?_)
            exact wp_drop [some (vr o), none, none, none] ⟨rfl, trivial⟩ h
        · replace h := h.2 hc
          refine wp_aload_n dX18_line_115 rfl ?_
          refine wq_VV0 lk18_100 rfl (CL.b0 hS) (CL.k0 hS) dX18_line_116 h (rmQ_ok (by decide) (by decide)) ⟨Nat.le_refl _, Nat.le_refl _⟩ (Nat.le_of_ble_eq_true rfl) (fun V116 h => ?_)
          refine wp_goto 163 dX18_line_119 (by decide) ?_
          exact wp_vret dX18_line_163 ⟨rfl, rfl, rfl, rfl, h⟩
      · replace h := h.2 hc
        refine wp_aload_n dX18_line_102 rfl ?_
        refine wq_VV0 lk18_97 rfl (CL.b0 hS) (CL.k0 hS) dX18_line_103 h (rmQ_ok (by decide) (by decide)) ⟨Nat.le_refl _, Nat.le_refl _⟩ (Nat.le_of_ble_eq_true rfl) (fun V103 h => ?_)
        refine wp_goto 163 dX18_line_106 (by decide) ?_
        exact wp_vret dX18_line_163 ⟨rfl, rfl, rfl, rfl, h⟩
    · replace h := h.2 hc
      refine wp_aload_n dX18_line_87 rfl ?_
      refine wq_VV0 lk18_94 rfl (CL.b0 hS) (CL.k0 hS) dX18_line_88 h (rmQ_ok (by decide) (by decide)) ⟨Nat.le_refl _, Nat.le_refl _⟩ (Nat.le_of_ble_eq_true rfl) (fun V88 h => ?_)
      exact wp_vret dX18_line_91 ⟨rfl, rfl, rfl, rfl, h⟩
  · replace h := h.2 hc
    exact wp_vret dX18_line_82 ⟨rfl, rfl, rfl, rfl, h⟩
theorem b18_line_142 {E : eT} {Q : vT → Prop} {V : vT} {tl : Nat} {o : Nat} (hC : CM E tl) (hS : CL E o) (h : c16c_here E o V (fun r150 V150 => c16c_goes E o (up2 V150 48 4 (r150 - 48)) (fun V160 => Q V160))) : w18_line E Q 142 [some (vr o), none, none, none] [] V := by
  refine wp_aload_n dX18_line_142 rfl ?_
  refine wp_getrs dX18_line_143 fk18_3_14 (CL.b0 hS) (CL.k0 hS) rfl (CL.r7 hS) ?_
  refine wp_getrs dX18_line_146 fk18_46_0 (cb_16 hC) (ck_16 hC) rfl (cr_3 hC) ?_
  refine wp_aload_n dX18_line_149 rfl ?_
  refine wq_UI0 lk18_35_14 rfl (CL.b0 hS) (CL.k0 hS) dX18_line_150 h (rmQ_ok (by decide) (by decide)) ⟨Nat.le_refl _, Nat.le_refl _⟩ (Nat.le_of_ble_eq_true rfl) (fun r150 V150 h => ?_)
  refine wp_bipush (v := 48) dX18_line_153 rfl ?_
  refine wp_isub dX18_line_155 ?_
  refine wp_puti dX18_line_156 fp18_103_2 (FO.b0 (cf_48 hC)) (FO.k0 (cf_48 hC)) rfl ?_
  refine wp_aload_n dX18_line_159 rfl ?_
  refine wq_UV0 lk18_38_14 rfl (CL.b0 hS) (CL.k0 hS) dX18_line_160 h (rmQ_ok (by decide) (by decide)) ⟨Nat.le_refl _, Nat.le_refl _⟩ (Nat.le_of_ble_eq_true rfl) (fun V160 h => ?_)
  exact wp_vret dX18_line_163 ⟨rfl, rfl, rfl, rfl, h⟩
theorem n18_line {E : eT} {Q : vT → Prop} {V : vT} {o : Nat} (h : w18_line E Q 0 [some (vr o), none, none, none] [] V) : c18_line E o V Q := MOk.enter [some (vr o), none, none, none] pn_X18 rfl rfl (Nat.le_of_ble_eq_true rfl) rfl h
theorem b18_thing_0 {E : eT} {Q : vT → Prop} {V : vT} {tl : Nat} {o : Nat} (hC : CM E tl) (hS : CL E o) (h : c16c_place E o V (fun r1 V1 => c18_number E o 23 V1 (fun r8 V8 => c16c_here E o V8 (fun r13 V13 => c16c_isGood E o V13 (fun r18 V18 => (r18 = 0 → w18_thing E Q 51 [some (vr o), some (vi r1), some (vi r8), some (vi r13), none, none] [] V18) ∧ (¬ r18 = 0 → (r13 = 64 → w18_thing E Q 51 [some (vr o), some (vi r1), some (vi r8), some (vi r13), none, none] [] V18) ∧ (¬ r13 = 64 → (r13 = 61 → w18_thing E Q 51 [some (vr o), some (vi r1), some (vi r8), some (vi r13), none, none] [] V18) ∧ (¬ r13 = 61 → (r13 = 43 → w18_thing E Q 51 [some (vr o), some (vi r1), some (vi r8), some (vi r13), none, none] [] V18) ∧ (¬ r13 = 43 → c16c_place E o V18 (fun r45 V45 => c16c_bad E o 1 r45 V45 (fun V48 => w18_thing E Q 51 [some (vr o), some (vi r1), some (vi r8), some (vi r13), none, none] [] V48))))))))))) : w18_thing E Q 0 [some (vr o), none, none, none, none, none] [] V := by
  refine wp_aload_n dX18_thing_0 rfl ?_
  refine wq_UI0 lk18_19_14 rfl (CL.b0 hS) (CL.k0 hS) dX18_thing_1 h (rmQ_ok (by decide) (by decide)) ⟨Nat.le_refl _, Nat.le_refl _⟩ (Nat.le_of_ble_eq_true rfl) (fun r1 V1 h => ?_)
  refine wi6_1 dX18_thing_4 ?_
  refine wp_aload_n dX18_thing_5 rfl ?_
  refine wp_bipush (v := 23) dX18_thing_6 rfl ?_
  refine wq_VI1 lk18_42 rfl (CL.b0 hS) (CL.k0 hS) dX18_thing_8 h (rmQ_ok (by decide) (by decide)) ⟨Nat.le_refl _, Nat.le_refl _⟩ (Nat.le_of_ble_eq_true rfl) (fun r8 V8 h => ?_)
  refine wi6_2 dX18_thing_11 ?_
  refine wp_aload_n dX18_thing_12 rfl ?_
  refine wq_UI0 lk18_35_14 rfl (CL.b0 hS) (CL.k0 hS) dX18_thing_13 h (rmQ_ok (by decide) (by decide)) ⟨Nat.le_refl _, Nat.le_refl _⟩ (Nat.le_of_ble_eq_true rfl) (fun r13 V13 h => ?_)
  refine wi6_3 dX18_thing_16 ?_
  refine wp_aload_n dX18_thing_17 rfl ?_
  refine wq_UI0 lk18_23_14 rfl (CL.b0 hS) (CL.k0 hS) dX18_thing_18 h (rmQ_ok (by decide) (by decide)) ⟨Nat.le_refl _, Nat.le_refl _⟩ (Nat.le_of_ble_eq_true rfl) (fun r18 V18 h => ?_)
  refine wp_if_eq 51 dX18_thing_21 (by decide) (fun hc => ?_) (fun hc => ?_)
  · replace h := h.1 hc
    exact h
  · replace h := h.2 hc
    refine wp_iload_n dX18_thing_24 rfl ?_
    refine wp_bipush (v := 64) dX18_thing_25 rfl ?_
    refine wp_icmp_eq 51 dX18_thing_27 (by decide) (fun hc => ?_) (fun hc => ?_)
    · replace h := h.1 hc
      exact h
    · replace h := h.2 hc
      refine wp_iload_n dX18_thing_30 rfl ?_
      refine wp_bipush (v := 61) dX18_thing_31 rfl ?_
      refine wp_icmp_eq 51 dX18_thing_33 (by decide) (fun hc => ?_) (fun hc => ?_)
      · replace h := h.1 hc
        exact h
      · replace h := h.2 hc
        refine wp_iload_n dX18_thing_36 rfl ?_
        refine wp_bipush (v := 43) dX18_thing_37 rfl ?_
        refine wp_icmp_eq 51 dX18_thing_39 (by decide) (fun hc => ?_) (fun hc => ?_)
        · replace h := h.1 hc
          exact h
        · replace h := h.2 hc
          refine wp_aload_n dX18_thing_42 rfl ?_
          refine wp_iconst (v := 1) dX18_thing_43 rfl ?_
          refine wp_aload_n dX18_thing_44 rfl ?_
          refine wq_UI0 lk18_19_14 rfl (CL.b0 hS) (CL.k0 hS) dX18_thing_45 h (rmQ_ok (by decide) (by decide)) ⟨Nat.le_refl _, Nat.le_refl _⟩ (Nat.le_of_ble_eq_true rfl) (fun r45 V45 h => ?_)
          refine wq_UV2 lk18_31_14 rfl (CL.b0 hS) (CL.k0 hS) dX18_thing_48 h (rmQ_ok (by decide) (by decide)) ⟨Nat.le_refl _, Nat.le_refl _⟩ (Nat.le_of_ble_eq_true rfl) (fun V48 h => ?_)
          exact h
theorem b18_thing_51 {E : eT} {Q : vT → Prop} {V : vT} {tl : Nat} {o : Nat} {x1 x2 x3 : Int32} (hC : CM E tl) (hS : CL E o) (h : c16c_isGood E o V (fun r52 V52 => (r52 = 0 → w18_thing E Q 89 [some (vr o), none, some (vi x2), some (vi x3), none, none] [] V52) ∧ (¬ r52 = 0 → (x3 = 64 → w18_thing E Q 89 [some (vr o), none, some (vi x2), some (vi x3), none, none] [] V52) ∧ (¬ x3 = 64 → vp_in x2 24 ∧ ((¬ (V52 (48 + 5 + ((x2).toNatClampNeg)) 3) = 0 → w18_thing E Q 89 [some (vr o), none, some (vi x2), some (vi x3), none, none] [] V52) ∧ ((V52 (48 + 5 + ((x2).toNatClampNeg)) 3) = 0 → c16c_bad E o 7 x1 V52 (fun V86 => w18_thing E Q 89 [some (vr o), none, some (vi x2), some (vi x3), none, none] [] V86))))))) : w18_thing E Q 51 [some (vr o), some (vi x1), some (vi x2), some (vi x3), none, none] [] V := by
  refine wp_aload_n dX18_thing_51 rfl ?_
  refine wq_UI0 lk18_23_14 rfl (CL.b0 hS) (CL.k0 hS) dX18_thing_52 h (rmQ_ok (by decide) (by decide)) ⟨Nat.le_refl _, Nat.le_refl _⟩ (Nat.le_of_ble_eq_true rfl) (fun r52 V52 h => ?_)
  refine wp_if_eq 89 dX18_thing_55 (by decide) (fun hc => ?_) (fun hc => ?_)
  · replace h := h.1 hc
    exact wp_drop [some (vr o), none, some (vi x2), some (vi x3), none, none] ⟨rfl, ⟨rfl, ⟨rfl, trivial⟩⟩⟩ h
  · replace h := h.2 hc
    refine wp_iload_n dX18_thing_58 rfl ?_
    refine wp_bipush (v := 64) dX18_thing_59 rfl ?_
    refine wp_icmp_eq 89 dX18_thing_61 (by decide) (fun hc => ?_) (fun hc => ?_)
    · replace h := h.1 hc
      exact wp_drop [some (vr o), none, some (vi x2), some (vi x3), none, none] ⟨rfl, ⟨rfl, ⟨rfl, trivial⟩⟩⟩ h
    · replace h := h.2 hc
      refine wp_aload_n dX18_thing_64 rfl ?_
      refine wp_getrs dX18_thing_65 fk18_3_14 (CL.b0 hS) (CL.k0 hS) rfl (CL.r7 hS) ?_
      refine wp_getrs dX18_thing_68 fk18_46_0 (cb_16 hC) (ck_16 hC) rfl (cr_3 hC) ?_
      refine wp_getrs dX18_thing_71 fk18_50_2 (FO.b0 (cf_48 hC)) (FO.k0 (cf_48 hC)) rfl (FO.r3 (cf_48 hC)) ?_
      refine wp_iload_n dX18_thing_74 rfl ?_
      have hi75 := h.1.nat.2
      refine wp_aalds dX18_thing_75 (FO.b4 (cf_48 hC)).2 (FO.k4 (cf_48 hC)) (by decide) h.1 (FO.rt (cf_48 hC) hi75) ?_
      replace h := h.2
      refine wp_geti dX18_thing_76 fk18_56_3 (FO.bt (cf_48 hC) hi75) (FO.kt (cf_48 hC) hi75) rfl ?_
      refine wp_if_ne 89 dX18_thing_79 (by decide) (fun hc => ?_) (fun hc => ?_)
      · replace h := h.1 hc
        exact wp_drop [some (vr o), none, some (vi x2), some (vi x3), none, none] ⟨rfl, ⟨rfl, ⟨rfl, trivial⟩⟩⟩ h
      · replace h := h.2 hc
        refine wp_aload_n dX18_thing_82 rfl ?_
        refine wp_bipush (v := 7) dX18_thing_83 rfl ?_
        refine wp_iload_n dX18_thing_85 rfl ?_
        refine wq_UV2 lk18_31_14 rfl (CL.b0 hS) (CL.k0 hS) dX18_thing_86 h (rmQ_ok (by decide) (by decide)) ⟨Nat.le_refl _, Nat.le_refl _⟩ (Nat.le_of_ble_eq_true rfl) (fun V86 h => ?_)
        exact wp_drop [some (vr o), none, some (vi x2), some (vi x3), none, none] ⟨rfl, ⟨rfl, ⟨rfl, trivial⟩⟩⟩ h
theorem b18_thing_89 {E : eT} {Q : vT → Prop} {V : vT} {tl : Nat} {o : Nat} {x2 x3 : Int32} (hC : CM E tl) (hS : CL E o) (h : c16c_goes E o V (fun V90 => c16c_isGood E o V90 (fun r94 V94 => (¬ r94 = 0 → vp_in x2 24 ∧ ((¬ x3 = 64 → c18_number E o 9999 V94 (fun r132 V132 => c16c_isGood E o V132 (fun r138 V138 => (¬ r138 = 0 → (x3 = 61 → Q (up2 V138 (48 + 5 + ((x2).toNatClampNeg)) 1 r132)) ∧ (x3 = 64 → Q (up2 (up2 (up2 V138 (48 + 5 + ((x2).toNatClampNeg)) 0 r132) (48 + 5 + ((x2).toNatClampNeg)) 3 1) (48 + 5 + ((x2).toNatClampNeg)) 4 0)) ∧ (¬ x3 = 61 → ¬ x3 = 64 → Q (up2 V138 (48 + 5 + ((x2).toNatClampNeg)) 2 r132))) ∧ (r138 = 0 → Q V138)))) ∧ (x3 = 64 → c18_spot E o V94 (fun r122 V122 => c16c_isGood E o V122 (fun r138' V138' => (¬ r138' = 0 → (x3 = 61 → Q (up2 V138' (48 + 5 + ((x2).toNatClampNeg)) 1 r122)) ∧ (x3 = 64 → Q (up2 (up2 (up2 V138' (48 + 5 + ((x2).toNatClampNeg)) 0 r122) (48 + 5 + ((x2).toNatClampNeg)) 3 1) (48 + 5 + ((x2).toNatClampNeg)) 4 0)) ∧ (¬ x3 = 61 → ¬ x3 = 64 → Q (up2 V138' (48 + 5 + ((x2).toNatClampNeg)) 2 r122))) ∧ (r138' = 0 → Q V138')))))) ∧ (r94 = 0 → Q V94)))) : w18_thing E Q 89 [some (vr o), none, some (vi x2), some (vi x3), none, none] [] V := by
  refine wp_aload_n dX18_thing_89 rfl ?_
  refine wq_UV0 lk18_38_14 rfl (CL.b0 hS) (CL.k0 hS) dX18_thing_90 h (rmQ_ok (by decide) (by decide)) ⟨Nat.le_refl _, Nat.le_refl _⟩ (Nat.le_of_ble_eq_true rfl) (fun V90 h => ?_)
  refine wp_aload_n dX18_thing_93 rfl ?_
  refine wq_UI0 lk18_23_14 rfl (CL.b0 hS) (CL.k0 hS) dX18_thing_94 h (rmQ_ok (by decide) (by decide)) ⟨Nat.le_refl _, Nat.le_refl _⟩ (Nat.le_of_ble_eq_true rfl) (fun r94 V94 h => ?_)
  refine wp_if_ne 101 dX18_thing_97 (by decide) (fun hc => ?_) (fun hc => ?_)
  · replace h := h.1 hc
    refine wp_aload_n dX18_thing_101 rfl ?_
    refine wp_getrs dX18_thing_102 fk18_3_14 (CL.b0 hS) (CL.k0 hS) rfl (CL.r7 hS) ?_
    refine wp_getrs dX18_thing_105 fk18_46_0 (cb_16 hC) (ck_16 hC) rfl (cr_3 hC) ?_
    refine wp_getrs dX18_thing_108 fk18_50_2 (FO.b0 (cf_48 hC)) (FO.k0 (cf_48 hC)) rfl (FO.r3 (cf_48 hC)) ?_
    refine wp_iload_n dX18_thing_111 rfl ?_
    have hi112 := h.1.nat.2
    refine wp_aalds dX18_thing_112 (FO.b4 (cf_48 hC)).2 (FO.k4 (cf_48 hC)) (by decide) h.1 (FO.rt (cf_48 hC) hi112) ?_
    replace h := h.2
    refine wa6_4 dX18_thing_113 ?_
    refine wp_iload_n dX18_thing_115 rfl ?_
    refine wp_bipush (v := 64) dX18_thing_116 rfl ?_
    refine wp_icmp_ne 128 dX18_thing_118 (by decide) (fun hc => ?_) (fun hc => ?_)
    · replace h := h.1 hc
      refine wp_aload_n dX18_thing_128 rfl ?_
      refine wp_sipush (v := 9999) dX18_thing_129 rfl ?_
      refine wq_VI1 lk18_42 rfl (CL.b0 hS) (CL.k0 hS) dX18_thing_132 h (rmQ_ok (by decide) (by decide)) ⟨Nat.le_refl _, Nat.le_refl _⟩ (Nat.le_of_ble_eq_true rfl) (fun r132 V132 h => ?_)
      refine wi6_5 dX18_thing_135 ?_
      refine wp_aload_n dX18_thing_137 rfl ?_
      refine wq_UI0 lk18_23_14 rfl (CL.b0 hS) (CL.k0 hS) dX18_thing_138 h (rmQ_ok (by decide) (by decide)) ⟨Nat.le_refl _, Nat.le_refl _⟩ (Nat.le_of_ble_eq_true rfl) (fun r138 V138 h => ?_)
      refine wp_if_ne 145 dX18_thing_141 (by decide) (fun hc => ?_) (fun hc => ?_)
      · replace h := h.1 hc
        refine wp_iload_n dX18_thing_145 rfl ?_
        by_cases hc61 : x3 = 61
        · replace h := h.1 hc61
          rw [hc61]
          refine wp_lookup (off := 48) 194 dX18_thing_146 (by decide) (by decide) (by decide) ?_
          refine wp_aload dX18_thing_194 rfl ?_
          refine wp_iload dX18_thing_196 rfl ?_
          refine wp_puti dX18_thing_198 fp18_71_3 (FO.bt (cf_48 hC) hi112) (FO.kt (cf_48 hC) hi112) rfl ?_
          refine wp_goto 211 dX18_thing_201 (by decide) ?_
          exact wp_vret dX18_thing_211 ⟨rfl, rfl, rfl, rfl, h⟩
        · skip
          by_cases hc64 : x3 = 64
          · replace h := h.2.1 hc64
            rw [hc64]
            refine wp_lookup (off := 26) 172 dX18_thing_146 (by decide) (by decide) (by decide) ?_
            refine wp_aload dX18_thing_172 rfl ?_
            refine wp_iload dX18_thing_174 rfl ?_
            refine wp_puti dX18_thing_176 fp18_65_3 (FO.bt (cf_48 hC) hi112) (FO.kt (cf_48 hC) hi112) rfl ?_
            refine wp_aload dX18_thing_179 rfl ?_
            refine wp_iconst (v := 1) dX18_thing_181 rfl ?_
            refine wp_putz dX18_thing_182 fp18_56_3 (FO.bt (cf_48 hC) hi112) (FO.kt (cf_48 hC) hi112) rfl (by decide) ?_
            refine wp_aload dX18_thing_185 rfl ?_
            refine wp_iconst (v := 0) dX18_thing_187 rfl ?_
            refine wp_putz dX18_thing_188 fp18_68_3 (FO.bt (cf_48 hC) hi112) (FO.kt (cf_48 hC) hi112) rfl (by decide) ?_
            refine wp_goto 211 dX18_thing_191 (by decide) ?_
            exact wp_vret dX18_thing_211 ⟨rfl, rfl, rfl, rfl, h⟩
          · skip
            replace h := h.2.2 hc61 hc64
            refine wp_lookup (off := 58) 204 dX18_thing_146 (by decide) ((lv_osw hc61 (by decide)).trans ((lv_osw hc64 (by decide)).trans rfl)) (by decide) ?_
            refine wp_aload dX18_thing_204 rfl ?_
            refine wp_iload dX18_thing_206 rfl ?_
            refine wp_puti dX18_thing_208 fp18_74_3 (FO.bt (cf_48 hC) hi112) (FO.kt (cf_48 hC) hi112) rfl ?_
            exact wp_vret dX18_thing_211 ⟨rfl, rfl, rfl, rfl, h⟩
      · replace h := h.2 hc
        exact wp_vret dX18_thing_144 ⟨rfl, rfl, rfl, rfl, h⟩
    · replace h := h.2 hc
      refine wp_aload_n dX18_thing_121 rfl ?_
      refine wq_VI0 lk18_62 rfl (CL.b0 hS) (CL.k0 hS) dX18_thing_122 h (rmQ_ok (by decide) (by decide)) ⟨Nat.le_refl _, Nat.le_refl _⟩ (Nat.le_of_ble_eq_true rfl) (fun r122 V122 h => ?_)
      refine wp_goto 135 dX18_thing_125 (by decide) ?_
      refine wi6_5 dX18_thing_135 ?_
      refine wp_aload_n dX18_thing_137 rfl ?_
      refine wq_UI0 lk18_23_14 rfl (CL.b0 hS) (CL.k0 hS) dX18_thing_138 h (rmQ_ok (by decide) (by decide)) ⟨Nat.le_refl _, Nat.le_refl _⟩ (Nat.le_of_ble_eq_true rfl) (fun r138' V138' h => ?_)
      refine wp_if_ne 145 dX18_thing_141 (by decide) (fun hc => ?_) (fun hc => ?_)
      · replace h := h.1 hc
        refine wp_iload_n dX18_thing_145 rfl ?_
        by_cases hc61 : x3 = 61
        · replace h := h.1 hc61
          rw [hc61]
          refine wp_lookup (off := 48) 194 dX18_thing_146 (by decide) (by decide) (by decide) ?_
          refine wp_aload dX18_thing_194 rfl ?_
          refine wp_iload dX18_thing_196 rfl ?_
          refine wp_puti dX18_thing_198 fp18_71_3 (FO.bt (cf_48 hC) hi112) (FO.kt (cf_48 hC) hi112) rfl ?_
          refine wp_goto 211 dX18_thing_201 (by decide) ?_
          exact wp_vret dX18_thing_211 ⟨rfl, rfl, rfl, rfl, h⟩
        · skip
          by_cases hc64 : x3 = 64
          · replace h := h.2.1 hc64
            rw [hc64]
            refine wp_lookup (off := 26) 172 dX18_thing_146 (by decide) (by decide) (by decide) ?_
            refine wp_aload dX18_thing_172 rfl ?_
            refine wp_iload dX18_thing_174 rfl ?_
            refine wp_puti dX18_thing_176 fp18_65_3 (FO.bt (cf_48 hC) hi112) (FO.kt (cf_48 hC) hi112) rfl ?_
            refine wp_aload dX18_thing_179 rfl ?_
            refine wp_iconst (v := 1) dX18_thing_181 rfl ?_
            refine wp_putz dX18_thing_182 fp18_56_3 (FO.bt (cf_48 hC) hi112) (FO.kt (cf_48 hC) hi112) rfl (by decide) ?_
            refine wp_aload dX18_thing_185 rfl ?_
            refine wp_iconst (v := 0) dX18_thing_187 rfl ?_
            refine wp_putz dX18_thing_188 fp18_68_3 (FO.bt (cf_48 hC) hi112) (FO.kt (cf_48 hC) hi112) rfl (by decide) ?_
            refine wp_goto 211 dX18_thing_191 (by decide) ?_
            exact wp_vret dX18_thing_211 ⟨rfl, rfl, rfl, rfl, h⟩
          · skip
            replace h := h.2.2 hc61 hc64
            refine wp_lookup (off := 58) 204 dX18_thing_146 (by decide) ((lv_osw hc61 (by decide)).trans ((lv_osw hc64 (by decide)).trans rfl)) (by decide) ?_
            refine wp_aload dX18_thing_204 rfl ?_
            refine wp_iload dX18_thing_206 rfl ?_
            refine wp_puti dX18_thing_208 fp18_74_3 (FO.bt (cf_48 hC) hi112) (FO.kt (cf_48 hC) hi112) rfl ?_
            exact wp_vret dX18_thing_211 ⟨rfl, rfl, rfl, rfl, h⟩
      · replace h := h.2 hc
        exact wp_vret dX18_thing_144 ⟨rfl, rfl, rfl, rfl, h⟩
  · replace h := h.2 hc
    exact wp_vret dX18_thing_100 ⟨rfl, rfl, rfl, rfl, h⟩
theorem n18_thing {E : eT} {Q : vT → Prop} {V : vT} {o : Nat} (h : w18_thing E Q 0 [some (vr o), none, none, none, none, none] [] V) : c18_thing E o V Q := MOk.enter [some (vr o), none, none, none, none, none] pn_X18 rfl rfl (Nat.le_of_ble_eq_true rfl) rfl h
theorem b18_number_0 {E : eT} {Q : Int32 → vT → Prop} {V : vT} {tl : Nat} {o : Nat} {x1 : Int32} (hC : CM E tl) (hS : CL E o) (h : c16c_place E o V (fun r3 V3 => c16c_isGood E o V3 (fun r8 V8 => (r8 = 0 → w18_number E Q 31 [some (vr o), some (vi x1), some (vi 0), some (vi r3)] [] V8) ∧ (¬ r8 = 0 → c16c_sees E o 48 57 V8 (fun r19 V19 => (¬ r19 = 0 → w18_number E Q 31 [some (vr o), some (vi x1), some (vi 0), some (vi r3)] [] V19) ∧ (r19 = 0 → c16c_bad E o 1 r3 V19 (fun V28 => w18_number E Q 31 [some (vr o), some (vi x1), some (vi 0), some (vi r3)] [] V28))))))) : w18_number E Q 0 [some (vr o), some (vi x1), none, none] [] V := by
  refine wp_iconst (v := 0) dX18_number_0 rfl ?_
  refine wi4_2 dX18_number_1 ?_
  refine wp_aload_n dX18_number_2 rfl ?_
  refine wq_UI0 lk18_19_14 rfl (CL.b0 hS) (CL.k0 hS) dX18_number_3 h (rmQ_ok (by decide) (by decide)) ⟨Nat.le_refl _, Nat.le_refl _⟩ (Nat.le_of_ble_eq_true rfl) (fun r3 V3 h => ?_)
  refine wi4_3 dX18_number_6 ?_
  refine wp_aload_n dX18_number_7 rfl ?_
  refine wq_UI0 lk18_23_14 rfl (CL.b0 hS) (CL.k0 hS) dX18_number_8 h (rmQ_ok (by decide) (by decide)) ⟨Nat.le_refl _, Nat.le_refl _⟩ (Nat.le_of_ble_eq_true rfl) (fun r8 V8 h => ?_)
  refine wp_if_eq 31 dX18_number_11 (by decide) (fun hc => ?_) (fun hc => ?_)
  · replace h := h.1 hc
    exact h
  · replace h := h.2 hc
    refine wp_aload_n dX18_number_14 rfl ?_
    refine wp_bipush (v := 48) dX18_number_15 rfl ?_
    refine wp_bipush (v := 57) dX18_number_17 rfl ?_
    refine wq_UI2 lk18_27_14 rfl (CL.b0 hS) (CL.k0 hS) dX18_number_19 h (rmQ_ok (by decide) (by decide)) ⟨Nat.le_refl _, Nat.le_refl _⟩ (Nat.le_of_ble_eq_true rfl) (fun r19 V19 h => ?_)
    refine wp_if_ne 31 dX18_number_22 (by decide) (fun hc => ?_) (fun hc => ?_)
    · replace h := h.1 hc
      exact h
    · replace h := h.2 hc
      refine wp_aload_n dX18_number_25 rfl ?_
      refine wp_iconst (v := 1) dX18_number_26 rfl ?_
      refine wp_iload_n dX18_number_27 rfl ?_
      refine wq_UV2 lk18_31_14 rfl (CL.b0 hS) (CL.k0 hS) dX18_number_28 h (rmQ_ok (by decide) (by decide)) ⟨Nat.le_refl _, Nat.le_refl _⟩ (Nat.le_of_ble_eq_true rfl) (fun V28 h => ?_)
      exact h
theorem b18_number_31 {E : eT} {Q : Int32 → vT → Prop} {V : vT} {tl : Nat} {o : Nat} {x1 x2 x3 : Int32} (hC : CM E tl) (hS : CL E o) (h : c16c_isGood E o V (fun r32 V32 => (r32 = 0 → c16c_isGood E o V32 (fun r89 V89 => (r89 = 0 → Q x2 V89) ∧ (¬ r89 = 0 → (x2 ≤ x1 → Q x2 V89) ∧ (x1 < x2 → c16c_bad E o 3 x3 V89 (fun V103 => Q x2 V103))))) ∧ (¬ r32 = 0 → c16c_sees E o 48 57 V32 (fun r43 V43 => (r43 = 0 → c16c_isGood E o V43 (fun r89' V89' => (r89' = 0 → Q x2 V89') ∧ (¬ r89' = 0 → (x2 ≤ x1 → Q x2 V89') ∧ (x1 < x2 → c16c_bad E o 3 x3 V89' (fun V103' => Q x2 V103'))))) ∧ (¬ r43 = 0 → c16c_place E o V43 (fun r50 V50 => (¬ r50 = (x3 + 4) → c16c_here E o V50 (fun r73 V73 => c16c_goes E o V73 (fun V82 => w18_number E Q 31 [some (vr o), some (vi x1), some (vi (((10 * x2) + r73) - 48)), some (vi x3)] [] V82))) ∧ (r50 = (x3 + 4) → c16c_place E o V50 (fun r62 V62 => c16c_bad E o 2 r62 V62 (fun V65 => c16c_here E o V65 (fun r73' V73' => c16c_goes E o V73' (fun V82' => w18_number E Q 31 [some (vr o), some (vi x1), some (vi (((10 * x2) + r73') - 48)), some (vi x3)] [] V82'))))))))))) : w18_number E Q 31 [some (vr o), some (vi x1), some (vi x2), some (vi x3)] [] V := by
  refine wp_aload_n dX18_number_31 rfl ?_
  refine wq_UI0 lk18_23_14 rfl (CL.b0 hS) (CL.k0 hS) dX18_number_32 h (rmQ_ok (by decide) (by decide)) ⟨Nat.le_refl _, Nat.le_refl _⟩ (Nat.le_of_ble_eq_true rfl) (fun r32 V32 h => ?_)
  refine wp_if_eq 88 dX18_number_35 (by decide) (fun hc => ?_) (fun hc => ?_)
  · replace h := h.1 hc
    refine wp_aload_n dX18_number_88 rfl ?_
    refine wq_UI0 lk18_23_14 rfl (CL.b0 hS) (CL.k0 hS) dX18_number_89 h (rmQ_ok (by decide) (by decide)) ⟨Nat.le_refl _, Nat.le_refl _⟩ (Nat.le_of_ble_eq_true rfl) (fun r89 V89 h => ?_)
    refine wp_if_eq 106 dX18_number_92 (by decide) (fun hc => ?_) (fun hc => ?_)
    · replace h := h.1 hc
      refine wp_iload_n dX18_number_106 rfl ?_
      exact wp_iret dX18_number_107 rfl ⟨_, rfl, rfl, rfl, rfl, h⟩
    · replace h := h.2 hc
      refine wp_iload_n dX18_number_95 rfl ?_
      refine wp_iload_n dX18_number_96 rfl ?_
      refine wp_icmp_le 106 dX18_number_97 (by decide) (fun hc => ?_) (fun hc => ?_)
      · replace h := h.1 hc
        refine wp_iload_n dX18_number_106 rfl ?_
        exact wp_iret dX18_number_107 rfl ⟨_, rfl, rfl, rfl, rfl, h⟩
      · replace h := h.2 (Int32.not_le.mp hc)
        refine wp_aload_n dX18_number_100 rfl ?_
        refine wp_iconst (v := 3) dX18_number_101 rfl ?_
        refine wp_iload_n dX18_number_102 rfl ?_
        refine wq_UV2 lk18_31_14 rfl (CL.b0 hS) (CL.k0 hS) dX18_number_103 h (rmQ_ok (by decide) (by decide)) ⟨Nat.le_refl _, Nat.le_refl _⟩ (Nat.le_of_ble_eq_true rfl) (fun V103 h => ?_)
        refine wp_iload_n dX18_number_106 rfl ?_
        exact wp_iret dX18_number_107 rfl ⟨_, rfl, rfl, rfl, rfl, h⟩
  · replace h := h.2 hc
    refine wp_aload_n dX18_number_38 rfl ?_
    refine wp_bipush (v := 48) dX18_number_39 rfl ?_
    refine wp_bipush (v := 57) dX18_number_41 rfl ?_
    refine wq_UI2 lk18_27_14 rfl (CL.b0 hS) (CL.k0 hS) dX18_number_43 h (rmQ_ok (by decide) (by decide)) ⟨Nat.le_refl _, Nat.le_refl _⟩ (Nat.le_of_ble_eq_true rfl) (fun r43 V43 h => ?_)
    refine wp_if_eq 88 dX18_number_46 (by decide) (fun hc => ?_) (fun hc => ?_)
    · replace h := h.1 hc
      refine wp_aload_n dX18_number_88 rfl ?_
      refine wq_UI0 lk18_23_14 rfl (CL.b0 hS) (CL.k0 hS) dX18_number_89 h (rmQ_ok (by decide) (by decide)) ⟨Nat.le_refl _, Nat.le_refl _⟩ (Nat.le_of_ble_eq_true rfl) (fun r89' V89' h => ?_)
      refine wp_if_eq 106 dX18_number_92 (by decide) (fun hc => ?_) (fun hc => ?_)
      · replace h := h.1 hc
        refine wp_iload_n dX18_number_106 rfl ?_
        exact wp_iret dX18_number_107 rfl ⟨_, rfl, rfl, rfl, rfl, h⟩
      · replace h := h.2 hc
        refine wp_iload_n dX18_number_95 rfl ?_
        refine wp_iload_n dX18_number_96 rfl ?_
        refine wp_icmp_le 106 dX18_number_97 (by decide) (fun hc => ?_) (fun hc => ?_)
        · replace h := h.1 hc
          refine wp_iload_n dX18_number_106 rfl ?_
          exact wp_iret dX18_number_107 rfl ⟨_, rfl, rfl, rfl, rfl, h⟩
        · replace h := h.2 (Int32.not_le.mp hc)
          refine wp_aload_n dX18_number_100 rfl ?_
          refine wp_iconst (v := 3) dX18_number_101 rfl ?_
          refine wp_iload_n dX18_number_102 rfl ?_
          refine wq_UV2 lk18_31_14 rfl (CL.b0 hS) (CL.k0 hS) dX18_number_103 h (rmQ_ok (by decide) (by decide)) ⟨Nat.le_refl _, Nat.le_refl _⟩ (Nat.le_of_ble_eq_true rfl) (fun V103' h => ?_)
          refine wp_iload_n dX18_number_106 rfl ?_
          exact wp_iret dX18_number_107 rfl ⟨_, rfl, rfl, rfl, rfl, h⟩
    · replace h := h.2 hc
      refine wp_aload_n dX18_number_49 rfl ?_
      refine wq_UI0 lk18_19_14 rfl (CL.b0 hS) (CL.k0 hS) dX18_number_50 h (rmQ_ok (by decide) (by decide)) ⟨Nat.le_refl _, Nat.le_refl _⟩ (Nat.le_of_ble_eq_true rfl) (fun r50 V50 h => ?_)
      refine wp_iload_n dX18_number_53 rfl ?_
      refine wp_iconst (v := 4) dX18_number_54 rfl ?_
      refine wp_iadd dX18_number_55 ?_
      refine wp_icmp_ne 68 dX18_number_56 (by decide) (fun hc => ?_) (fun hc => ?_)
      · replace h := h.1 hc
        refine wp_bipush (v := 10) dX18_number_68 rfl ?_
        refine wp_iload_n dX18_number_70 rfl ?_
        refine wp_imul dX18_number_71 ?_
        refine wp_aload_n dX18_number_72 rfl ?_
        refine wq_UI0 lk18_35_14 rfl (CL.b0 hS) (CL.k0 hS) dX18_number_73 h (rmQ_ok (by decide) (by decide)) ⟨Nat.le_refl _, Nat.le_refl _⟩ (Nat.le_of_ble_eq_true rfl) (fun r73 V73 h => ?_)
        refine wp_iadd dX18_number_76 ?_
        refine wp_bipush (v := 48) dX18_number_77 rfl ?_
        refine wp_isub dX18_number_79 ?_
        refine wi4_2 dX18_number_80 ?_
        refine wp_aload_n dX18_number_81 rfl ?_
        refine wq_UV0 lk18_38_14 rfl (CL.b0 hS) (CL.k0 hS) dX18_number_82 h (rmQ_ok (by decide) (by decide)) ⟨Nat.le_refl _, Nat.le_refl _⟩ (Nat.le_of_ble_eq_true rfl) (fun V82 h => ?_)
        refine wp_goto 31 dX18_number_85 (by decide) ?_
        exact h
      · replace h := h.2 hc
        refine wp_aload_n dX18_number_59 rfl ?_
        refine wp_iconst (v := 2) dX18_number_60 rfl ?_
        refine wp_aload_n dX18_number_61 rfl ?_
        refine wq_UI0 lk18_19_14 rfl (CL.b0 hS) (CL.k0 hS) dX18_number_62 h (rmQ_ok (by decide) (by decide)) ⟨Nat.le_refl _, Nat.le_refl _⟩ (Nat.le_of_ble_eq_true rfl) (fun r62 V62 h => ?_)
        refine wq_UV2 lk18_31_14 rfl (CL.b0 hS) (CL.k0 hS) dX18_number_65 h (rmQ_ok (by decide) (by decide)) ⟨Nat.le_refl _, Nat.le_refl _⟩ (Nat.le_of_ble_eq_true rfl) (fun V65 h => ?_)
        refine wp_bipush (v := 10) dX18_number_68 rfl ?_
        refine wp_iload_n dX18_number_70 rfl ?_
        refine wp_imul dX18_number_71 ?_
        refine wp_aload_n dX18_number_72 rfl ?_
        refine wq_UI0 lk18_35_14 rfl (CL.b0 hS) (CL.k0 hS) dX18_number_73 h (rmQ_ok (by decide) (by decide)) ⟨Nat.le_refl _, Nat.le_refl _⟩ (Nat.le_of_ble_eq_true rfl) (fun r73' V73' h => ?_)
        refine wp_iadd dX18_number_76 ?_
        refine wp_bipush (v := 48) dX18_number_77 rfl ?_
        refine wp_isub dX18_number_79 ?_
        refine wi4_2 dX18_number_80 ?_
        refine wp_aload_n dX18_number_81 rfl ?_
        refine wq_UV0 lk18_38_14 rfl (CL.b0 hS) (CL.k0 hS) dX18_number_82 h (rmQ_ok (by decide) (by decide)) ⟨Nat.le_refl _, Nat.le_refl _⟩ (Nat.le_of_ble_eq_true rfl) (fun V82' h => ?_)
        refine wp_goto 31 dX18_number_85 (by decide) ?_
        exact h
theorem n18_number {E : eT} {Q : Int32 → vT → Prop} {V : vT} {o : Nat} {x1 : Int32} (h : w18_number E Q 0 [some (vr o), some (vi x1), none, none] [] V) : c18_number E o x1 V Q := MOk.enter [some (vr o), some (vi x1), none, none] pn_X18 rfl rfl (Nat.le_of_ble_eq_true rfl) rfl h
theorem b18_spot_0 {E : eT} {Q : Int32 → vT → Prop} {V : vT} {tl : Nat} {o : Nat} (hC : CM E tl) (hS : CL E o) (h : c18_number E o 11 V (fun r3 V3 => c16c_isGood E o V3 (fun r8 V8 => (r8 = 0 → c16c_goes E o V8 (fun V33 => c18_number E o 7 V33 (fun r39 V39 => Q ((12 * r39) + r3) V39))) ∧ (¬ r8 = 0 → c16c_here E o V8 (fun r15 V15 => (r15 = 44 → c16c_goes E o V15 (fun V33' => c18_number E o 7 V33' (fun r39' V39' => Q ((12 * r39') + r3) V39'))) ∧ (¬ r15 = 44 → c16c_place E o V15 (fun r26 V26 => c16c_bad E o 1 r26 V26 (fun V29 => c16c_goes E o V29 (fun V33'' => c18_number E o 7 V33'' (fun r39'' V39'' => Q ((12 * r39'') + r3) V39'')))))))))) : w18_spot E Q 0 [some (vr o), none, none] [] V := by
  refine wp_aload_n dX18_spot_0 rfl ?_
  refine wp_bipush (v := 11) dX18_spot_1 rfl ?_
  refine wq_VI1 lk18_42 rfl (CL.b0 hS) (CL.k0 hS) dX18_spot_3 h (rmQ_ok (by decide) (by decide)) ⟨Nat.le_refl _, Nat.le_refl _⟩ (Nat.le_of_ble_eq_true rfl) (fun r3 V3 h => ?_)
  refine wi3_1 dX18_spot_6 ?_
  refine wp_aload_n dX18_spot_7 rfl ?_
  refine wq_UI0 lk18_23_14 rfl (CL.b0 hS) (CL.k0 hS) dX18_spot_8 h (rmQ_ok (by decide) (by decide)) ⟨Nat.le_refl _, Nat.le_refl _⟩ (Nat.le_of_ble_eq_true rfl) (fun r8 V8 h => ?_)
  refine wp_if_eq 32 dX18_spot_11 (by decide) (fun hc => ?_) (fun hc => ?_)
  · replace h := h.1 hc
    refine wp_aload_n dX18_spot_32 rfl ?_
    refine wq_UV0 lk18_38_14 rfl (CL.b0 hS) (CL.k0 hS) dX18_spot_33 h (rmQ_ok (by decide) (by decide)) ⟨Nat.le_refl _, Nat.le_refl _⟩ (Nat.le_of_ble_eq_true rfl) (fun V33 h => ?_)
    refine wp_aload_n dX18_spot_36 rfl ?_
    refine wp_bipush (v := 7) dX18_spot_37 rfl ?_
    refine wq_VI1 lk18_42 rfl (CL.b0 hS) (CL.k0 hS) dX18_spot_39 h (rmQ_ok (by decide) (by decide)) ⟨Nat.le_refl _, Nat.le_refl _⟩ (Nat.le_of_ble_eq_true rfl) (fun r39 V39 h => ?_)
    refine wi3_2 dX18_spot_42 ?_
    refine wp_bipush (v := 12) dX18_spot_43 rfl ?_
    refine wp_iload_n dX18_spot_45 rfl ?_
    refine wp_imul dX18_spot_46 ?_
    refine wp_iload_n dX18_spot_47 rfl ?_
    refine wp_iadd dX18_spot_48 ?_
    exact wp_iret dX18_spot_49 rfl ⟨_, rfl, rfl, rfl, rfl, h⟩
  · replace h := h.2 hc
    refine wp_aload_n dX18_spot_14 rfl ?_
    refine wq_UI0 lk18_35_14 rfl (CL.b0 hS) (CL.k0 hS) dX18_spot_15 h (rmQ_ok (by decide) (by decide)) ⟨Nat.le_refl _, Nat.le_refl _⟩ (Nat.le_of_ble_eq_true rfl) (fun r15 V15 h => ?_)
    refine wp_bipush (v := 44) dX18_spot_18 rfl ?_
    refine wp_icmp_eq 32 dX18_spot_20 (by decide) (fun hc => ?_) (fun hc => ?_)
    · replace h := h.1 hc
      refine wp_aload_n dX18_spot_32 rfl ?_
      refine wq_UV0 lk18_38_14 rfl (CL.b0 hS) (CL.k0 hS) dX18_spot_33 h (rmQ_ok (by decide) (by decide)) ⟨Nat.le_refl _, Nat.le_refl _⟩ (Nat.le_of_ble_eq_true rfl) (fun V33' h => ?_)
      refine wp_aload_n dX18_spot_36 rfl ?_
      refine wp_bipush (v := 7) dX18_spot_37 rfl ?_
      refine wq_VI1 lk18_42 rfl (CL.b0 hS) (CL.k0 hS) dX18_spot_39 h (rmQ_ok (by decide) (by decide)) ⟨Nat.le_refl _, Nat.le_refl _⟩ (Nat.le_of_ble_eq_true rfl) (fun r39' V39' h => ?_)
      refine wi3_2 dX18_spot_42 ?_
      refine wp_bipush (v := 12) dX18_spot_43 rfl ?_
      refine wp_iload_n dX18_spot_45 rfl ?_
      refine wp_imul dX18_spot_46 ?_
      refine wp_iload_n dX18_spot_47 rfl ?_
      refine wp_iadd dX18_spot_48 ?_
      exact wp_iret dX18_spot_49 rfl ⟨_, rfl, rfl, rfl, rfl, h⟩
    · replace h := h.2 hc
      refine wp_aload_n dX18_spot_23 rfl ?_
      refine wp_iconst (v := 1) dX18_spot_24 rfl ?_
      refine wp_aload_n dX18_spot_25 rfl ?_
      refine wq_UI0 lk18_19_14 rfl (CL.b0 hS) (CL.k0 hS) dX18_spot_26 h (rmQ_ok (by decide) (by decide)) ⟨Nat.le_refl _, Nat.le_refl _⟩ (Nat.le_of_ble_eq_true rfl) (fun r26 V26 h => ?_)
      refine wq_UV2 lk18_31_14 rfl (CL.b0 hS) (CL.k0 hS) dX18_spot_29 h (rmQ_ok (by decide) (by decide)) ⟨Nat.le_refl _, Nat.le_refl _⟩ (Nat.le_of_ble_eq_true rfl) (fun V29 h => ?_)
      refine wp_aload_n dX18_spot_32 rfl ?_
      refine wq_UV0 lk18_38_14 rfl (CL.b0 hS) (CL.k0 hS) dX18_spot_33 h (rmQ_ok (by decide) (by decide)) ⟨Nat.le_refl _, Nat.le_refl _⟩ (Nat.le_of_ble_eq_true rfl) (fun V33'' h => ?_)
      refine wp_aload_n dX18_spot_36 rfl ?_
      refine wp_bipush (v := 7) dX18_spot_37 rfl ?_
      refine wq_VI1 lk18_42 rfl (CL.b0 hS) (CL.k0 hS) dX18_spot_39 h (rmQ_ok (by decide) (by decide)) ⟨Nat.le_refl _, Nat.le_refl _⟩ (Nat.le_of_ble_eq_true rfl) (fun r39'' V39'' h => ?_)
      refine wi3_2 dX18_spot_42 ?_
      refine wp_bipush (v := 12) dX18_spot_43 rfl ?_
      refine wp_iload_n dX18_spot_45 rfl ?_
      refine wp_imul dX18_spot_46 ?_
      refine wp_iload_n dX18_spot_47 rfl ?_
      refine wp_iadd dX18_spot_48 ?_
      exact wp_iret dX18_spot_49 rfl ⟨_, rfl, rfl, rfl, rfl, h⟩
theorem n18_spot {E : eT} {Q : Int32 → vT → Prop} {V : vT} {o : Nat} (h : w18_spot E Q 0 [some (vr o), none, none] [] V) : c18_spot E o V Q := MOk.enter [some (vr o), none, none] pn_X18 rfl rfl (Nat.le_of_ble_eq_true rfl) rfl h
theorem b18_lit_0 {E : eT} {Q : vT → Prop} {V : vT} {tl : Nat} {o : Nat} (hC : CM E tl) (hS : CL E o) (h : c16c_place E o V (fun r1 V1 => c18_spot E o V1 (fun r6 V6 => c16c_isGood E o V6 (fun r11 V11 => (r11 = 0 → w18_lit E Q 61 [some (vr o), none, some (vi r6)] [] V11) ∧ (¬ r11 = 0 → vp_in r6 96 ∧ ((¬ (V11 17 ((r6).toNatClampNeg)) = 1 → w18_lit E Q 54 [some (vr o), some (vi r1), some (vi r6)] [] V11) ∧ ((V11 17 ((r6).toNatClampNeg)) = 1 → vp_in r6 96 ∧ ((¬ (V11 (o + 1) ((r6).toNatClampNeg)) = 0 → w18_lit E Q 54 [some (vr o), some (vi r1), some (vi r6)] [] V11) ∧ ((V11 (o + 1) ((r6).toNatClampNeg)) = 0 → vp_in r6 96 ∧ (((V11 49 ((r6).toNatClampNeg)) = 0 → w18_lit E Q 61 [some (vr o), none, some (vi r6)] [] V11) ∧ (¬ (V11 49 ((r6).toNatClampNeg)) = 0 → w18_lit E Q 54 [some (vr o), some (vi r1), some (vi r6)] [] V11))))))))))) : w18_lit E Q 0 [some (vr o), none, none] [] V := by
  refine wp_aload_n dX18_lit_0 rfl ?_
  refine wq_UI0 lk18_19_14 rfl (CL.b0 hS) (CL.k0 hS) dX18_lit_1 h (rmQ_ok (by decide) (by decide)) ⟨Nat.le_refl _, Nat.le_refl _⟩ (Nat.le_of_ble_eq_true rfl) (fun r1 V1 h => ?_)
  refine wi3_1 dX18_lit_4 ?_
  refine wp_aload_n dX18_lit_5 rfl ?_
  refine wq_VI0 lk18_62 rfl (CL.b0 hS) (CL.k0 hS) dX18_lit_6 h (rmQ_ok (by decide) (by decide)) ⟨Nat.le_refl _, Nat.le_refl _⟩ (Nat.le_of_ble_eq_true rfl) (fun r6 V6 h => ?_)
  refine wi3_2 dX18_lit_9 ?_
  refine wp_aload_n dX18_lit_10 rfl ?_
  refine wq_UI0 lk18_23_14 rfl (CL.b0 hS) (CL.k0 hS) dX18_lit_11 h (rmQ_ok (by decide) (by decide)) ⟨Nat.le_refl _, Nat.le_refl _⟩ (Nat.le_of_ble_eq_true rfl) (fun r11 V11 h => ?_)
  refine wp_if_eq 61 dX18_lit_14 (by decide) (fun hc => ?_) (fun hc => ?_)
  · replace h := h.1 hc
    exact wp_drop [some (vr o), none, some (vi r6)] ⟨rfl, ⟨rfl, trivial⟩⟩ h
  · replace h := h.2 hc
    refine wp_aload_n dX18_lit_17 rfl ?_
    refine wp_getrs dX18_lit_18 fk18_3_14 (CL.b0 hS) (CL.k0 hS) rfl (CL.r7 hS) ?_
    refine wp_getrs dX18_lit_21 fk18_77_0 (cb_16 hC) (ck_16 hC) rfl (cr_0 hC) ?_
    refine wp_iload_n dX18_lit_24 rfl ?_
    refine wp_iald dX18_lit_25 (cb_17 hC).2 (ck_17 hC) h.1 ?_
    replace h := h.2
    refine wp_iconst (v := 1) dX18_lit_26 rfl ?_
    refine wp_icmp_ne 54 dX18_lit_27 (by decide) (fun hc => ?_) (fun hc => ?_)
    · replace h := h.1 hc
      exact h
    · replace h := h.2 hc
      refine wp_aload_n dX18_lit_30 rfl ?_
      refine wp_getrs dX18_lit_31 fk18_15_14 (CL.b0 hS) (CL.k0 hS) rfl (CL.r5 hS) ?_
      refine wp_iload_n dX18_lit_34 rfl ?_
      refine wp_zald dX18_lit_35 (CL.b1 hS).2 (CL.k1 hS) h.1 ?_
      replace h := h.2
      refine wp_if_ne 54 dX18_lit_36 (by decide) (fun hc => ?_) (fun hc => ?_)
      · replace h := h.1 hc
        exact h
      · replace h := h.2 hc
        refine wp_aload_n dX18_lit_39 rfl ?_
        refine wp_getrs dX18_lit_40 fk18_3_14 (CL.b0 hS) (CL.k0 hS) rfl (CL.r7 hS) ?_
        refine wp_getrs dX18_lit_43 fk18_46_0 (cb_16 hC) (ck_16 hC) rfl (cr_3 hC) ?_
        refine wp_getrs dX18_lit_46 fk18_81_2 (FO.b0 (cf_48 hC)) (FO.k0 (cf_48 hC)) rfl (FO.r0 (cf_48 hC)) ?_
        refine wp_iload_n dX18_lit_49 rfl ?_
        refine wp_iald dX18_lit_50 (FO.b1 (cf_48 hC)).2 (FO.k1 (cf_48 hC)) h.1 ?_
        replace h := h.2
        refine wp_if_eq 61 dX18_lit_51 (by decide) (fun hc => ?_) (fun hc => ?_)
        · replace h := h.1 hc
          exact wp_drop [some (vr o), none, some (vi r6)] ⟨rfl, ⟨rfl, trivial⟩⟩ h
        · replace h := h.2 hc
          exact h
theorem b18_lit_54 {E : eT} {Q : vT → Prop} {V : vT} {tl : Nat} {o : Nat} {x1 x2 : Int32} (hC : CM E tl) (hS : CL E o) (h : c16c_bad E o 8 x1 V (fun V58 => w18_lit E Q 61 [some (vr o), none, some (vi x2)] [] V58)) : w18_lit E Q 54 [some (vr o), some (vi x1), some (vi x2)] [] V := by
  refine wp_aload_n dX18_lit_54 rfl ?_
  refine wp_bipush (v := 8) dX18_lit_55 rfl ?_
  refine wp_iload_n dX18_lit_57 rfl ?_
  refine wq_UV2 lk18_31_14 rfl (CL.b0 hS) (CL.k0 hS) dX18_lit_58 h (rmQ_ok (by decide) (by decide)) ⟨Nat.le_refl _, Nat.le_refl _⟩ (Nat.le_of_ble_eq_true rfl) (fun V58 h => ?_)
  exact wp_drop [some (vr o), none, some (vi x2)] ⟨rfl, ⟨rfl, trivial⟩⟩ h
theorem b18_lit_61 {E : eT} {Q : vT → Prop} {V : vT} {tl : Nat} {o : Nat} {x2 : Int32} (hC : CM E tl) (hS : CL E o) (h : c16c_isGood E o V (fun r62 V62 => (r62 = 0 → Q V62) ∧ (¬ r62 = 0 → c3_lights E 48 x2 3 V62 (fun V77 => Q V77)))) : w18_lit E Q 61 [some (vr o), none, some (vi x2)] [] V := by
  refine wp_aload_n dX18_lit_61 rfl ?_
  refine wq_UI0 lk18_23_14 rfl (CL.b0 hS) (CL.k0 hS) dX18_lit_62 h (rmQ_ok (by decide) (by decide)) ⟨Nat.le_refl _, Nat.le_refl _⟩ (Nat.le_of_ble_eq_true rfl) (fun r62 V62 h => ?_)
  refine wp_if_eq 80 dX18_lit_65 (by decide) (fun hc => ?_) (fun hc => ?_)
  · replace h := h.1 hc
    exact wp_vret dX18_lit_80 ⟨rfl, rfl, rfl, rfl, h⟩
  · replace h := h.2 hc
    refine wp_aload_n dX18_lit_68 rfl ?_
    refine wp_getrs dX18_lit_69 fk18_3_14 (CL.b0 hS) (CL.k0 hS) rfl (CL.r7 hS) ?_
    refine wp_getrs dX18_lit_72 fk18_46_0 (cb_16 hC) (ck_16 hC) rfl (cr_3 hC) ?_
    refine wp_iload_n dX18_lit_75 rfl ?_
    refine wp_iconst (v := 3) dX18_lit_76 rfl ?_
    refine wq_VV2 lk18_84 rfl (FO.b0 (cf_48 hC)) (FO.k0 (cf_48 hC)) dX18_lit_77 h (rmQ_ok (by decide) (by decide)) ⟨Nat.le_refl _, Nat.le_refl _⟩ (Nat.le_of_ble_eq_true rfl) (fun V77 h => ?_)
    exact wp_vret dX18_lit_80 ⟨rfl, rfl, rfl, rfl, h⟩
theorem n18_lit {E : eT} {Q : vT → Prop} {V : vT} {o : Nat} (h : w18_lit E Q 0 [some (vr o), none, none] [] V) : c18_lit E o V Q := MOk.enter [some (vr o), none, none] pn_X18 rfl rfl (Nat.le_of_ble_eq_true rfl) rfl h
theorem b18_wet_0 {E : eT} {Q : vT → Prop} {V : vT} {tl : Nat} {o : Nat} (hC : CM E tl) (hS : CL E o) (h : c18_spot E o V (fun r1 V1 => c16c_isGood E o V1 (fun r6 V6 => (¬ r6 = 0 → vp_in r1 96 ∧ (c3_waters E 48 r1 (up2 V6 (o + 1) (r1.toNatClampNeg) 1) (fun V28 => Q V28))) ∧ (r6 = 0 → Q V6)))) : w18_wet E Q 0 [some (vr o), none] [] V := by
  refine wp_aload_n dX18_wet_0 rfl ?_
  refine wq_VI0 lk18_62 rfl (CL.b0 hS) (CL.k0 hS) dX18_wet_1 h (rmQ_ok (by decide) (by decide)) ⟨Nat.le_refl _, Nat.le_refl _⟩ (Nat.le_of_ble_eq_true rfl) (fun r1 V1 h => ?_)
  refine wi2_1 dX18_wet_4 ?_
  refine wp_aload_n dX18_wet_5 rfl ?_
  refine wq_UI0 lk18_23_14 rfl (CL.b0 hS) (CL.k0 hS) dX18_wet_6 h (rmQ_ok (by decide) (by decide)) ⟨Nat.le_refl _, Nat.le_refl _⟩ (Nat.le_of_ble_eq_true rfl) (fun r6 V6 h => ?_)
  refine wp_if_ne 13 dX18_wet_9 (by decide) (fun hc => ?_) (fun hc => ?_)
  · replace h := h.1 hc
    refine wp_aload_n dX18_wet_13 rfl ?_
    refine wp_getrs dX18_wet_14 fk18_15_14 (CL.b0 hS) (CL.k0 hS) rfl (CL.r5 hS) ?_
    refine wp_iload_n dX18_wet_17 rfl ?_
    refine wp_iconst (v := 1) dX18_wet_18 rfl ?_
    refine wp_zast dX18_wet_19 (CL.b1 hS) (CL.k1 hS) (by decide) h.1 ?_
    replace h := h.2
    refine wp_aload_n dX18_wet_20 rfl ?_
    refine wp_getrs dX18_wet_21 fk18_3_14 (CL.b0 hS) (CL.k0 hS) rfl (CL.r7 hS) ?_
    refine wp_getrs dX18_wet_24 fk18_46_0 (cb_16 hC) (ck_16 hC) rfl (cr_3 hC) ?_
    refine wp_iload_n dX18_wet_27 rfl ?_
    refine wq_VV1 lk18_87 rfl (FO.b0 (cf_48 hC)) (FO.k0 (cf_48 hC)) dX18_wet_28 h (rmQ_ok (by decide) (by decide)) ⟨Nat.le_refl _, Nat.le_refl _⟩ (Nat.le_of_ble_eq_true rfl) (fun V28 h => ?_)
    exact wp_vret dX18_wet_31 ⟨rfl, rfl, rfl, rfl, h⟩
  · replace h := h.2 hc
    exact wp_vret dX18_wet_12 ⟨rfl, rfl, rfl, rfl, h⟩
theorem n18_wet {E : eT} {Q : vT → Prop} {V : vT} {o : Nat} (h : w18_wet E Q 0 [some (vr o), none] [] V) : c18_wet E o V Q := MOk.enter [some (vr o), none] pn_X18 rfl rfl (Nat.le_of_ble_eq_true rfl) rfl h
theorem bj0_indexOf_0 {E : eT} {Q : Int32 → vT → Prop} {V : vT} {ln : Nat} {o : Nat} {x1 : Int32} (hZ : STR E o ln) (h : cj0_indexOf_2 E o x1 0 V (fun r3 V3 => Q r3 V3)) : wj0_indexOf E Q 0 [some (vr o), some (vi x1)] [] V := by
  refine wp_aload_n dJ0_indexOf_0 rfl ?_
  refine wp_iload_n dJ0_indexOf_1 rfl ?_
  refine wp_iconst (v := 0) dJ0_indexOf_2 rfl ?_
  refine wq_ZI2 lkJ0_633 (STR.b hZ) (STR.k hZ) dJ0_indexOf_3 h (rmQ_ok (by decide) (by decide)) ⟨Nat.le_refl _, Nat.le_refl _⟩ (Nat.le_of_ble_eq_true rfl) (fun r3 V3 h => ?_)
  exact wp_iret dJ0_indexOf_6 rfl ⟨_, rfl, rfl, rfl, rfl, h⟩
theorem nj0_indexOf {E : eT} {Q : Int32 → vT → Prop} {V : vT} {o : Nat} {x1 : Int32} (h : wj0_indexOf E Q 0 [some (vr o), some (vi x1)] [] V) : cj0_indexOf E o x1 V Q := MOk.enter [some (vr o), some (vi x1)] pn_J0 rfl rfl (Nat.le_of_ble_eq_true rfl) rfl h
theorem bj0_indexOf_2_0 {E : eT} {Q : Int32 → vT → Prop} {V : vT} {ln : Nat} {o : Nat} {x1 x2 : Int32} (hZ : STR E o ln) (h : cj0_isLatin1 E o V (fun r1 V1 => (r1 = 0 → cj0_length E o V1 (fun r30 V30 => False)) ∧ (¬ r1 = 0 → cj0_length E o V1 (fun r14 V14 => cj1_indexOf E (o + 3) x1 x2 r14 V14 (fun r17 V17 => Q r17 V17))))) : wj0_indexOf_2 E Q 0 [some (vr o), some (vi x1), some (vi x2)] [] V := by
  refine wp_aload_n dJ0_indexOf_2_0 rfl ?_
  refine wq_ZI0 lkJ0_492 (STR.b hZ) (STR.k hZ) dJ0_indexOf_2_1 h (rmQ_ok (by decide) (by decide)) ⟨Nat.le_refl _, Nat.le_refl _⟩ (Nat.le_of_ble_eq_true rfl) (fun r1 V1 h => ?_)
  refine wp_if_eq 23 dJ0_indexOf_2_4 (by decide) (fun hc => ?_) (fun hc => ?_)
  · replace h := h.1 hc
    refine wp_aload_n dJ0_indexOf_2_23 rfl ?_
    refine wp_getSvs dJ0_indexOf_2_24 q1748 (STR.b hZ) (STR.k hZ) (STR.v hZ) ?_
    refine wp_iload_n dJ0_indexOf_2_27 rfl ?_
    refine wp_iload_n dJ0_indexOf_2_28 rfl ?_
    refine wp_aload_n dJ0_indexOf_2_29 rfl ?_
    refine wq_ZI0 lkJ0_505 (STR.b hZ) (STR.k hZ) dJ0_indexOf_2_30 h (rmQ_ok (by decide) (by decide)) ⟨Nat.le_refl _, Nat.le_refl _⟩ (Nat.le_of_ble_eq_true rfl) (fun r30 V30 h => ?_)
    exact h.elim
  · replace h := h.2 hc
    refine wp_aload_n dJ0_indexOf_2_7 rfl ?_
    refine wp_getSvs dJ0_indexOf_2_8 q1748 (STR.b hZ) (STR.k hZ) (STR.v hZ) ?_
    refine wp_iload_n dJ0_indexOf_2_11 rfl ?_
    refine wp_iload_n dJ0_indexOf_2_12 rfl ?_
    refine wp_aload_n dJ0_indexOf_2_13 rfl ?_
    refine wq_ZI0 lkJ0_505 (STR.b hZ) (STR.k hZ) dJ0_indexOf_2_14 h (rmQ_ok (by decide) (by decide)) ⟨Nat.le_refl _, Nat.le_refl _⟩ (Nat.le_of_ble_eq_true rfl) (fun r14 V14 h => ?_)
    refine wq_SI4 lkJ0_637 dJ0_indexOf_2_17 h (rmQ_ok (by decide) (by decide)) ⟨Nat.le_refl _, Nat.le_refl _⟩ (Nat.le_of_ble_eq_true rfl) (fun r17 V17 h => ?_)
    refine wp_goto 36 dJ0_indexOf_2_20 (by decide) ?_
    exact wp_iret dJ0_indexOf_2_36 rfl ⟨_, rfl, rfl, rfl, rfl, h⟩
theorem nj0_indexOf_2 {E : eT} {Q : Int32 → vT → Prop} {V : vT} {o : Nat} {x1 x2 : Int32} (h : wj0_indexOf_2 E Q 0 [some (vr o), some (vi x1), some (vi x2)] [] V) : cj0_indexOf_2 E o x1 x2 V Q := MOk.enter [some (vr o), some (vi x1), some (vi x2)] pn_J0 rfl rfl (Nat.le_of_ble_eq_true rfl) rfl h
theorem bj0_isLatin1_0 {E : eT} {Q : Int32 → vT → Prop} {V : vT} {ln : Nat} {o : Nat} (hZ : STR E o ln) (h : (¬ (V o 1) = 0 → Q 0 V) ∧ ((V o 1) = 0 → Q 1 V)) : wj0_isLatin1 E Q 0 [some (vr o)] [] V := by
  refine wp_gets (v := .inl 1) dJ0_isLatin1_0 q434 (fun _ h9 => h9.2.2.2.1.2.2) ?_
  refine wp_if_eq 17 dJ0_isLatin1_3 (by decide) (fun hc => absurd hc (by decide)) (fun _ => ?_)
  refine wp_aload_n dJ0_isLatin1_6 rfl ?_
  refine wp_getSc dJ0_isLatin1_7 q1747 (STR.b hZ) (STR.k hZ) ?_
  refine wp_if_ne 17 dJ0_isLatin1_10 (by decide) (fun hc => ?_) (fun hc => ?_)
  · replace h := h.1 hc
    refine wp_iconst (v := 0) dJ0_isLatin1_17 rfl ?_
    exact wp_iret dJ0_isLatin1_18 rfl ⟨_, rfl, rfl, rfl, rfl, h⟩
  · replace h := h.2 hc
    refine wp_iconst (v := 1) dJ0_isLatin1_13 rfl ?_
    refine wp_goto 18 dJ0_isLatin1_14 (by decide) ?_
    exact wp_iret dJ0_isLatin1_18 rfl ⟨_, rfl, rfl, rfl, rfl, h⟩
theorem nj0_isLatin1 {E : eT} {Q : Int32 → vT → Prop} {V : vT} {o : Nat} (h : wj0_isLatin1 E Q 0 [some (vr o)] [] V) : cj0_isLatin1 E o V Q := MOk.enter [some (vr o)] pn_J0 rfl rfl (Nat.le_of_ble_eq_true rfl) rfl h
theorem bj0_length_0 {E : eT} {Q : Int32 → vT → Prop} {V : vT} {ln : Nat} {o : Nat} (hZ : STR E o ln) (h : cj0_coder E o V (fun r6 V6 => Q ((nI ln) >>> (r6 &&& 31)) V6)) : wj0_length E Q 0 [some (vr o)] [] V := by
  refine wp_aload_n dJ0_length_0 rfl ?_
  refine wp_getSvs dJ0_length_1 q1748 (STR.b hZ) (STR.k hZ) (STR.v hZ) ?_
  refine wp_alen dJ0_length_4 (STR.vb hZ).2 (STR.vk hZ) ?_
  refine wp_aload_n dJ0_length_5 rfl ?_
  refine wq_ZI0 lkJ0_335 (STR.b hZ) (STR.k hZ) dJ0_length_6 h (rmQ_ok (by decide) (by decide)) ⟨Nat.le_refl _, Nat.le_refl _⟩ (Nat.le_of_ble_eq_true rfl) (fun r6 V6 h => ?_)
  refine wp_ishr dJ0_length_9 ?_
  exact wp_iret dJ0_length_10 rfl ⟨_, rfl, rfl, rfl, rfl, h⟩
theorem nj0_length {E : eT} {Q : Int32 → vT → Prop} {V : vT} {o : Nat} (h : wj0_length E Q 0 [some (vr o)] [] V) : cj0_length E o V Q := MOk.enter [some (vr o)] pn_J0 rfl rfl (Nat.le_of_ble_eq_true rfl) rfl h
theorem bj0_coder_0 {E : eT} {Q : Int32 → vT → Prop} {V : vT} {ln : Nat} {o : Nat} (hZ : STR E o ln) (h : (V o 1) = 0 ∧ Q (V o 1) V) : wj0_coder E Q 0 [some (vr o)] [] V := by
  refine wp_gets (v := .inl 1) dJ0_coder_0 q434 (fun _ h9 => h9.2.2.2.1.2.2) ?_
  refine wp_if_eq 13 dJ0_coder_3 (by decide) (fun hc => absurd hc (by decide)) (fun _ => ?_)
  refine wp_aload_n dJ0_coder_6 rfl ?_
  refine wp_getSc dJ0_coder_7 q1747 (STR.b hZ) (STR.k hZ) ?_
  refine wp_goto 14 dJ0_coder_10 (by decide) ?_
  exact wp_iret dJ0_coder_14 (by rw [h.1]; rfl) ⟨_, rfl, rfl, rfl, rfl, h.2⟩
theorem nj0_coder {E : eT} {Q : Int32 → vT → Prop} {V : vT} {o : Nat} (h : wj0_coder E Q 0 [some (vr o)] [] V) : cj0_coder E o V Q := MOk.enter [some (vr o)] pn_J0 rfl rfl (Nat.le_of_ble_eq_true rfl) rfl h
theorem bj1_indexOf_0 {E : eT} {Q : Int32 → vT → Prop} {V : vT} {ln : Nat} {a1 : Nat} {x2 x3 x4 : Int32} (hb1 : 0 ≤ a1 ∧ a1 < E.2.2.1) (hk1 : E.2.2.2.1 a1 = .inr (1, ln)) (h : cj1_canEncode E x2 V (fun r1 V1 => (¬ r1 = 0 → ((mxI x3 0) < (mnI x4 (nI ln)) → cj1_indexOfChar E a1 x2 (mxI x3 0) (mnI x4 (nI ln)) V1 (fun r33 V33 => Q r33 V33)) ∧ ((mnI x4 (nI ln)) ≤ (mxI x3 0) → Q (-1) V1)) ∧ (r1 = 0 → Q (-1) V1))) : wj1_indexOf E Q 0 [some (vr a1), some (vi x2), some (vi x3), some (vi x4)] [] V := by
  refine wp_iload_n dJ1_indexOf_0 rfl ?_
  refine wq_SI1 lkJ1_88 dJ1_indexOf_1 h (rmQ_ok (by decide) (by decide)) ⟨Nat.le_refl _, Nat.le_refl _⟩ (Nat.le_of_ble_eq_true rfl) (fun r1 V1 h => ?_)
  refine wp_if_ne 9 dJ1_indexOf_4 (by decide) (fun hc => ?_) (fun hc => ?_)
  · replace h := h.1 hc
    refine wp_iload_n dJ1_indexOf_9 rfl ?_
    refine wp_iconst (v := 0) dJ1_indexOf_10 rfl ?_
    refine wp_mmax dJ1_indexOf_11 q450 q451 q124 q452 (by decide) (Nat.le_of_ble_eq_true rfl) (Nat.le_refl _) (Nat.le_refl _) ?_
    refine wi4_2 dJ1_indexOf_14 ?_
    refine wp_iload_n dJ1_indexOf_15 rfl ?_
    refine wp_aload_n dJ1_indexOf_16 rfl ?_
    refine wp_alen dJ1_indexOf_17 hb1.2 hk1 ?_
    refine wp_mmin dJ1_indexOf_18 q453 q454 q124 q455 (by decide) (Nat.le_of_ble_eq_true rfl) (Nat.le_refl _) (Nat.le_refl _) ?_
    refine wi4_3 dJ1_indexOf_21 ?_
    refine wp_iload_n dJ1_indexOf_22 rfl ?_
    refine wp_iload_n dJ1_indexOf_23 rfl ?_
    refine wp_icmp_lt 29 dJ1_indexOf_24 (by decide) (fun hc => ?_) (fun hc => ?_)
    · replace h := h.1 hc
      refine wp_aload_n dJ1_indexOf_29 rfl ?_
      refine wp_iload_n dJ1_indexOf_30 rfl ?_
      refine wp_iload_n dJ1_indexOf_31 rfl ?_
      refine wp_iload_n dJ1_indexOf_32 rfl ?_
      refine wq_SI4 lkJ1_95 dJ1_indexOf_33 h (rmQ_ok (by decide) (by decide)) ⟨Nat.le_refl _, Nat.le_refl _⟩ (Nat.le_of_ble_eq_true rfl) (fun r33 V33 h => ?_)
      exact wp_iret dJ1_indexOf_36 rfl ⟨_, rfl, rfl, rfl, rfl, h⟩
    · replace h := h.2 (Int32.not_lt.mp hc)
      refine wp_iconst (v := (-1)) dJ1_indexOf_27 rfl ?_
      exact wp_iret dJ1_indexOf_28 rfl ⟨_, rfl, rfl, rfl, rfl, h⟩
  · replace h := h.2 hc
    refine wp_iconst (v := (-1)) dJ1_indexOf_7 rfl ?_
    exact wp_iret dJ1_indexOf_8 rfl ⟨_, rfl, rfl, rfl, rfl, h⟩
theorem nj1_indexOf {E : eT} {Q : Int32 → vT → Prop} {V : vT} {a1 : Nat} {x2 x3 x4 : Int32} (h : wj1_indexOf E Q 0 [some (vr a1), some (vi x2), some (vi x3), some (vi x4)] [] V) : cj1_indexOf E a1 x2 x3 x4 V Q := MOk.enter [some (vr a1), some (vi x2), some (vi x3), some (vi x4)] pn_J1 rfl rfl (Nat.le_of_ble_eq_true rfl) rfl h
theorem bj1_canEncode_0 {E : eT} {Q : Int32 → vT → Prop} {V : vT} {x1 : Int32} (h : (x1 < 0 → Q 0 V) ∧ (0 ≤ x1 → (255 < x1 → Q 0 V) ∧ (x1 ≤ 255 → Q 1 V))) : wj1_canEncode E Q 0 [some (vi x1)] [] V := by
  refine wp_iload_n dJ1_canEncode_0 rfl ?_
  refine wp_if_lt 15 dJ1_canEncode_1 (by decide) (fun hc => ?_) (fun hc => ?_)
  · replace h := h.1 hc
    refine wp_iconst (v := 0) dJ1_canEncode_15 rfl ?_
    exact wp_iret dJ1_canEncode_16 rfl ⟨_, rfl, rfl, rfl, rfl, h⟩
  · replace h := h.2 (Int32.not_lt.mp hc)
    refine wp_iload_n dJ1_canEncode_4 rfl ?_
    refine wp_sipush (v := 255) dJ1_canEncode_5 rfl ?_
    refine wp_icmp_gt 15 dJ1_canEncode_8 (by decide) (fun hc => ?_) (fun hc => ?_)
    · replace h := h.1 hc
      refine wp_iconst (v := 0) dJ1_canEncode_15 rfl ?_
      exact wp_iret dJ1_canEncode_16 rfl ⟨_, rfl, rfl, rfl, rfl, h⟩
    · replace h := h.2 (Int32.not_lt.mp hc)
      refine wp_iconst (v := 1) dJ1_canEncode_11 rfl ?_
      refine wp_goto 16 dJ1_canEncode_12 (by decide) ?_
      exact wp_iret dJ1_canEncode_16 rfl ⟨_, rfl, rfl, rfl, rfl, h⟩
theorem nj1_canEncode {E : eT} {Q : Int32 → vT → Prop} {V : vT} {x1 : Int32} (h : wj1_canEncode E Q 0 [some (vi x1)] [] V) : cj1_canEncode E x1 V Q := MOk.enter [some (vi x1)] pn_J1 rfl rfl (Nat.le_of_ble_eq_true rfl) rfl h
theorem bj1_indexOfChar_0 {E : eT} {Q : Int32 → vT → Prop} {V : vT} {ln : Nat} {a1 : Nat} {x2 x3 x4 : Int32} (hb1 : 0 ≤ a1 ∧ a1 < E.2.2.1) (hk1 : E.2.2.2.1 a1 = .inr (1, ln)) (h : wj1_indexOfChar E Q 7 [some (vr a1), none, none, some (vi x4), some (vi (x2.toInt8.toInt32)), some (vi x3)] [] V) : wj1_indexOfChar E Q 0 [some (vr a1), some (vi x2), some (vi x3), some (vi x4), none, none] [] V := by
  refine wp_iload_n dJ1_indexOfChar_0 rfl ?_
  refine wp_i2b dJ1_indexOfChar_1 ?_
  refine wi6_4 dJ1_indexOfChar_2 ?_
  refine wp_iload_n dJ1_indexOfChar_4 rfl ?_
  refine wi6_5 dJ1_indexOfChar_5 ?_
  exact wp_drop [some (vr a1), none, none, some (vi x4), some (vi (x2.toInt8.toInt32)), some (vi x3)] ⟨rfl, ⟨rfl, ⟨rfl, ⟨rfl, trivial⟩⟩⟩⟩ h
theorem bj1_indexOfChar_7 {E : eT} {Q : Int32 → vT → Prop} {V : vT} {ln : Nat} {a1 : Nat} {x3 x4 x5 : Int32} (hb1 : 0 ≤ a1 ∧ a1 < E.2.2.1) (hk1 : E.2.2.2.1 a1 = .inr (1, ln)) (h : (x3 ≤ x5 → Q (-1) V) ∧ (x5 < x3 → vp_in x5 ln ∧ ((¬ (V a1 ((x5).toNatClampNeg)) = x4 → wj1_indexOfChar E Q 7 [some (vr a1), none, none, some (vi x3), some (vi x4), some (vi (x5 + 1))] [] V) ∧ ((V a1 ((x5).toNatClampNeg)) = x4 → Q x5 V)))) : wj1_indexOfChar E Q 7 [some (vr a1), none, none, some (vi x3), some (vi x4), some (vi x5)] [] V := by
  refine wp_iload dJ1_indexOfChar_7 rfl ?_
  refine wp_iload_n dJ1_indexOfChar_9 rfl ?_
  refine wp_icmp_ge 31 dJ1_indexOfChar_10 (by decide) (fun hc => ?_) (fun hc => ?_)
  · replace h := h.1 hc
    refine wp_iconst (v := (-1)) dJ1_indexOfChar_31 rfl ?_
    exact wp_iret dJ1_indexOfChar_32 rfl ⟨_, rfl, rfl, rfl, rfl, h⟩
  · replace h := h.2 (Int32.not_le.mp hc)
    refine wp_aload_n dJ1_indexOfChar_13 rfl ?_
    refine wp_iload dJ1_indexOfChar_14 rfl ?_
    refine wp_bald dJ1_indexOfChar_16 hb1.2 hk1 h.1 ?_
    replace h := h.2
    refine wp_iload dJ1_indexOfChar_17 rfl ?_
    refine wp_icmp_ne 25 dJ1_indexOfChar_19 (by decide) (fun hc => ?_) (fun hc => ?_)
    · replace h := h.1 hc
      refine wc6_5 1 dJ1_indexOfChar_25 rfl ?_
      refine wp_goto 7 dJ1_indexOfChar_28 (by decide) ?_
      exact h
    · replace h := h.2 hc
      refine wp_iload dJ1_indexOfChar_22 rfl ?_
      exact wp_iret dJ1_indexOfChar_24 rfl ⟨_, rfl, rfl, rfl, rfl, h⟩
theorem nj1_indexOfChar {E : eT} {Q : Int32 → vT → Prop} {V : vT} {a1 : Nat} {x2 x3 x4 : Int32} (h : wj1_indexOfChar E Q 0 [some (vr a1), some (vi x2), some (vi x3), some (vi x4), none, none] [] V) : cj1_indexOfChar E a1 x2 x3 x4 V Q := MOk.enter [some (vr a1), some (vi x2), some (vi x3), some (vi x4), none, none] pn_J1 rfl rfl (Nat.le_of_ble_eq_true rfl) rfl h
theorem bj6_bitCount_0 {E : eT} {Q : Int32 → vT → Prop} {V : vT} {x1 : Int32} (h : Q ((((((((x1 - (((x1.toUInt32 >>> ((1 : Int32).toUInt32 &&& Int32.toUInt32 31)).toInt32) &&& 1431655765)) &&& 858993459) + ((((x1 - (((x1.toUInt32 >>> ((1 : Int32).toUInt32 &&& Int32.toUInt32 31)).toInt32) &&& 1431655765)).toUInt32 >>> ((2 : Int32).toUInt32 &&& Int32.toUInt32 31)).toInt32) &&& 858993459)) + (((((x1 - (((x1.toUInt32 >>> ((1 : Int32).toUInt32 &&& Int32.toUInt32 31)).toInt32) &&& 1431655765)) &&& 858993459) + ((((x1 - (((x1.toUInt32 >>> ((1 : Int32).toUInt32 &&& Int32.toUInt32 31)).toInt32) &&& 1431655765)).toUInt32 >>> ((2 : Int32).toUInt32 &&& Int32.toUInt32 31)).toInt32) &&& 858993459)).toUInt32 >>> ((4 : Int32).toUInt32 &&& Int32.toUInt32 31)).toInt32)) &&& 252645135) + (((((((x1 - (((x1.toUInt32 >>> ((1 : Int32).toUInt32 &&& Int32.toUInt32 31)).toInt32) &&& 1431655765)) &&& 858993459) + ((((x1 - (((x1.toUInt32 >>> ((1 : Int32).toUInt32 &&& Int32.toUInt32 31)).toInt32) &&& 1431655765)).toUInt32 >>> ((2 : Int32).toUInt32 &&& Int32.toUInt32 31)).toInt32) &&& 858993459)) + (((((x1 - (((x1.toUInt32 >>> ((1 : Int32).toUInt32 &&& Int32.toUInt32 31)).toInt32) &&& 1431655765)) &&& 858993459) + ((((x1 - (((x1.toUInt32 >>> ((1 : Int32).toUInt32 &&& Int32.toUInt32 31)).toInt32) &&& 1431655765)).toUInt32 >>> ((2 : Int32).toUInt32 &&& Int32.toUInt32 31)).toInt32) &&& 858993459)).toUInt32 >>> ((4 : Int32).toUInt32 &&& Int32.toUInt32 31)).toInt32)) &&& 252645135).toUInt32 >>> ((8 : Int32).toUInt32 &&& Int32.toUInt32 31)).toInt32)) + ((((((((x1 - (((x1.toUInt32 >>> ((1 : Int32).toUInt32 &&& Int32.toUInt32 31)).toInt32) &&& 1431655765)) &&& 858993459) + ((((x1 - (((x1.toUInt32 >>> ((1 : Int32).toUInt32 &&& Int32.toUInt32 31)).toInt32) &&& 1431655765)).toUInt32 >>> ((2 : Int32).toUInt32 &&& Int32.toUInt32 31)).toInt32) &&& 858993459)) + (((((x1 - (((x1.toUInt32 >>> ((1 : Int32).toUInt32 &&& Int32.toUInt32 31)).toInt32) &&& 1431655765)) &&& 858993459) + ((((x1 - (((x1.toUInt32 >>> ((1 : Int32).toUInt32 &&& Int32.toUInt32 31)).toInt32) &&& 1431655765)).toUInt32 >>> ((2 : Int32).toUInt32 &&& Int32.toUInt32 31)).toInt32) &&& 858993459)).toUInt32 >>> ((4 : Int32).toUInt32 &&& Int32.toUInt32 31)).toInt32)) &&& 252645135) + (((((((x1 - (((x1.toUInt32 >>> ((1 : Int32).toUInt32 &&& Int32.toUInt32 31)).toInt32) &&& 1431655765)) &&& 858993459) + ((((x1 - (((x1.toUInt32 >>> ((1 : Int32).toUInt32 &&& Int32.toUInt32 31)).toInt32) &&& 1431655765)).toUInt32 >>> ((2 : Int32).toUInt32 &&& Int32.toUInt32 31)).toInt32) &&& 858993459)) + (((((x1 - (((x1.toUInt32 >>> ((1 : Int32).toUInt32 &&& Int32.toUInt32 31)).toInt32) &&& 1431655765)) &&& 858993459) + ((((x1 - (((x1.toUInt32 >>> ((1 : Int32).toUInt32 &&& Int32.toUInt32 31)).toInt32) &&& 1431655765)).toUInt32 >>> ((2 : Int32).toUInt32 &&& Int32.toUInt32 31)).toInt32) &&& 858993459)).toUInt32 >>> ((4 : Int32).toUInt32 &&& Int32.toUInt32 31)).toInt32)) &&& 252645135).toUInt32 >>> ((8 : Int32).toUInt32 &&& Int32.toUInt32 31)).toInt32)).toUInt32 >>> ((16 : Int32).toUInt32 &&& Int32.toUInt32 31)).toInt32)) &&& 63) V) : wj6_bitCount E Q 0 [some (vi x1)] [] V := by
  refine wp_iload_n dJ6_bitCount_0 rfl ?_
  refine wp_iload_n dJ6_bitCount_1 rfl ?_
  refine wp_iconst (v := 1) dJ6_bitCount_2 rfl ?_
  refine wp_iushr dJ6_bitCount_3 ?_
  refine wp_ldcw (v := 1431655765) dJ6_bitCount_4 q1134 ?_
  refine wp_iand dJ6_bitCount_7 ?_
  refine wp_isub dJ6_bitCount_8 ?_
  refine wi1_0 dJ6_bitCount_9 ?_
  refine wp_iload_n dJ6_bitCount_10 rfl ?_
  refine wp_ldcw (v := 858993459) dJ6_bitCount_11 q1135 ?_
  refine wp_iand dJ6_bitCount_14 ?_
  refine wp_iload_n dJ6_bitCount_15 rfl ?_
  refine wp_iconst (v := 2) dJ6_bitCount_16 rfl ?_
  refine wp_iushr dJ6_bitCount_17 ?_
  refine wp_ldcw (v := 858993459) dJ6_bitCount_18 q1135 ?_
  refine wp_iand dJ6_bitCount_21 ?_
  refine wp_iadd dJ6_bitCount_22 ?_
  refine wi1_0 dJ6_bitCount_23 ?_
  refine wp_iload_n dJ6_bitCount_24 rfl ?_
  refine wp_iload_n dJ6_bitCount_25 rfl ?_
  refine wp_iconst (v := 4) dJ6_bitCount_26 rfl ?_
  refine wp_iushr dJ6_bitCount_27 ?_
  refine wp_iadd dJ6_bitCount_28 ?_
  refine wp_ldcw (v := 252645135) dJ6_bitCount_29 q1136 ?_
  refine wp_iand dJ6_bitCount_32 ?_
  refine wi1_0 dJ6_bitCount_33 ?_
  refine wp_iload_n dJ6_bitCount_34 rfl ?_
  refine wp_iload_n dJ6_bitCount_35 rfl ?_
  refine wp_bipush (v := 8) dJ6_bitCount_36 rfl ?_
  refine wp_iushr dJ6_bitCount_38 ?_
  refine wp_iadd dJ6_bitCount_39 ?_
  refine wi1_0 dJ6_bitCount_40 ?_
  refine wp_iload_n dJ6_bitCount_41 rfl ?_
  refine wp_iload_n dJ6_bitCount_42 rfl ?_
  refine wp_bipush (v := 16) dJ6_bitCount_43 rfl ?_
  refine wp_iushr dJ6_bitCount_45 ?_
  refine wp_iadd dJ6_bitCount_46 ?_
  refine wi1_0 dJ6_bitCount_47 ?_
  refine wp_iload_n dJ6_bitCount_48 rfl ?_
  refine wp_bipush (v := 63) dJ6_bitCount_49 rfl ?_
  refine wp_iand dJ6_bitCount_51 ?_
  exact wp_iret dJ6_bitCount_52 rfl ⟨_, rfl, rfl, rfl, rfl, h⟩
theorem nj6_bitCount {E : eT} {Q : Int32 → vT → Prop} {V : vT} {x1 : Int32} (h : wj6_bitCount E Q 0 [some (vi x1)] [] V) : cj6_bitCount E x1 V Q := MOk.enter [some (vi x1)] pn_J6 rfl rfl (Nat.le_of_ble_eq_true rfl) rfl h
