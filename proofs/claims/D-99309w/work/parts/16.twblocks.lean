/-! THE TWIN: its methods walked, block by block (1) -/
theorem b6_feed_0 {E : eT} {Q : Int32 → vT → Prop} {V : vT} {x1 x2 x3 x4 x5 : Int32} (hT : TW E) (h : (((V 214 6) + 20) ≤ 260 → c6_types E x1 V (fun V17 => c6_types E x2 V17 (fun V22 => c6_types E x3 V22 (fun V27 => c6_types E x4 V27 (fun V33 => c6_types E x5 V33 (fun V39 => Q (V39 214 6) V39)))))) ∧ (260 < ((V 214 6) + 20) → Q (-1) V)) : w6_feed E Q 0 [some (vr 214), some (vi x1), some (vi x2), some (vi x3), some (vi x4), some (vi x5)] [] V := by
  refine wp_aload_n dX6_feed_0 rfl ?_
  refine wp_geti dX6_feed_1 fk6_117 (tb_214 hT) (tk_214 hT) rfl ?_
  refine wp_bipush (v := 20) dX6_feed_4 rfl ?_
  refine wp_iadd dX6_feed_6 ?_
  refine wp_sipush (v := 260) dX6_feed_7 rfl ?_
  refine wp_icmp_le 15 dX6_feed_10 (by decide) (fun hc => ?_) (fun hc => ?_)
  · replace h := h.1 hc
    refine wp_aload_n dX6_feed_15 rfl ?_
    refine wp_iload_n dX6_feed_16 rfl ?_
    refine wq_VV1 lk6_121 rfl (tb_214 hT) (tk_214 hT) dX6_feed_17 h (rmQ_ok (by decide) (by decide)) ⟨Nat.le_refl _, Nat.le_refl _⟩ (Nat.le_of_ble_eq_true rfl) (fun V17 h => ?_)
    refine wp_aload_n dX6_feed_20 rfl ?_
    refine wp_iload_n dX6_feed_21 rfl ?_
    refine wq_VV1 lk6_121 rfl (tb_214 hT) (tk_214 hT) dX6_feed_22 h (rmQ_ok (by decide) (by decide)) ⟨Nat.le_refl _, Nat.le_refl _⟩ (Nat.le_of_ble_eq_true rfl) (fun V22 h => ?_)
    refine wp_aload_n dX6_feed_25 rfl ?_
    refine wp_iload_n dX6_feed_26 rfl ?_
    refine wq_VV1 lk6_121 rfl (tb_214 hT) (tk_214 hT) dX6_feed_27 h (rmQ_ok (by decide) (by decide)) ⟨Nat.le_refl _, Nat.le_refl _⟩ (Nat.le_of_ble_eq_true rfl) (fun V27 h => ?_)
    refine wp_aload_n dX6_feed_30 rfl ?_
    refine wp_iload dX6_feed_31 rfl ?_
    refine wq_VV1 lk6_121 rfl (tb_214 hT) (tk_214 hT) dX6_feed_33 h (rmQ_ok (by decide) (by decide)) ⟨Nat.le_refl _, Nat.le_refl _⟩ (Nat.le_of_ble_eq_true rfl) (fun V33 h => ?_)
    refine wp_aload_n dX6_feed_36 rfl ?_
    refine wp_iload dX6_feed_37 rfl ?_
    refine wq_VV1 lk6_121 rfl (tb_214 hT) (tk_214 hT) dX6_feed_39 h (rmQ_ok (by decide) (by decide)) ⟨Nat.le_refl _, Nat.le_refl _⟩ (Nat.le_of_ble_eq_true rfl) (fun V39 h => ?_)
    refine wp_aload_n dX6_feed_42 rfl ?_
    refine wp_geti dX6_feed_43 fk6_117 (tb_214 hT) (tk_214 hT) rfl ?_
    exact wp_iret dX6_feed_46 rfl ⟨_, rfl, rfl, rfl, rfl, h⟩
  · replace h := h.2 (Int32.not_le.mp hc)
    refine wp_iconst (v := (-1)) dX6_feed_13 rfl ?_
    exact wp_iret dX6_feed_14 rfl ⟨_, rfl, rfl, rfl, rfl, h⟩
theorem n6_feed {E : eT} {Q : Int32 → vT → Prop} {V : vT} {x1 x2 x3 x4 x5 : Int32} (h : w6_feed E Q 0 [some (vr 214), some (vi x1), some (vi x2), some (vi x3), some (vi x4), some (vi x5)] [] V) : c6_feed E x1 x2 x3 x4 x5 V Q := MOk.enter [some (vr 214), some (vi x1), some (vi x2), some (vi x3), some (vi x4), some (vi x5)] pn_6 rfl rfl (Nat.le_of_ble_eq_true rfl) rfl h
theorem b6_types_0 {E : eT} {Q : vT → Prop} {V : vT} {x1 : Int32} (hT : TW E) (h : w6_types E Q 2 [some (vr 214), some (vi x1), some (vi 3)] [] V) : w6_types E Q 0 [some (vr 214), some (vi x1), none] [] V := by
  refine wp_iconst (v := 3) dX6_types_0 rfl ?_
  refine wi3_2 dX6_types_1 ?_
  exact h
theorem b6_types_2 {E : eT} {Q : vT → Prop} {V : vT} {x1 x2 : Int32} (hT : TW E) (h : (x2 < 0 → Q V) ∧ (0 ≤ x2 → vp_in (V 214 6) 260 ∧ (w6_types E Q 2 [some (vr 214), some (vi x1), some (vi (x2 + (-1)))] [] (up2 (up2 V 220 ((V 214 6).toNatClampNeg) (((x1 >>> ((8 * x2) &&& 31)).toInt8.toInt32).toInt8.toInt32)) 214 6 (((up2 V 220 ((V 214 6).toNatClampNeg) (((x1 >>> ((8 * x2) &&& 31)).toInt8.toInt32).toInt8.toInt32)) 214 6) + 1))))) : w6_types E Q 2 [some (vr 214), some (vi x1), some (vi x2)] [] V := by
  refine wp_iload_n dX6_types_2 rfl ?_
  refine wp_if_lt 38 dX6_types_3 (by decide) (fun hc => ?_) (fun hc => ?_)
  · replace h := h.1 hc
    exact wp_vret dX6_types_38 ⟨rfl, rfl, rfl, rfl, h⟩
  · replace h := h.2 (Int32.not_lt.mp hc)
    refine wp_aload_n dX6_types_6 rfl ?_
    refine wp_getrs dX6_types_7 fk6_25 (tb_214 hT) (tk_214 hT) rfl (tr_5 hT) ?_
    refine wp_aload_n dX6_types_10 rfl ?_
    refine wp_geti dX6_types_11 fk6_117 (tb_214 hT) (tk_214 hT) rfl ?_
    refine wp_iload_n dX6_types_14 rfl ?_
    refine wp_bipush (v := 8) dX6_types_15 rfl ?_
    refine wp_iload_n dX6_types_17 rfl ?_
    refine wp_imul dX6_types_18 ?_
    refine wp_ishr dX6_types_19 ?_
    refine wp_i2b dX6_types_20 ?_
    refine wp_bast dX6_types_21 (tb_220 hT) (tk_220 hT) h.1 ?_
    replace h := h.2
    refine wp_aload_n dX6_types_22 rfl ?_
    refine wp_aload_n dX6_types_23 rfl ?_
    refine wp_geti dX6_types_24 fk6_117 (tb_214 hT) (tk_214 hT) rfl ?_
    refine wp_iconst (v := 1) dX6_types_27 rfl ?_
    refine wp_iadd dX6_types_28 ?_
    refine wp_puti dX6_types_29 fp6_117 (tb_214 hT) (tk_214 hT) rfl ?_
    refine wc3_2 (-1) dX6_types_32 rfl ?_
    refine wp_goto 2 dX6_types_35 (by decide) ?_
    exact h
theorem n6_types {E : eT} {Q : vT → Prop} {V : vT} {x1 : Int32} (h : w6_types E Q 0 [some (vr 214), some (vi x1), none] [] V) : c6_types E x1 V Q := MOk.enter [some (vr 214), some (vi x1), none] pn_6 rfl rfl (Nat.le_of_ble_eq_true rfl) rfl h
theorem b6_law_0 {E : eT} {Q : Int32 → vT → Prop} {V : vT} {x1 : Int32} (hT : TW E) (h : c6_in E x1 1 240 V (fun r5 V5 => (r5 = 0 → Q (-1) V5) ∧ (¬ r5 = 0 → (x1 ≤ (V5 214 6) → c6_beginsText E x1 V5 (fun V23 => c6_readsRule E V23 (fun r27 V27 => w6_law E Q 31 [some (vr 214), none, some (vi r27), none] [] V27))) ∧ ((V5 214 6) < x1 → Q (-1) V5)))) : w6_law E Q 0 [some (vr 214), some (vi x1), none, none] [] V := by
  refine wp_iload_n dX6_law_0 rfl ?_
  refine wp_iconst (v := 1) dX6_law_1 rfl ?_
  refine wp_sipush (v := 240) dX6_law_2 rfl ?_
  refine wq_SI3 lk6_102 dX6_law_5 h (rmQ_ok (by decide) (by decide)) ⟨Nat.le_refl _, Nat.le_refl _⟩ (Nat.le_of_ble_eq_true rfl) (fun r5 V5 h => ?_)
  refine wp_if_eq 19 dX6_law_8 (by decide) (fun hc => ?_) (fun hc => ?_)
  · replace h := h.1 hc
    refine wp_iconst (v := (-1)) dX6_law_19 rfl ?_
    exact wp_iret dX6_law_20 rfl ⟨_, rfl, rfl, rfl, rfl, h⟩
  · replace h := h.2 hc
    refine wp_iload_n dX6_law_11 rfl ?_
    refine wp_aload_n dX6_law_12 rfl ?_
    refine wp_geti dX6_law_13 fk6_117 (tb_214 hT) (tk_214 hT) rfl ?_
    refine wp_icmp_le 21 dX6_law_16 (by decide) (fun hc => ?_) (fun hc => ?_)
    · replace h := h.1 hc
      refine wp_aload_n dX6_law_21 rfl ?_
      refine wp_iload_n dX6_law_22 rfl ?_
      refine wq_VV1 lk6_209 rfl (tb_214 hT) (tk_214 hT) dX6_law_23 h (rmQ_ok (by decide) (by decide)) ⟨Nat.le_refl _, Nat.le_refl _⟩ (Nat.le_of_ble_eq_true rfl) (fun V23 h => ?_)
      refine wp_aload_n dX6_law_26 rfl ?_
      refine wq_VI0 lk6_212 rfl (tb_214 hT) (tk_214 hT) dX6_law_27 h (rmQ_ok (by decide) (by decide)) ⟨Nat.le_refl _, Nat.le_refl _⟩ (Nat.le_of_ble_eq_true rfl) (fun r27 V27 h => ?_)
      refine wi4_2 dX6_law_30 ?_
      exact wp_drop [some (vr 214), none, some (vi r27), none] ⟨rfl, ⟨rfl, trivial⟩⟩ h
    · replace h := h.2 (Int32.not_le.mp hc)
      refine wp_iconst (v := (-1)) dX6_law_19 rfl ?_
      exact wp_iret dX6_law_20 rfl ⟨_, rfl, rfl, rfl, rfl, h⟩
theorem b6_law_31 {E : eT} {Q : Int32 → vT → Prop} {V : vT} {x2 : Int32} (hT : TW E) (h : (x2 = 0 → (¬ x2 = 0 → w6_law E Q 95 [some (vr 214), none, none, some (vi 0)] [] (up2 (up2 V 214 6 0) 214 15 ((up2 V 214 6 0) 214 14))) ∧ (x2 = 0 → Q ((up2 V 214 6 0) 214 9) (up2 V 214 6 0))) ∧ (¬ x2 = 0 → ((V 214 8) ≤ (V 214 7) → (¬ x2 = 0 → w6_law E Q 95 [some (vr 214), none, none, some (vi 0)] [] (up2 (up2 V 214 6 0) 214 15 ((up2 V 214 6 0) 214 14))) ∧ (x2 = 0 → Q ((up2 V 214 6 0) 214 9) (up2 V 214 6 0))) ∧ ((V 214 7) < (V 214 8) → c6_takes E 59 V (fun r49 V49 => (r49 = 0 → w6_law E Q 31 [some (vr 214), none, some (vi 0), none] [] V49) ∧ (¬ r49 = 0 → c6_readsRule E V49 (fun r56 V56 => (r56 = 0 → w6_law E Q 31 [some (vr 214), none, some (vi 0), none] [] V56) ∧ (¬ r56 = 0 → w6_law E Q 31 [some (vr 214), none, some (vi 1), none] [] V56))))))) : w6_law E Q 31 [some (vr 214), none, some (vi x2), none] [] V := by
  refine wp_iload_n dX6_law_31 rfl ?_
  refine wp_if_eq 71 dX6_law_32 (by decide) (fun hc => ?_) (fun hc => ?_)
  · replace h := h.1 hc
    refine wp_aload_n dX6_law_71 rfl ?_
    refine wp_iconst (v := 0) dX6_law_72 rfl ?_
    refine wp_puti dX6_law_73 fp6_117 (tb_214 hT) (tk_214 hT) rfl ?_
    refine wp_iload_n dX6_law_76 rfl ?_
    refine wp_if_ne 85 dX6_law_77 (by decide) (fun hc => ?_) (fun hc => ?_)
    · replace h := h.1 hc
      refine wp_aload_n dX6_law_85 rfl ?_
      refine wp_aload_n dX6_law_86 rfl ?_
      refine wp_geti dX6_law_87 fk6_203 (tb_214 hT) (tk_214 hT) rfl ?_
      refine wp_puti dX6_law_90 fp6_218 (tb_214 hT) (tk_214 hT) rfl ?_
      refine wp_iconst (v := 0) dX6_law_93 rfl ?_
      refine wi4_3 dX6_law_94 ?_
      exact wp_drop [some (vr 214), none, none, some (vi 0)] ⟨rfl, ⟨rfl, trivial⟩⟩ h
    · replace h := h.2 hc
      refine wp_aload_n dX6_law_80 rfl ?_
      refine wp_geti dX6_law_81 fk6_135 (tb_214 hT) (tk_214 hT) rfl ?_
      exact wp_iret dX6_law_84 rfl ⟨_, rfl, rfl, rfl, rfl, h⟩
  · replace h := h.2 hc
    refine wp_aload_n dX6_law_35 rfl ?_
    refine wp_geti dX6_law_36 fk6_125 (tb_214 hT) (tk_214 hT) rfl ?_
    refine wp_aload_n dX6_law_39 rfl ?_
    refine wp_geti dX6_law_40 fk6_128 (tb_214 hT) (tk_214 hT) rfl ?_
    refine wp_icmp_ge 71 dX6_law_43 (by decide) (fun hc => ?_) (fun hc => ?_)
    · replace h := h.1 hc
      refine wp_aload_n dX6_law_71 rfl ?_
      refine wp_iconst (v := 0) dX6_law_72 rfl ?_
      refine wp_puti dX6_law_73 fp6_117 (tb_214 hT) (tk_214 hT) rfl ?_
      refine wp_iload_n dX6_law_76 rfl ?_
      refine wp_if_ne 85 dX6_law_77 (by decide) (fun hc => ?_) (fun hc => ?_)
      · replace h := h.1 hc
        refine wp_aload_n dX6_law_85 rfl ?_
        refine wp_aload_n dX6_law_86 rfl ?_
        refine wp_geti dX6_law_87 fk6_203 (tb_214 hT) (tk_214 hT) rfl ?_
        refine wp_puti dX6_law_90 fp6_218 (tb_214 hT) (tk_214 hT) rfl ?_
        refine wp_iconst (v := 0) dX6_law_93 rfl ?_
        refine wi4_3 dX6_law_94 ?_
        exact wp_drop [some (vr 214), none, none, some (vi 0)] ⟨rfl, ⟨rfl, trivial⟩⟩ h
      · replace h := h.2 hc
        refine wp_aload_n dX6_law_80 rfl ?_
        refine wp_geti dX6_law_81 fk6_135 (tb_214 hT) (tk_214 hT) rfl ?_
        exact wp_iret dX6_law_84 rfl ⟨_, rfl, rfl, rfl, rfl, h⟩
    · replace h := h.2 (Int32.not_le.mp hc)
      refine wp_aload_n dX6_law_46 rfl ?_
      refine wp_bipush (v := 59) dX6_law_47 rfl ?_
      refine wq_VI1 lk6_215 rfl (tb_214 hT) (tk_214 hT) dX6_law_49 h (rmQ_ok (by decide) (by decide)) ⟨Nat.le_refl _, Nat.le_refl _⟩ (Nat.le_of_ble_eq_true rfl) (fun r49 V49 h => ?_)
      refine wp_if_eq 66 dX6_law_52 (by decide) (fun hc => ?_) (fun hc => ?_)
      · replace h := h.1 hc
        refine wp_iconst (v := 0) dX6_law_66 rfl ?_
        refine wi4_2 dX6_law_67 ?_
        refine wp_goto 31 dX6_law_68 (by decide) ?_
        exact h
      · replace h := h.2 hc
        refine wp_aload_n dX6_law_55 rfl ?_
        refine wq_VI0 lk6_212 rfl (tb_214 hT) (tk_214 hT) dX6_law_56 h (rmQ_ok (by decide) (by decide)) ⟨Nat.le_refl _, Nat.le_refl _⟩ (Nat.le_of_ble_eq_true rfl) (fun r56 V56 h => ?_)
        refine wp_if_eq 66 dX6_law_59 (by decide) (fun hc => ?_) (fun hc => ?_)
        · replace h := h.1 hc
          refine wp_iconst (v := 0) dX6_law_66 rfl ?_
          refine wi4_2 dX6_law_67 ?_
          refine wp_goto 31 dX6_law_68 (by decide) ?_
          exact h
        · replace h := h.2 hc
          refine wp_iconst (v := 1) dX6_law_62 rfl ?_
          refine wp_goto 67 dX6_law_63 (by decide) ?_
          refine wi4_2 dX6_law_67 ?_
          refine wp_goto 31 dX6_law_68 (by decide) ?_
          exact h
theorem b6_law_95 {E : eT} {Q : Int32 → vT → Prop} {V : vT} {x3 : Int32} (hT : TW E) (h : ((V 214 12) ≤ x3 → w6_law E Q 123 [some (vr 214), none, none, some (vi 0)] [] V) ∧ (x3 < (V 214 12) → vp_in x3 260 ∧ (vp_in x3 260 ∧ (w6_law E Q 95 [some (vr 214), none, none, some (vi (x3 + 1))] [] (up2 V 227 (x3.toNatClampNeg) (V 221 ((x3).toNatClampNeg))))))) : w6_law E Q 95 [some (vr 214), none, none, some (vi x3)] [] V := by
  refine wp_iload_n dX6_law_95 rfl ?_
  refine wp_aload_n dX6_law_96 rfl ?_
  refine wp_geti dX6_law_97 fk6_148 (tb_214 hT) (tk_214 hT) rfl ?_
  refine wp_icmp_ge 121 dX6_law_100 (by decide) (fun hc => ?_) (fun hc => ?_)
  · replace h := h.1 hc
    refine wp_iconst (v := 0) dX6_law_121 rfl ?_
    refine wi4_3 dX6_law_122 ?_
    exact h
  · replace h := h.2 (Int32.not_le.mp hc)
    refine wp_aload_n dX6_law_103 rfl ?_
    refine wp_getrs dX6_law_104 fk6_47 (tb_214 hT) (tk_214 hT) rfl (tr_22 hT) ?_
    refine wp_iload_n dX6_law_107 rfl ?_
    refine wp_aload_n dX6_law_108 rfl ?_
    refine wp_getrs dX6_law_109 fk6_29 (tb_214 hT) (tk_214 hT) rfl (tr_16 hT) ?_
    refine wp_iload_n dX6_law_112 rfl ?_
    refine wp_iald dX6_law_113 (tb_221 hT).2 (tk_221 hT) h.1 ?_
    replace h := h.2
    refine wp_iast dX6_law_114 (tb_227 hT) (tk_227 hT) h.1 ?_
    replace h := h.2
    refine wc4_3 1 dX6_law_115 rfl ?_
    refine wp_goto 95 dX6_law_118 (by decide) ?_
    exact h
theorem b6_law_123 {E : eT} {Q : Int32 → vT → Prop} {V : vT} {x3 : Int32} (hT : TW E) (h : ((V 214 14) ≤ x3 → Q (V 214 14) V) ∧ (x3 < (V 214 14) → vp_in x3 16 ∧ (vp_in x3 16 ∧ (vp_in x3 16 ∧ (vp_in x3 16 ∧ (vp_in x3 16 ∧ (vp_in x3 16 ∧ (vp_in x3 16 ∧ (vp_in x3 16 ∧ (w6_law E Q 123 [some (vr 214), none, none, some (vi (x3 + 1))] [] (up2 (up2 (up2 (up2 V 228 (x3.toNatClampNeg) (V 223 ((x3).toNatClampNeg))) 229 (x3.toNatClampNeg) ((up2 V 228 (x3.toNatClampNeg) (V 223 ((x3).toNatClampNeg))) 224 ((x3).toNatClampNeg))) 230 (x3.toNatClampNeg) ((up2 (up2 V 228 (x3.toNatClampNeg) (V 223 ((x3).toNatClampNeg))) 229 (x3.toNatClampNeg) ((up2 V 228 (x3.toNatClampNeg) (V 223 ((x3).toNatClampNeg))) 224 ((x3).toNatClampNeg))) 225 ((x3).toNatClampNeg))) 231 (x3.toNatClampNeg) ((up2 (up2 (up2 V 228 (x3.toNatClampNeg) (V 223 ((x3).toNatClampNeg))) 229 (x3.toNatClampNeg) ((up2 V 228 (x3.toNatClampNeg) (V 223 ((x3).toNatClampNeg))) 224 ((x3).toNatClampNeg))) 230 (x3.toNatClampNeg) ((up2 (up2 V 228 (x3.toNatClampNeg) (V 223 ((x3).toNatClampNeg))) 229 (x3.toNatClampNeg) ((up2 V 228 (x3.toNatClampNeg) (V 223 ((x3).toNatClampNeg))) 224 ((x3).toNatClampNeg))) 225 ((x3).toNatClampNeg))) 226 ((x3).toNatClampNeg))))))))))))) : w6_law E Q 123 [some (vr 214), none, none, some (vi x3)] [] V := by
  refine wp_iload_n dX6_law_123 rfl ?_
  refine wp_aload_n dX6_law_124 rfl ?_
  refine wp_geti dX6_law_125 fk6_203 (tb_214 hT) (tk_214 hT) rfl ?_
  refine wp_icmp_ge 185 dX6_law_128 (by decide) (fun hc => ?_) (fun hc => ?_)
  · replace h := h.1 hc
    refine wp_aload_n dX6_law_185 rfl ?_
    refine wp_geti dX6_law_186 fk6_203 (tb_214 hT) (tk_214 hT) rfl ?_
    exact wp_iret dX6_law_189 rfl ⟨_, rfl, rfl, rfl, rfl, h⟩
  · replace h := h.2 (Int32.not_le.mp hc)
    refine wp_aload_n dX6_law_131 rfl ?_
    refine wp_getrs dX6_law_132 fk6_50 (tb_214 hT) (tk_214 hT) rfl (tr_23 hT) ?_
    refine wp_iload_n dX6_law_135 rfl ?_
    refine wp_aload_n dX6_law_136 rfl ?_
    refine wp_getrs dX6_law_137 fk6_35 (tb_214 hT) (tk_214 hT) rfl (tr_18 hT) ?_
    refine wp_iload_n dX6_law_140 rfl ?_
    refine wp_iald dX6_law_141 (tb_223 hT).2 (tk_223 hT) h.1 ?_
    replace h := h.2
    refine wp_iast dX6_law_142 (tb_228 hT) (tk_228 hT) h.1 ?_
    replace h := h.2
    refine wp_aload_n dX6_law_143 rfl ?_
    refine wp_getrs dX6_law_144 fk6_53 (tb_214 hT) (tk_214 hT) rfl (tr_24 hT) ?_
    refine wp_iload_n dX6_law_147 rfl ?_
    refine wp_aload_n dX6_law_148 rfl ?_
    refine wp_getrs dX6_law_149 fk6_38 (tb_214 hT) (tk_214 hT) rfl (tr_19 hT) ?_
    refine wp_iload_n dX6_law_152 rfl ?_
    refine wp_iald dX6_law_153 (tb_224 hT).2 (tk_224 hT) h.1 ?_
    replace h := h.2
    refine wp_iast dX6_law_154 (tb_229 hT) (tk_229 hT) h.1 ?_
    replace h := h.2
    refine wp_aload_n dX6_law_155 rfl ?_
    refine wp_getrs dX6_law_156 fk6_56 (tb_214 hT) (tk_214 hT) rfl (tr_25 hT) ?_
    refine wp_iload_n dX6_law_159 rfl ?_
    refine wp_aload_n dX6_law_160 rfl ?_
    refine wp_getrs dX6_law_161 fk6_41 (tb_214 hT) (tk_214 hT) rfl (tr_20 hT) ?_
    refine wp_iload_n dX6_law_164 rfl ?_
    refine wp_iald dX6_law_165 (tb_225 hT).2 (tk_225 hT) h.1 ?_
    replace h := h.2
    refine wp_iast dX6_law_166 (tb_230 hT) (tk_230 hT) h.1 ?_
    replace h := h.2
    refine wp_aload_n dX6_law_167 rfl ?_
    refine wp_getrs dX6_law_168 fk6_59 (tb_214 hT) (tk_214 hT) rfl (tr_26 hT) ?_
    refine wp_iload_n dX6_law_171 rfl ?_
    refine wp_aload_n dX6_law_172 rfl ?_
    refine wp_getrs dX6_law_173 fk6_44 (tb_214 hT) (tk_214 hT) rfl (tr_21 hT) ?_
    refine wp_iload_n dX6_law_176 rfl ?_
    refine wp_iald dX6_law_177 (tb_226 hT).2 (tk_226 hT) h.1 ?_
    replace h := h.2
    refine wp_iast dX6_law_178 (tb_231 hT) (tk_231 hT) h.1 ?_
    replace h := h.2
    refine wc4_3 1 dX6_law_179 rfl ?_
    refine wp_goto 123 dX6_law_182 (by decide) ?_
    exact h
theorem n6_law {E : eT} {Q : Int32 → vT → Prop} {V : vT} {x1 : Int32} (h : w6_law E Q 0 [some (vr 214), some (vi x1), none, none] [] V) : c6_law E x1 V Q := MOk.enter [some (vr 214), some (vi x1), none, none] pn_6 rfl rfl (Nat.le_of_ble_eq_true rfl) rfl h
theorem b6_in_0 {E : eT} {Q : Int32 → vT → Prop} {V : vT} {x1 x2 x3 : Int32} (hT : TW E) (h : (x1 < x2 → Q 0 V) ∧ (x2 ≤ x1 → (x3 < x1 → Q 0 V) ∧ (x1 ≤ x3 → Q 1 V))) : w6_in E Q 0 [some (vi x1), some (vi x2), some (vi x3)] [] V := by
  refine wp_iload_n dX6_in_0 rfl ?_
  refine wp_iload_n dX6_in_1 rfl ?_
  refine wp_icmp_lt 14 dX6_in_2 (by decide) (fun hc => ?_) (fun hc => ?_)
  · replace h := h.1 hc
    refine wp_iconst (v := 0) dX6_in_14 rfl ?_
    exact wp_iret dX6_in_15 rfl ⟨_, rfl, rfl, rfl, rfl, h⟩
  · replace h := h.2 (Int32.not_lt.mp hc)
    refine wp_iload_n dX6_in_5 rfl ?_
    refine wp_iload_n dX6_in_6 rfl ?_
    refine wp_icmp_gt 14 dX6_in_7 (by decide) (fun hc => ?_) (fun hc => ?_)
    · replace h := h.1 hc
      refine wp_iconst (v := 0) dX6_in_14 rfl ?_
      exact wp_iret dX6_in_15 rfl ⟨_, rfl, rfl, rfl, rfl, h⟩
    · replace h := h.2 (Int32.not_lt.mp hc)
      refine wp_iconst (v := 1) dX6_in_10 rfl ?_
      refine wp_goto 15 dX6_in_11 (by decide) ?_
      exact wp_iret dX6_in_15 rfl ⟨_, rfl, rfl, rfl, rfl, h⟩
theorem n6_in {E : eT} {Q : Int32 → vT → Prop} {V : vT} {x1 x2 x3 : Int32} (h : w6_in E Q 0 [some (vi x1), some (vi x2), some (vi x3)] [] V) : c6_in E x1 x2 x3 V Q := MOk.enter [some (vi x1), some (vi x2), some (vi x3)] pn_6 rfl rfl (Nat.le_of_ble_eq_true rfl) rfl h
theorem b6_beginsText_0 {E : eT} {Q : vT → Prop} {V : vT} {x1 : Int32} (hT : TW E) (h : Q (up2 (up2 (up2 (up2 V 214 7 0) 214 8 x1) 214 12 0) 214 14 0)) : w6_beginsText E Q 0 [some (vr 214), some (vi x1)] [] V := by
  refine wp_aload_n dX6_beginsText_0 rfl ?_
  refine wp_iconst (v := 0) dX6_beginsText_1 rfl ?_
  refine wp_puti dX6_beginsText_2 fp6_125 (tb_214 hT) (tk_214 hT) rfl ?_
  refine wp_aload_n dX6_beginsText_5 rfl ?_
  refine wp_iload_n dX6_beginsText_6 rfl ?_
  refine wp_puti dX6_beginsText_7 fp6_128 (tb_214 hT) (tk_214 hT) rfl ?_
  refine wp_aload_n dX6_beginsText_10 rfl ?_
  refine wp_iconst (v := 0) dX6_beginsText_11 rfl ?_
  refine wp_puti dX6_beginsText_12 fp6_148 (tb_214 hT) (tk_214 hT) rfl ?_
  refine wp_aload_n dX6_beginsText_15 rfl ?_
  refine wp_iconst (v := 0) dX6_beginsText_16 rfl ?_
  refine wp_puti dX6_beginsText_17 fp6_203 (tb_214 hT) (tk_214 hT) rfl ?_
  exact wp_vret dX6_beginsText_20 ⟨rfl, rfl, rfl, rfl, h⟩
theorem n6_beginsText {E : eT} {Q : vT → Prop} {V : vT} {x1 : Int32} (h : w6_beginsText E Q 0 [some (vr 214), some (vi x1)] [] V) : c6_beginsText E x1 V Q := MOk.enter [some (vr 214), some (vi x1)] pn_6 rfl rfl (Nat.le_of_ble_eq_true rfl) rfl h
theorem b6_readsRule_0 {E : eT} {Q : Int32 → vT → Prop} {V : vT} (hT : TW E) (h : c6_here E V (fun r1 V1 => (r1 = 98 → (¬ (V1 214 14) = 16 → vp_in (V1 214 14) 16 ∧ (vp_in ((up2 (up2 V1 223 ((V1 214 14).toNatClampNeg) r1) 214 7 (((up2 V1 223 ((V1 214 14).toNatClampNeg) r1) 214 7) + 1)) 214 14) 16 ∧ ((r1 = 120 → vp_in ((up2 (up2 (up2 (up2 (up2 V1 223 ((V1 214 14).toNatClampNeg) r1) 214 7 (((up2 V1 223 ((V1 214 14).toNatClampNeg) r1) 214 7) + 1)) 224 (((up2 (up2 V1 223 ((V1 214 14).toNatClampNeg) r1) 214 7 (((up2 V1 223 ((V1 214 14).toNatClampNeg) r1) 214 7) + 1)) 214 14).toNatClampNeg) ((up2 (up2 V1 223 ((V1 214 14).toNatClampNeg) r1) 214 7 (((up2 V1 223 ((V1 214 14).toNatClampNeg) r1) 214 7) + 1)) 214 12)) 214 11 0) 214 13 0) 214 14) 16 ∧ (c6_readsCondition E (up2 (up2 (up2 (up2 (up2 (up2 V1 223 ((V1 214 14).toNatClampNeg) r1) 214 7 (((up2 V1 223 ((V1 214 14).toNatClampNeg) r1) 214 7) + 1)) 224 (((up2 (up2 V1 223 ((V1 214 14).toNatClampNeg) r1) 214 7 (((up2 V1 223 ((V1 214 14).toNatClampNeg) r1) 214 7) + 1)) 214 14).toNatClampNeg) ((up2 (up2 V1 223 ((V1 214 14).toNatClampNeg) r1) 214 7 (((up2 V1 223 ((V1 214 14).toNatClampNeg) r1) 214 7) + 1)) 214 12)) 214 11 0) 214 13 0) 225 (((up2 (up2 (up2 (up2 (up2 V1 223 ((V1 214 14).toNatClampNeg) r1) 214 7 (((up2 V1 223 ((V1 214 14).toNatClampNeg) r1) 214 7) + 1)) 224 (((up2 (up2 V1 223 ((V1 214 14).toNatClampNeg) r1) 214 7 (((up2 V1 223 ((V1 214 14).toNatClampNeg) r1) 214 7) + 1)) 214 14).toNatClampNeg) ((up2 (up2 V1 223 ((V1 214 14).toNatClampNeg) r1) 214 7 (((up2 V1 223 ((V1 214 14).toNatClampNeg) r1) 214 7) + 1)) 214 12)) 214 11 0) 214 13 0) 214 14).toNatClampNeg) ((up2 (up2 (up2 (up2 (up2 V1 223 ((V1 214 14).toNatClampNeg) r1) 214 7 (((up2 V1 223 ((V1 214 14).toNatClampNeg) r1) 214 7) + 1)) 224 (((up2 (up2 V1 223 ((V1 214 14).toNatClampNeg) r1) 214 7 (((up2 V1 223 ((V1 214 14).toNatClampNeg) r1) 214 7) + 1)) 214 14).toNatClampNeg) ((up2 (up2 V1 223 ((V1 214 14).toNatClampNeg) r1) 214 7 (((up2 V1 223 ((V1 214 14).toNatClampNeg) r1) 214 7) + 1)) 214 12)) 214 11 0) 214 13 0) 214 12)) (fun r124 V124 => (¬ r124 = 0 → vp_in (V124 214 14) 16 ∧ (Q 1 (up2 (up2 V124 226 ((V124 214 14).toNatClampNeg) (V124 214 12)) 214 14 (((up2 V124 226 ((V124 214 14).toNatClampNeg) (V124 214 12)) 214 14) + 1)))) ∧ (r124 = 0 → Q 0 V124)))) ∧ (¬ r1 = 120 → c6_readsSum E (up2 (up2 (up2 (up2 (up2 V1 223 ((V1 214 14).toNatClampNeg) r1) 214 7 (((up2 V1 223 ((V1 214 14).toNatClampNeg) r1) 214 7) + 1)) 224 (((up2 (up2 V1 223 ((V1 214 14).toNatClampNeg) r1) 214 7 (((up2 V1 223 ((V1 214 14).toNatClampNeg) r1) 214 7) + 1)) 214 14).toNatClampNeg) ((up2 (up2 V1 223 ((V1 214 14).toNatClampNeg) r1) 214 7 (((up2 V1 223 ((V1 214 14).toNatClampNeg) r1) 214 7) + 1)) 214 12)) 214 11 0) 214 13 0) (fun r102 V102 => (¬ r102 = 0 → vp_in (V102 214 14) 16 ∧ (c6_readsCondition E (up2 V102 225 ((V102 214 14).toNatClampNeg) (V102 214 12)) (fun r124' V124' => (¬ r124' = 0 → vp_in (V124' 214 14) 16 ∧ (Q 1 (up2 (up2 V124' 226 ((V124' 214 14).toNatClampNeg) (V124' 214 12)) 214 14 (((up2 V124' 226 ((V124' 214 14).toNatClampNeg) (V124' 214 12)) 214 14) + 1)))) ∧ (r124' = 0 → Q 0 V124')))) ∧ (r102 = 0 → Q 0 V102)))))) ∧ ((V1 214 14) = 16 → c6_wrongAt E 4 (V1 214 7) V1 (fun r48 V48 => (r48 = 0 ∨ r48 = 1) ∧ Q r48 V48))) ∧ (¬ r1 = 98 → (r1 = 115 → (¬ (V1 214 14) = 16 → vp_in (V1 214 14) 16 ∧ (vp_in ((up2 (up2 V1 223 ((V1 214 14).toNatClampNeg) r1) 214 7 (((up2 V1 223 ((V1 214 14).toNatClampNeg) r1) 214 7) + 1)) 214 14) 16 ∧ ((r1 = 120 → vp_in ((up2 (up2 (up2 (up2 (up2 V1 223 ((V1 214 14).toNatClampNeg) r1) 214 7 (((up2 V1 223 ((V1 214 14).toNatClampNeg) r1) 214 7) + 1)) 224 (((up2 (up2 V1 223 ((V1 214 14).toNatClampNeg) r1) 214 7 (((up2 V1 223 ((V1 214 14).toNatClampNeg) r1) 214 7) + 1)) 214 14).toNatClampNeg) ((up2 (up2 V1 223 ((V1 214 14).toNatClampNeg) r1) 214 7 (((up2 V1 223 ((V1 214 14).toNatClampNeg) r1) 214 7) + 1)) 214 12)) 214 11 0) 214 13 0) 214 14) 16 ∧ (c6_readsCondition E (up2 (up2 (up2 (up2 (up2 (up2 V1 223 ((V1 214 14).toNatClampNeg) r1) 214 7 (((up2 V1 223 ((V1 214 14).toNatClampNeg) r1) 214 7) + 1)) 224 (((up2 (up2 V1 223 ((V1 214 14).toNatClampNeg) r1) 214 7 (((up2 V1 223 ((V1 214 14).toNatClampNeg) r1) 214 7) + 1)) 214 14).toNatClampNeg) ((up2 (up2 V1 223 ((V1 214 14).toNatClampNeg) r1) 214 7 (((up2 V1 223 ((V1 214 14).toNatClampNeg) r1) 214 7) + 1)) 214 12)) 214 11 0) 214 13 0) 225 (((up2 (up2 (up2 (up2 (up2 V1 223 ((V1 214 14).toNatClampNeg) r1) 214 7 (((up2 V1 223 ((V1 214 14).toNatClampNeg) r1) 214 7) + 1)) 224 (((up2 (up2 V1 223 ((V1 214 14).toNatClampNeg) r1) 214 7 (((up2 V1 223 ((V1 214 14).toNatClampNeg) r1) 214 7) + 1)) 214 14).toNatClampNeg) ((up2 (up2 V1 223 ((V1 214 14).toNatClampNeg) r1) 214 7 (((up2 V1 223 ((V1 214 14).toNatClampNeg) r1) 214 7) + 1)) 214 12)) 214 11 0) 214 13 0) 214 14).toNatClampNeg) ((up2 (up2 (up2 (up2 (up2 V1 223 ((V1 214 14).toNatClampNeg) r1) 214 7 (((up2 V1 223 ((V1 214 14).toNatClampNeg) r1) 214 7) + 1)) 224 (((up2 (up2 V1 223 ((V1 214 14).toNatClampNeg) r1) 214 7 (((up2 V1 223 ((V1 214 14).toNatClampNeg) r1) 214 7) + 1)) 214 14).toNatClampNeg) ((up2 (up2 V1 223 ((V1 214 14).toNatClampNeg) r1) 214 7 (((up2 V1 223 ((V1 214 14).toNatClampNeg) r1) 214 7) + 1)) 214 12)) 214 11 0) 214 13 0) 214 12)) (fun r124'' V124'' => (¬ r124'' = 0 → vp_in (V124'' 214 14) 16 ∧ (Q 1 (up2 (up2 V124'' 226 ((V124'' 214 14).toNatClampNeg) (V124'' 214 12)) 214 14 (((up2 V124'' 226 ((V124'' 214 14).toNatClampNeg) (V124'' 214 12)) 214 14) + 1)))) ∧ (r124'' = 0 → Q 0 V124'')))) ∧ (¬ r1 = 120 → c6_readsSum E (up2 (up2 (up2 (up2 (up2 V1 223 ((V1 214 14).toNatClampNeg) r1) 214 7 (((up2 V1 223 ((V1 214 14).toNatClampNeg) r1) 214 7) + 1)) 224 (((up2 (up2 V1 223 ((V1 214 14).toNatClampNeg) r1) 214 7 (((up2 V1 223 ((V1 214 14).toNatClampNeg) r1) 214 7) + 1)) 214 14).toNatClampNeg) ((up2 (up2 V1 223 ((V1 214 14).toNatClampNeg) r1) 214 7 (((up2 V1 223 ((V1 214 14).toNatClampNeg) r1) 214 7) + 1)) 214 12)) 214 11 0) 214 13 0) (fun r102' V102' => (¬ r102' = 0 → vp_in (V102' 214 14) 16 ∧ (c6_readsCondition E (up2 V102' 225 ((V102' 214 14).toNatClampNeg) (V102' 214 12)) (fun r124''' V124''' => (¬ r124''' = 0 → vp_in (V124''' 214 14) 16 ∧ (Q 1 (up2 (up2 V124''' 226 ((V124''' 214 14).toNatClampNeg) (V124''' 214 12)) 214 14 (((up2 V124''' 226 ((V124''' 214 14).toNatClampNeg) (V124''' 214 12)) 214 14) + 1)))) ∧ (r124''' = 0 → Q 0 V124''')))) ∧ (r102' = 0 → Q 0 V102')))))) ∧ ((V1 214 14) = 16 → c6_wrongAt E 4 (V1 214 7) V1 (fun r48' V48' => (r48' = 0 ∨ r48' = 1) ∧ Q r48' V48'))) ∧ (¬ r1 = 115 → (r1 = 120 → (¬ (V1 214 14) = 16 → vp_in (V1 214 14) 16 ∧ (vp_in ((up2 (up2 V1 223 ((V1 214 14).toNatClampNeg) r1) 214 7 (((up2 V1 223 ((V1 214 14).toNatClampNeg) r1) 214 7) + 1)) 214 14) 16 ∧ ((r1 = 120 → vp_in ((up2 (up2 (up2 (up2 (up2 V1 223 ((V1 214 14).toNatClampNeg) r1) 214 7 (((up2 V1 223 ((V1 214 14).toNatClampNeg) r1) 214 7) + 1)) 224 (((up2 (up2 V1 223 ((V1 214 14).toNatClampNeg) r1) 214 7 (((up2 V1 223 ((V1 214 14).toNatClampNeg) r1) 214 7) + 1)) 214 14).toNatClampNeg) ((up2 (up2 V1 223 ((V1 214 14).toNatClampNeg) r1) 214 7 (((up2 V1 223 ((V1 214 14).toNatClampNeg) r1) 214 7) + 1)) 214 12)) 214 11 0) 214 13 0) 214 14) 16 ∧ (c6_readsCondition E (up2 (up2 (up2 (up2 (up2 (up2 V1 223 ((V1 214 14).toNatClampNeg) r1) 214 7 (((up2 V1 223 ((V1 214 14).toNatClampNeg) r1) 214 7) + 1)) 224 (((up2 (up2 V1 223 ((V1 214 14).toNatClampNeg) r1) 214 7 (((up2 V1 223 ((V1 214 14).toNatClampNeg) r1) 214 7) + 1)) 214 14).toNatClampNeg) ((up2 (up2 V1 223 ((V1 214 14).toNatClampNeg) r1) 214 7 (((up2 V1 223 ((V1 214 14).toNatClampNeg) r1) 214 7) + 1)) 214 12)) 214 11 0) 214 13 0) 225 (((up2 (up2 (up2 (up2 (up2 V1 223 ((V1 214 14).toNatClampNeg) r1) 214 7 (((up2 V1 223 ((V1 214 14).toNatClampNeg) r1) 214 7) + 1)) 224 (((up2 (up2 V1 223 ((V1 214 14).toNatClampNeg) r1) 214 7 (((up2 V1 223 ((V1 214 14).toNatClampNeg) r1) 214 7) + 1)) 214 14).toNatClampNeg) ((up2 (up2 V1 223 ((V1 214 14).toNatClampNeg) r1) 214 7 (((up2 V1 223 ((V1 214 14).toNatClampNeg) r1) 214 7) + 1)) 214 12)) 214 11 0) 214 13 0) 214 14).toNatClampNeg) ((up2 (up2 (up2 (up2 (up2 V1 223 ((V1 214 14).toNatClampNeg) r1) 214 7 (((up2 V1 223 ((V1 214 14).toNatClampNeg) r1) 214 7) + 1)) 224 (((up2 (up2 V1 223 ((V1 214 14).toNatClampNeg) r1) 214 7 (((up2 V1 223 ((V1 214 14).toNatClampNeg) r1) 214 7) + 1)) 214 14).toNatClampNeg) ((up2 (up2 V1 223 ((V1 214 14).toNatClampNeg) r1) 214 7 (((up2 V1 223 ((V1 214 14).toNatClampNeg) r1) 214 7) + 1)) 214 12)) 214 11 0) 214 13 0) 214 12)) (fun r124'''' V124'''' => (¬ r124'''' = 0 → vp_in (V124'''' 214 14) 16 ∧ (Q 1 (up2 (up2 V124'''' 226 ((V124'''' 214 14).toNatClampNeg) (V124'''' 214 12)) 214 14 (((up2 V124'''' 226 ((V124'''' 214 14).toNatClampNeg) (V124'''' 214 12)) 214 14) + 1)))) ∧ (r124'''' = 0 → Q 0 V124'''')))) ∧ (¬ r1 = 120 → c6_readsSum E (up2 (up2 (up2 (up2 (up2 V1 223 ((V1 214 14).toNatClampNeg) r1) 214 7 (((up2 V1 223 ((V1 214 14).toNatClampNeg) r1) 214 7) + 1)) 224 (((up2 (up2 V1 223 ((V1 214 14).toNatClampNeg) r1) 214 7 (((up2 V1 223 ((V1 214 14).toNatClampNeg) r1) 214 7) + 1)) 214 14).toNatClampNeg) ((up2 (up2 V1 223 ((V1 214 14).toNatClampNeg) r1) 214 7 (((up2 V1 223 ((V1 214 14).toNatClampNeg) r1) 214 7) + 1)) 214 12)) 214 11 0) 214 13 0) (fun r102'' V102'' => (¬ r102'' = 0 → vp_in (V102'' 214 14) 16 ∧ (c6_readsCondition E (up2 V102'' 225 ((V102'' 214 14).toNatClampNeg) (V102'' 214 12)) (fun r124''''' V124''''' => (¬ r124''''' = 0 → vp_in (V124''''' 214 14) 16 ∧ (Q 1 (up2 (up2 V124''''' 226 ((V124''''' 214 14).toNatClampNeg) (V124''''' 214 12)) 214 14 (((up2 V124''''' 226 ((V124''''' 214 14).toNatClampNeg) (V124''''' 214 12)) 214 14) + 1)))) ∧ (r124''''' = 0 → Q 0 V124''''')))) ∧ (r102'' = 0 → Q 0 V102'')))))) ∧ ((V1 214 14) = 16 → c6_wrongAt E 4 (V1 214 7) V1 (fun r48'' V48'' => (r48'' = 0 ∨ r48'' = 1) ∧ Q r48'' V48''))) ∧ (¬ r1 = 120 → c6_wrongAt E 1 (V1 214 7) V1 (fun r29 V29 => (r29 = 0 ∨ r29 = 1) ∧ Q r29 V29)))))) : w6_readsRule E Q 0 [some (vr 214), none] [] V := by
  refine wp_aload_n dX6_readsRule_0 rfl ?_
  refine wq_VI0 lk6_131 rfl (tb_214 hT) (tk_214 hT) dX6_readsRule_1 h (rmQ_ok (by decide) (by decide)) ⟨Nat.le_refl _, Nat.le_refl _⟩ (Nat.le_of_ble_eq_true rfl) (fun r1 V1 h => ?_)
  refine wi2_1 dX6_readsRule_4 ?_
  refine wp_iload_n dX6_readsRule_5 rfl ?_
  refine wp_bipush (v := 98) dX6_readsRule_6 rfl ?_
  refine wp_icmp_eq 33 dX6_readsRule_8 (by decide) (fun hc => ?_) (fun hc => ?_)
  · replace h := h.1 hc
    refine wp_aload_n dX6_readsRule_33 rfl ?_
    refine wp_geti dX6_readsRule_34 fk6_203 (tb_214 hT) (tk_214 hT) rfl ?_
    refine wp_bipush (v := 16) dX6_readsRule_37 rfl ?_
    refine wp_icmp_ne 52 dX6_readsRule_39 (by decide) (fun hc => ?_) (fun hc => ?_)
    · replace h := h.1 hc
      refine wp_aload_n dX6_readsRule_52 rfl ?_
      refine wp_getrs dX6_readsRule_53 fk6_35 (tb_214 hT) (tk_214 hT) rfl (tr_18 hT) ?_
      refine wp_aload_n dX6_readsRule_56 rfl ?_
      refine wp_geti dX6_readsRule_57 fk6_203 (tb_214 hT) (tk_214 hT) rfl ?_
      refine wp_iload_n dX6_readsRule_60 rfl ?_
      refine wp_iast dX6_readsRule_61 (tb_223 hT) (tk_223 hT) h.1 ?_
      replace h := h.2
      refine wp_aload_n dX6_readsRule_62 rfl ?_
      refine wp_aload_n dX6_readsRule_63 rfl ?_
      refine wp_geti dX6_readsRule_64 fk6_125 (tb_214 hT) (tk_214 hT) rfl ?_
      refine wp_iconst (v := 1) dX6_readsRule_67 rfl ?_
      refine wp_iadd dX6_readsRule_68 ?_
      refine wp_puti dX6_readsRule_69 fp6_125 (tb_214 hT) (tk_214 hT) rfl ?_
      refine wp_aload_n dX6_readsRule_72 rfl ?_
      refine wp_getrs dX6_readsRule_73 fk6_38 (tb_214 hT) (tk_214 hT) rfl (tr_19 hT) ?_
      refine wp_aload_n dX6_readsRule_76 rfl ?_
      refine wp_geti dX6_readsRule_77 fk6_203 (tb_214 hT) (tk_214 hT) rfl ?_
      refine wp_aload_n dX6_readsRule_80 rfl ?_
      refine wp_geti dX6_readsRule_81 fk6_148 (tb_214 hT) (tk_214 hT) rfl ?_
      refine wp_iast dX6_readsRule_84 (tb_224 hT) (tk_224 hT) h.1 ?_
      replace h := h.2
      refine wp_aload_n dX6_readsRule_85 rfl ?_
      refine wp_iconst (v := 0) dX6_readsRule_86 rfl ?_
      refine wp_puti dX6_readsRule_87 fp6_152 (tb_214 hT) (tk_214 hT) rfl ?_
      refine wp_aload_n dX6_readsRule_90 rfl ?_
      refine wp_iconst (v := 0) dX6_readsRule_91 rfl ?_
      refine wp_puti dX6_readsRule_92 fp6_155 (tb_214 hT) (tk_214 hT) rfl ?_
      refine wp_iload_n dX6_readsRule_95 rfl ?_
      refine wp_bipush (v := 120) dX6_readsRule_96 rfl ?_
      refine wp_icmp_eq 110 dX6_readsRule_98 (by decide) (fun hc => ?_) (fun hc => ?_)
      · replace h := h.1 hc
        refine wp_aload_n dX6_readsRule_110 rfl ?_
        refine wp_getrs dX6_readsRule_111 fk6_41 (tb_214 hT) (tk_214 hT) rfl (tr_20 hT) ?_
        refine wp_aload_n dX6_readsRule_114 rfl ?_
        refine wp_geti dX6_readsRule_115 fk6_203 (tb_214 hT) (tk_214 hT) rfl ?_
        refine wp_aload_n dX6_readsRule_118 rfl ?_
        refine wp_geti dX6_readsRule_119 fk6_148 (tb_214 hT) (tk_214 hT) rfl ?_
        refine wp_iast dX6_readsRule_122 (tb_225 hT) (tk_225 hT) h.1 ?_
        replace h := h.2
        refine wp_aload_n dX6_readsRule_123 rfl ?_
        refine wq_VI0 lk6_206 rfl (tb_214 hT) (tk_214 hT) dX6_readsRule_124 h (rmQ_ok (by decide) (by decide)) ⟨Nat.le_refl _, Nat.le_refl _⟩ (Nat.le_of_ble_eq_true rfl) (fun r124 V124 h => ?_)
        refine wp_if_ne 132 dX6_readsRule_127 (by decide) (fun hc => ?_) (fun hc => ?_)
        · replace h := h.1 hc
          refine wp_aload_n dX6_readsRule_132 rfl ?_
          refine wp_getrs dX6_readsRule_133 fk6_44 (tb_214 hT) (tk_214 hT) rfl (tr_21 hT) ?_
          refine wp_aload_n dX6_readsRule_136 rfl ?_
          refine wp_geti dX6_readsRule_137 fk6_203 (tb_214 hT) (tk_214 hT) rfl ?_
          refine wp_aload_n dX6_readsRule_140 rfl ?_
          refine wp_geti dX6_readsRule_141 fk6_148 (tb_214 hT) (tk_214 hT) rfl ?_
          refine wp_iast dX6_readsRule_144 (tb_226 hT) (tk_226 hT) h.1 ?_
          replace h := h.2
          refine wp_aload_n dX6_readsRule_145 rfl ?_
          refine wp_aload_n dX6_readsRule_146 rfl ?_
          refine wp_geti dX6_readsRule_147 fk6_203 (tb_214 hT) (tk_214 hT) rfl ?_
          refine wp_iconst (v := 1) dX6_readsRule_150 rfl ?_
          refine wp_iadd dX6_readsRule_151 ?_
          refine wp_puti dX6_readsRule_152 fp6_203 (tb_214 hT) (tk_214 hT) rfl ?_
          refine wp_iconst (v := 1) dX6_readsRule_155 rfl ?_
          exact wp_iret dX6_readsRule_156 rfl ⟨_, rfl, rfl, rfl, rfl, h⟩
        · replace h := h.2 hc
          refine wp_iconst (v := 0) dX6_readsRule_130 rfl ?_
          exact wp_iret dX6_readsRule_131 rfl ⟨_, rfl, rfl, rfl, rfl, h⟩
      · replace h := h.2 hc
        refine wp_aload_n dX6_readsRule_101 rfl ?_
        refine wq_VI0 lk6_188 rfl (tb_214 hT) (tk_214 hT) dX6_readsRule_102 h (rmQ_ok (by decide) (by decide)) ⟨Nat.le_refl _, Nat.le_refl _⟩ (Nat.le_of_ble_eq_true rfl) (fun r102 V102 h => ?_)
        refine wp_if_ne 110 dX6_readsRule_105 (by decide) (fun hc => ?_) (fun hc => ?_)
        · replace h := h.1 hc
          refine wp_aload_n dX6_readsRule_110 rfl ?_
          refine wp_getrs dX6_readsRule_111 fk6_41 (tb_214 hT) (tk_214 hT) rfl (tr_20 hT) ?_
          refine wp_aload_n dX6_readsRule_114 rfl ?_
          refine wp_geti dX6_readsRule_115 fk6_203 (tb_214 hT) (tk_214 hT) rfl ?_
          refine wp_aload_n dX6_readsRule_118 rfl ?_
          refine wp_geti dX6_readsRule_119 fk6_148 (tb_214 hT) (tk_214 hT) rfl ?_
          refine wp_iast dX6_readsRule_122 (tb_225 hT) (tk_225 hT) h.1 ?_
          replace h := h.2
          refine wp_aload_n dX6_readsRule_123 rfl ?_
          refine wq_VI0 lk6_206 rfl (tb_214 hT) (tk_214 hT) dX6_readsRule_124 h (rmQ_ok (by decide) (by decide)) ⟨Nat.le_refl _, Nat.le_refl _⟩ (Nat.le_of_ble_eq_true rfl) (fun r124' V124' h => ?_)
          refine wp_if_ne 132 dX6_readsRule_127 (by decide) (fun hc => ?_) (fun hc => ?_)
          · replace h := h.1 hc
            refine wp_aload_n dX6_readsRule_132 rfl ?_
            refine wp_getrs dX6_readsRule_133 fk6_44 (tb_214 hT) (tk_214 hT) rfl (tr_21 hT) ?_
            refine wp_aload_n dX6_readsRule_136 rfl ?_
            refine wp_geti dX6_readsRule_137 fk6_203 (tb_214 hT) (tk_214 hT) rfl ?_
            refine wp_aload_n dX6_readsRule_140 rfl ?_
            refine wp_geti dX6_readsRule_141 fk6_148 (tb_214 hT) (tk_214 hT) rfl ?_
            refine wp_iast dX6_readsRule_144 (tb_226 hT) (tk_226 hT) h.1 ?_
            replace h := h.2
            refine wp_aload_n dX6_readsRule_145 rfl ?_
            refine wp_aload_n dX6_readsRule_146 rfl ?_
            refine wp_geti dX6_readsRule_147 fk6_203 (tb_214 hT) (tk_214 hT) rfl ?_
            refine wp_iconst (v := 1) dX6_readsRule_150 rfl ?_
            refine wp_iadd dX6_readsRule_151 ?_
            refine wp_puti dX6_readsRule_152 fp6_203 (tb_214 hT) (tk_214 hT) rfl ?_
            refine wp_iconst (v := 1) dX6_readsRule_155 rfl ?_
            exact wp_iret dX6_readsRule_156 rfl ⟨_, rfl, rfl, rfl, rfl, h⟩
          · replace h := h.2 hc
            refine wp_iconst (v := 0) dX6_readsRule_130 rfl ?_
            exact wp_iret dX6_readsRule_131 rfl ⟨_, rfl, rfl, rfl, rfl, h⟩
        · replace h := h.2 hc
          refine wp_iconst (v := 0) dX6_readsRule_108 rfl ?_
          exact wp_iret dX6_readsRule_109 rfl ⟨_, rfl, rfl, rfl, rfl, h⟩
    · replace h := h.2 hc
      refine wp_aload_n dX6_readsRule_42 rfl ?_
      refine wp_iconst (v := 4) dX6_readsRule_43 rfl ?_
      refine wp_aload_n dX6_readsRule_44 rfl ?_
      refine wp_geti dX6_readsRule_45 fk6_125 (tb_214 hT) (tk_214 hT) rfl ?_
      refine wq_VI2 lk6_138 rfl (tb_214 hT) (tk_214 hT) dX6_readsRule_48 h (rmQ_ok (by decide) (by decide)) ⟨Nat.le_refl _, Nat.le_refl _⟩ (Nat.le_of_ble_eq_true rfl) (fun r48 V48 h => ?_)
      exact wp_iret dX6_readsRule_51 (by rcases h.1 with q9 | q9 <;> rw [q9] <;> rfl) ⟨_, rfl, rfl, rfl, rfl, h.2⟩
  · replace h := h.2 hc
    refine wp_iload_n dX6_readsRule_11 rfl ?_
    refine wp_bipush (v := 115) dX6_readsRule_12 rfl ?_
    refine wp_icmp_eq 33 dX6_readsRule_14 (by decide) (fun hc => ?_) (fun hc => ?_)
    · replace h := h.1 hc
      refine wp_aload_n dX6_readsRule_33 rfl ?_
      refine wp_geti dX6_readsRule_34 fk6_203 (tb_214 hT) (tk_214 hT) rfl ?_
      refine wp_bipush (v := 16) dX6_readsRule_37 rfl ?_
      refine wp_icmp_ne 52 dX6_readsRule_39 (by decide) (fun hc => ?_) (fun hc => ?_)
      · replace h := h.1 hc
        refine wp_aload_n dX6_readsRule_52 rfl ?_
        refine wp_getrs dX6_readsRule_53 fk6_35 (tb_214 hT) (tk_214 hT) rfl (tr_18 hT) ?_
        refine wp_aload_n dX6_readsRule_56 rfl ?_
        refine wp_geti dX6_readsRule_57 fk6_203 (tb_214 hT) (tk_214 hT) rfl ?_
        refine wp_iload_n dX6_readsRule_60 rfl ?_
        refine wp_iast dX6_readsRule_61 (tb_223 hT) (tk_223 hT) h.1 ?_
        replace h := h.2
        refine wp_aload_n dX6_readsRule_62 rfl ?_
        refine wp_aload_n dX6_readsRule_63 rfl ?_
        refine wp_geti dX6_readsRule_64 fk6_125 (tb_214 hT) (tk_214 hT) rfl ?_
        refine wp_iconst (v := 1) dX6_readsRule_67 rfl ?_
        refine wp_iadd dX6_readsRule_68 ?_
        refine wp_puti dX6_readsRule_69 fp6_125 (tb_214 hT) (tk_214 hT) rfl ?_
        refine wp_aload_n dX6_readsRule_72 rfl ?_
        refine wp_getrs dX6_readsRule_73 fk6_38 (tb_214 hT) (tk_214 hT) rfl (tr_19 hT) ?_
        refine wp_aload_n dX6_readsRule_76 rfl ?_
        refine wp_geti dX6_readsRule_77 fk6_203 (tb_214 hT) (tk_214 hT) rfl ?_
        refine wp_aload_n dX6_readsRule_80 rfl ?_
        refine wp_geti dX6_readsRule_81 fk6_148 (tb_214 hT) (tk_214 hT) rfl ?_
        refine wp_iast dX6_readsRule_84 (tb_224 hT) (tk_224 hT) h.1 ?_
        replace h := h.2
        refine wp_aload_n dX6_readsRule_85 rfl ?_
        refine wp_iconst (v := 0) dX6_readsRule_86 rfl ?_
        refine wp_puti dX6_readsRule_87 fp6_152 (tb_214 hT) (tk_214 hT) rfl ?_
        refine wp_aload_n dX6_readsRule_90 rfl ?_
        refine wp_iconst (v := 0) dX6_readsRule_91 rfl ?_
        refine wp_puti dX6_readsRule_92 fp6_155 (tb_214 hT) (tk_214 hT) rfl ?_
        refine wp_iload_n dX6_readsRule_95 rfl ?_
        refine wp_bipush (v := 120) dX6_readsRule_96 rfl ?_
        refine wp_icmp_eq 110 dX6_readsRule_98 (by decide) (fun hc => ?_) (fun hc => ?_)
        · replace h := h.1 hc
          refine wp_aload_n dX6_readsRule_110 rfl ?_
          refine wp_getrs dX6_readsRule_111 fk6_41 (tb_214 hT) (tk_214 hT) rfl (tr_20 hT) ?_
          refine wp_aload_n dX6_readsRule_114 rfl ?_
          refine wp_geti dX6_readsRule_115 fk6_203 (tb_214 hT) (tk_214 hT) rfl ?_
          refine wp_aload_n dX6_readsRule_118 rfl ?_
          refine wp_geti dX6_readsRule_119 fk6_148 (tb_214 hT) (tk_214 hT) rfl ?_
          refine wp_iast dX6_readsRule_122 (tb_225 hT) (tk_225 hT) h.1 ?_
          replace h := h.2
          refine wp_aload_n dX6_readsRule_123 rfl ?_
          refine wq_VI0 lk6_206 rfl (tb_214 hT) (tk_214 hT) dX6_readsRule_124 h (rmQ_ok (by decide) (by decide)) ⟨Nat.le_refl _, Nat.le_refl _⟩ (Nat.le_of_ble_eq_true rfl) (fun r124'' V124'' h => ?_)
          refine wp_if_ne 132 dX6_readsRule_127 (by decide) (fun hc => ?_) (fun hc => ?_)
          · replace h := h.1 hc
            refine wp_aload_n dX6_readsRule_132 rfl ?_
            refine wp_getrs dX6_readsRule_133 fk6_44 (tb_214 hT) (tk_214 hT) rfl (tr_21 hT) ?_
            refine wp_aload_n dX6_readsRule_136 rfl ?_
            refine wp_geti dX6_readsRule_137 fk6_203 (tb_214 hT) (tk_214 hT) rfl ?_
            refine wp_aload_n dX6_readsRule_140 rfl ?_
            refine wp_geti dX6_readsRule_141 fk6_148 (tb_214 hT) (tk_214 hT) rfl ?_
            refine wp_iast dX6_readsRule_144 (tb_226 hT) (tk_226 hT) h.1 ?_
            replace h := h.2
            refine wp_aload_n dX6_readsRule_145 rfl ?_
            refine wp_aload_n dX6_readsRule_146 rfl ?_
            refine wp_geti dX6_readsRule_147 fk6_203 (tb_214 hT) (tk_214 hT) rfl ?_
            refine wp_iconst (v := 1) dX6_readsRule_150 rfl ?_
            refine wp_iadd dX6_readsRule_151 ?_
            refine wp_puti dX6_readsRule_152 fp6_203 (tb_214 hT) (tk_214 hT) rfl ?_
            refine wp_iconst (v := 1) dX6_readsRule_155 rfl ?_
            exact wp_iret dX6_readsRule_156 rfl ⟨_, rfl, rfl, rfl, rfl, h⟩
          · replace h := h.2 hc
            refine wp_iconst (v := 0) dX6_readsRule_130 rfl ?_
            exact wp_iret dX6_readsRule_131 rfl ⟨_, rfl, rfl, rfl, rfl, h⟩
        · replace h := h.2 hc
          refine wp_aload_n dX6_readsRule_101 rfl ?_
          refine wq_VI0 lk6_188 rfl (tb_214 hT) (tk_214 hT) dX6_readsRule_102 h (rmQ_ok (by decide) (by decide)) ⟨Nat.le_refl _, Nat.le_refl _⟩ (Nat.le_of_ble_eq_true rfl) (fun r102' V102' h => ?_)
          refine wp_if_ne 110 dX6_readsRule_105 (by decide) (fun hc => ?_) (fun hc => ?_)
          · replace h := h.1 hc
            refine wp_aload_n dX6_readsRule_110 rfl ?_
            refine wp_getrs dX6_readsRule_111 fk6_41 (tb_214 hT) (tk_214 hT) rfl (tr_20 hT) ?_
            refine wp_aload_n dX6_readsRule_114 rfl ?_
            refine wp_geti dX6_readsRule_115 fk6_203 (tb_214 hT) (tk_214 hT) rfl ?_
            refine wp_aload_n dX6_readsRule_118 rfl ?_
            refine wp_geti dX6_readsRule_119 fk6_148 (tb_214 hT) (tk_214 hT) rfl ?_
            refine wp_iast dX6_readsRule_122 (tb_225 hT) (tk_225 hT) h.1 ?_
            replace h := h.2
            refine wp_aload_n dX6_readsRule_123 rfl ?_
            refine wq_VI0 lk6_206 rfl (tb_214 hT) (tk_214 hT) dX6_readsRule_124 h (rmQ_ok (by decide) (by decide)) ⟨Nat.le_refl _, Nat.le_refl _⟩ (Nat.le_of_ble_eq_true rfl) (fun r124''' V124''' h => ?_)
            refine wp_if_ne 132 dX6_readsRule_127 (by decide) (fun hc => ?_) (fun hc => ?_)
            · replace h := h.1 hc
              refine wp_aload_n dX6_readsRule_132 rfl ?_
              refine wp_getrs dX6_readsRule_133 fk6_44 (tb_214 hT) (tk_214 hT) rfl (tr_21 hT) ?_
              refine wp_aload_n dX6_readsRule_136 rfl ?_
              refine wp_geti dX6_readsRule_137 fk6_203 (tb_214 hT) (tk_214 hT) rfl ?_
              refine wp_aload_n dX6_readsRule_140 rfl ?_
              refine wp_geti dX6_readsRule_141 fk6_148 (tb_214 hT) (tk_214 hT) rfl ?_
              refine wp_iast dX6_readsRule_144 (tb_226 hT) (tk_226 hT) h.1 ?_
              replace h := h.2
              refine wp_aload_n dX6_readsRule_145 rfl ?_
              refine wp_aload_n dX6_readsRule_146 rfl ?_
              refine wp_geti dX6_readsRule_147 fk6_203 (tb_214 hT) (tk_214 hT) rfl ?_
              refine wp_iconst (v := 1) dX6_readsRule_150 rfl ?_
              refine wp_iadd dX6_readsRule_151 ?_
              refine wp_puti dX6_readsRule_152 fp6_203 (tb_214 hT) (tk_214 hT) rfl ?_
              refine wp_iconst (v := 1) dX6_readsRule_155 rfl ?_
              exact wp_iret dX6_readsRule_156 rfl ⟨_, rfl, rfl, rfl, rfl, h⟩
            · replace h := h.2 hc
              refine wp_iconst (v := 0) dX6_readsRule_130 rfl ?_
              exact wp_iret dX6_readsRule_131 rfl ⟨_, rfl, rfl, rfl, rfl, h⟩
          · replace h := h.2 hc
            refine wp_iconst (v := 0) dX6_readsRule_108 rfl ?_
            exact wp_iret dX6_readsRule_109 rfl ⟨_, rfl, rfl, rfl, rfl, h⟩
      · replace h := h.2 hc
        refine wp_aload_n dX6_readsRule_42 rfl ?_
        refine wp_iconst (v := 4) dX6_readsRule_43 rfl ?_
        refine wp_aload_n dX6_readsRule_44 rfl ?_
        refine wp_geti dX6_readsRule_45 fk6_125 (tb_214 hT) (tk_214 hT) rfl ?_
        refine wq_VI2 lk6_138 rfl (tb_214 hT) (tk_214 hT) dX6_readsRule_48 h (rmQ_ok (by decide) (by decide)) ⟨Nat.le_refl _, Nat.le_refl _⟩ (Nat.le_of_ble_eq_true rfl) (fun r48' V48' h => ?_)
        exact wp_iret dX6_readsRule_51 (by rcases h.1 with q9 | q9 <;> rw [q9] <;> rfl) ⟨_, rfl, rfl, rfl, rfl, h.2⟩
    · replace h := h.2 hc
      refine wp_iload_n dX6_readsRule_17 rfl ?_
      refine wp_bipush (v := 120) dX6_readsRule_18 rfl ?_
      refine wp_icmp_eq 33 dX6_readsRule_20 (by decide) (fun hc => ?_) (fun hc => ?_)
      · replace h := h.1 hc
        refine wp_aload_n dX6_readsRule_33 rfl ?_
        refine wp_geti dX6_readsRule_34 fk6_203 (tb_214 hT) (tk_214 hT) rfl ?_
        refine wp_bipush (v := 16) dX6_readsRule_37 rfl ?_
        refine wp_icmp_ne 52 dX6_readsRule_39 (by decide) (fun hc => ?_) (fun hc => ?_)
        · replace h := h.1 hc
          refine wp_aload_n dX6_readsRule_52 rfl ?_
          refine wp_getrs dX6_readsRule_53 fk6_35 (tb_214 hT) (tk_214 hT) rfl (tr_18 hT) ?_
          refine wp_aload_n dX6_readsRule_56 rfl ?_
          refine wp_geti dX6_readsRule_57 fk6_203 (tb_214 hT) (tk_214 hT) rfl ?_
          refine wp_iload_n dX6_readsRule_60 rfl ?_
          refine wp_iast dX6_readsRule_61 (tb_223 hT) (tk_223 hT) h.1 ?_
          replace h := h.2
          refine wp_aload_n dX6_readsRule_62 rfl ?_
          refine wp_aload_n dX6_readsRule_63 rfl ?_
          refine wp_geti dX6_readsRule_64 fk6_125 (tb_214 hT) (tk_214 hT) rfl ?_
          refine wp_iconst (v := 1) dX6_readsRule_67 rfl ?_
          refine wp_iadd dX6_readsRule_68 ?_
          refine wp_puti dX6_readsRule_69 fp6_125 (tb_214 hT) (tk_214 hT) rfl ?_
          refine wp_aload_n dX6_readsRule_72 rfl ?_
          refine wp_getrs dX6_readsRule_73 fk6_38 (tb_214 hT) (tk_214 hT) rfl (tr_19 hT) ?_
          refine wp_aload_n dX6_readsRule_76 rfl ?_
          refine wp_geti dX6_readsRule_77 fk6_203 (tb_214 hT) (tk_214 hT) rfl ?_
          refine wp_aload_n dX6_readsRule_80 rfl ?_
          refine wp_geti dX6_readsRule_81 fk6_148 (tb_214 hT) (tk_214 hT) rfl ?_
          refine wp_iast dX6_readsRule_84 (tb_224 hT) (tk_224 hT) h.1 ?_
          replace h := h.2
          refine wp_aload_n dX6_readsRule_85 rfl ?_
          refine wp_iconst (v := 0) dX6_readsRule_86 rfl ?_
          refine wp_puti dX6_readsRule_87 fp6_152 (tb_214 hT) (tk_214 hT) rfl ?_
          refine wp_aload_n dX6_readsRule_90 rfl ?_
          refine wp_iconst (v := 0) dX6_readsRule_91 rfl ?_
          refine wp_puti dX6_readsRule_92 fp6_155 (tb_214 hT) (tk_214 hT) rfl ?_
          refine wp_iload_n dX6_readsRule_95 rfl ?_
          refine wp_bipush (v := 120) dX6_readsRule_96 rfl ?_
          refine wp_icmp_eq 110 dX6_readsRule_98 (by decide) (fun hc => ?_) (fun hc => ?_)
          · replace h := h.1 hc
            refine wp_aload_n dX6_readsRule_110 rfl ?_
            refine wp_getrs dX6_readsRule_111 fk6_41 (tb_214 hT) (tk_214 hT) rfl (tr_20 hT) ?_
            refine wp_aload_n dX6_readsRule_114 rfl ?_
            refine wp_geti dX6_readsRule_115 fk6_203 (tb_214 hT) (tk_214 hT) rfl ?_
            refine wp_aload_n dX6_readsRule_118 rfl ?_
            refine wp_geti dX6_readsRule_119 fk6_148 (tb_214 hT) (tk_214 hT) rfl ?_
            refine wp_iast dX6_readsRule_122 (tb_225 hT) (tk_225 hT) h.1 ?_
            replace h := h.2
            refine wp_aload_n dX6_readsRule_123 rfl ?_
            refine wq_VI0 lk6_206 rfl (tb_214 hT) (tk_214 hT) dX6_readsRule_124 h (rmQ_ok (by decide) (by decide)) ⟨Nat.le_refl _, Nat.le_refl _⟩ (Nat.le_of_ble_eq_true rfl) (fun r124'''' V124'''' h => ?_)
            refine wp_if_ne 132 dX6_readsRule_127 (by decide) (fun hc => ?_) (fun hc => ?_)
            · replace h := h.1 hc
              refine wp_aload_n dX6_readsRule_132 rfl ?_
              refine wp_getrs dX6_readsRule_133 fk6_44 (tb_214 hT) (tk_214 hT) rfl (tr_21 hT) ?_
              refine wp_aload_n dX6_readsRule_136 rfl ?_
              refine wp_geti dX6_readsRule_137 fk6_203 (tb_214 hT) (tk_214 hT) rfl ?_
              refine wp_aload_n dX6_readsRule_140 rfl ?_
              refine wp_geti dX6_readsRule_141 fk6_148 (tb_214 hT) (tk_214 hT) rfl ?_
              refine wp_iast dX6_readsRule_144 (tb_226 hT) (tk_226 hT) h.1 ?_
              replace h := h.2
              refine wp_aload_n dX6_readsRule_145 rfl ?_
              refine wp_aload_n dX6_readsRule_146 rfl ?_
              refine wp_geti dX6_readsRule_147 fk6_203 (tb_214 hT) (tk_214 hT) rfl ?_
              refine wp_iconst (v := 1) dX6_readsRule_150 rfl ?_
              refine wp_iadd dX6_readsRule_151 ?_
              refine wp_puti dX6_readsRule_152 fp6_203 (tb_214 hT) (tk_214 hT) rfl ?_
              refine wp_iconst (v := 1) dX6_readsRule_155 rfl ?_
              exact wp_iret dX6_readsRule_156 rfl ⟨_, rfl, rfl, rfl, rfl, h⟩
            · replace h := h.2 hc
              refine wp_iconst (v := 0) dX6_readsRule_130 rfl ?_
              exact wp_iret dX6_readsRule_131 rfl ⟨_, rfl, rfl, rfl, rfl, h⟩
          · replace h := h.2 hc
            refine wp_aload_n dX6_readsRule_101 rfl ?_
            refine wq_VI0 lk6_188 rfl (tb_214 hT) (tk_214 hT) dX6_readsRule_102 h (rmQ_ok (by decide) (by decide)) ⟨Nat.le_refl _, Nat.le_refl _⟩ (Nat.le_of_ble_eq_true rfl) (fun r102'' V102'' h => ?_)
            refine wp_if_ne 110 dX6_readsRule_105 (by decide) (fun hc => ?_) (fun hc => ?_)
            · replace h := h.1 hc
              refine wp_aload_n dX6_readsRule_110 rfl ?_
              refine wp_getrs dX6_readsRule_111 fk6_41 (tb_214 hT) (tk_214 hT) rfl (tr_20 hT) ?_
              refine wp_aload_n dX6_readsRule_114 rfl ?_
              refine wp_geti dX6_readsRule_115 fk6_203 (tb_214 hT) (tk_214 hT) rfl ?_
              refine wp_aload_n dX6_readsRule_118 rfl ?_
              refine wp_geti dX6_readsRule_119 fk6_148 (tb_214 hT) (tk_214 hT) rfl ?_
              refine wp_iast dX6_readsRule_122 (tb_225 hT) (tk_225 hT) h.1 ?_
              replace h := h.2
              refine wp_aload_n dX6_readsRule_123 rfl ?_
              refine wq_VI0 lk6_206 rfl (tb_214 hT) (tk_214 hT) dX6_readsRule_124 h (rmQ_ok (by decide) (by decide)) ⟨Nat.le_refl _, Nat.le_refl _⟩ (Nat.le_of_ble_eq_true rfl) (fun r124''''' V124''''' h => ?_)
              refine wp_if_ne 132 dX6_readsRule_127 (by decide) (fun hc => ?_) (fun hc => ?_)
              · replace h := h.1 hc
                refine wp_aload_n dX6_readsRule_132 rfl ?_
                refine wp_getrs dX6_readsRule_133 fk6_44 (tb_214 hT) (tk_214 hT) rfl (tr_21 hT) ?_
                refine wp_aload_n dX6_readsRule_136 rfl ?_
                refine wp_geti dX6_readsRule_137 fk6_203 (tb_214 hT) (tk_214 hT) rfl ?_
                refine wp_aload_n dX6_readsRule_140 rfl ?_
                refine wp_geti dX6_readsRule_141 fk6_148 (tb_214 hT) (tk_214 hT) rfl ?_
                refine wp_iast dX6_readsRule_144 (tb_226 hT) (tk_226 hT) h.1 ?_
                replace h := h.2
                refine wp_aload_n dX6_readsRule_145 rfl ?_
                refine wp_aload_n dX6_readsRule_146 rfl ?_
                refine wp_geti dX6_readsRule_147 fk6_203 (tb_214 hT) (tk_214 hT) rfl ?_
                refine wp_iconst (v := 1) dX6_readsRule_150 rfl ?_
                refine wp_iadd dX6_readsRule_151 ?_
                refine wp_puti dX6_readsRule_152 fp6_203 (tb_214 hT) (tk_214 hT) rfl ?_
                refine wp_iconst (v := 1) dX6_readsRule_155 rfl ?_
                exact wp_iret dX6_readsRule_156 rfl ⟨_, rfl, rfl, rfl, rfl, h⟩
              · replace h := h.2 hc
                refine wp_iconst (v := 0) dX6_readsRule_130 rfl ?_
                exact wp_iret dX6_readsRule_131 rfl ⟨_, rfl, rfl, rfl, rfl, h⟩
            · replace h := h.2 hc
              refine wp_iconst (v := 0) dX6_readsRule_108 rfl ?_
              exact wp_iret dX6_readsRule_109 rfl ⟨_, rfl, rfl, rfl, rfl, h⟩
        · replace h := h.2 hc
          refine wp_aload_n dX6_readsRule_42 rfl ?_
          refine wp_iconst (v := 4) dX6_readsRule_43 rfl ?_
          refine wp_aload_n dX6_readsRule_44 rfl ?_
          refine wp_geti dX6_readsRule_45 fk6_125 (tb_214 hT) (tk_214 hT) rfl ?_
          refine wq_VI2 lk6_138 rfl (tb_214 hT) (tk_214 hT) dX6_readsRule_48 h (rmQ_ok (by decide) (by decide)) ⟨Nat.le_refl _, Nat.le_refl _⟩ (Nat.le_of_ble_eq_true rfl) (fun r48'' V48'' h => ?_)
          exact wp_iret dX6_readsRule_51 (by rcases h.1 with q9 | q9 <;> rw [q9] <;> rfl) ⟨_, rfl, rfl, rfl, rfl, h.2⟩
      · replace h := h.2 hc
        refine wp_aload_n dX6_readsRule_23 rfl ?_
        refine wp_iconst (v := 1) dX6_readsRule_24 rfl ?_
        refine wp_aload_n dX6_readsRule_25 rfl ?_
        refine wp_geti dX6_readsRule_26 fk6_125 (tb_214 hT) (tk_214 hT) rfl ?_
        refine wq_VI2 lk6_138 rfl (tb_214 hT) (tk_214 hT) dX6_readsRule_29 h (rmQ_ok (by decide) (by decide)) ⟨Nat.le_refl _, Nat.le_refl _⟩ (Nat.le_of_ble_eq_true rfl) (fun r29 V29 h => ?_)
        exact wp_iret dX6_readsRule_32 (by rcases h.1 with q9 | q9 <;> rw [q9] <;> rfl) ⟨_, rfl, rfl, rfl, rfl, h.2⟩
theorem n6_readsRule {E : eT} {Q : Int32 → vT → Prop} {V : vT} (h : w6_readsRule E Q 0 [some (vr 214), none] [] V) : c6_readsRule E V Q := MOk.enter [some (vr 214), none] pn_6 rfl rfl (Nat.le_of_ble_eq_true rfl) rfl h
theorem b6_here_0 {E : eT} {Q : Int32 → vT → Prop} {V : vT} (hT : TW E) (h : ((V 214 8) ≤ (V 214 7) → Q (-1) V) ∧ ((V 214 7) < (V 214 8) → vp_in (V 214 7) 260 ∧ (Q ((V 220 ((V 214 7).toNatClampNeg)) &&& 255) V))) : w6_here E Q 0 [some (vr 214)] [] V := by
  refine wp_aload_n dX6_here_0 rfl ?_
  refine wp_geti dX6_here_1 fk6_125 (tb_214 hT) (tk_214 hT) rfl ?_
  refine wp_aload_n dX6_here_4 rfl ?_
  refine wp_geti dX6_here_5 fk6_128 (tb_214 hT) (tk_214 hT) rfl ?_
  refine wp_icmp_ge 27 dX6_here_8 (by decide) (fun hc => ?_) (fun hc => ?_)
  · replace h := h.1 hc
    refine wp_iconst (v := (-1)) dX6_here_27 rfl ?_
    exact wp_iret dX6_here_28 rfl ⟨_, rfl, rfl, rfl, rfl, h⟩
  · replace h := h.2 (Int32.not_le.mp hc)
    refine wp_aload_n dX6_here_11 rfl ?_
    refine wp_getrs dX6_here_12 fk6_25 (tb_214 hT) (tk_214 hT) rfl (tr_5 hT) ?_
    refine wp_aload_n dX6_here_15 rfl ?_
    refine wp_geti dX6_here_16 fk6_125 (tb_214 hT) (tk_214 hT) rfl ?_
    refine wp_bald dX6_here_19 (tb_220 hT).2 (tk_220 hT) h.1 ?_
    replace h := h.2
    refine wp_sipush (v := 255) dX6_here_20 rfl ?_
    refine wp_iand dX6_here_23 ?_
    refine wp_goto 28 dX6_here_24 (by decide) ?_
    exact wp_iret dX6_here_28 rfl ⟨_, rfl, rfl, rfl, rfl, h⟩
theorem n6_here {E : eT} {Q : Int32 → vT → Prop} {V : vT} (h : w6_here E Q 0 [some (vr 214)] [] V) : c6_here E V Q := MOk.enter [some (vr 214)] pn_6 rfl rfl (Nat.le_of_ble_eq_true rfl) rfl h
theorem b6_wrongAt_0 {E : eT} {Q : Int32 → vT → Prop} {V : vT} {x1 x2 : Int32} (hT : TW E) (h : Q 0 (up2 V 214 9 (((-1000) * x1) - x2))) : w6_wrongAt E Q 0 [some (vr 214), some (vi x1), some (vi x2)] [] V := by
  refine wp_aload_n dX6_wrongAt_0 rfl ?_
  refine wp_sipush (v := (-1000)) dX6_wrongAt_1 rfl ?_
  refine wp_iload_n dX6_wrongAt_4 rfl ?_
  refine wp_imul dX6_wrongAt_5 ?_
  refine wp_iload_n dX6_wrongAt_6 rfl ?_
  refine wp_isub dX6_wrongAt_7 ?_
  refine wp_puti dX6_wrongAt_8 fp6_135 (tb_214 hT) (tk_214 hT) rfl ?_
  refine wp_iconst (v := 0) dX6_wrongAt_11 rfl ?_
  exact wp_iret dX6_wrongAt_12 rfl ⟨_, rfl, rfl, rfl, rfl, h⟩
theorem n6_wrongAt {E : eT} {Q : Int32 → vT → Prop} {V : vT} {x1 x2 : Int32} (h : w6_wrongAt E Q 0 [some (vr 214), some (vi x1), some (vi x2)] [] V) : c6_wrongAt E x1 x2 V Q := MOk.enter [some (vr 214), some (vi x1), some (vi x2)] pn_6 rfl rfl (Nat.le_of_ble_eq_true rfl) rfl h
theorem b6_readsSum_0 {E : eT} {Q : Int32 → vT → Prop} {V : vT} (hT : TW E) (h : c6_readsFactor E V (fun r6 V6 => (¬ r6 = 0 → w6_readsSum E Q 14 [some (vr 214), some (vi (V 214 13)), none] [] V6) ∧ (r6 = 0 → Q 0 V6))) : w6_readsSum E Q 0 [some (vr 214), none, none] [] V := by
  refine wp_aload_n dX6_readsSum_0 rfl ?_
  refine wp_geti dX6_readsSum_1 fk6_155 (tb_214 hT) (tk_214 hT) rfl ?_
  refine wi3_1 dX6_readsSum_4 ?_
  refine wp_aload_n dX6_readsSum_5 rfl ?_
  refine wq_VI0 lk6_175 rfl (tb_214 hT) (tk_214 hT) dX6_readsSum_6 h (rmQ_ok (by decide) (by decide)) ⟨Nat.le_refl _, Nat.le_refl _⟩ (Nat.le_of_ble_eq_true rfl) (fun r6 V6 h => ?_)
  refine wp_if_ne 14 dX6_readsSum_9 (by decide) (fun hc => ?_) (fun hc => ?_)
  · replace h := h.1 hc
    exact h
  · replace h := h.2 hc
    refine wp_iconst (v := 0) dX6_readsSum_12 rfl ?_
    exact wp_iret dX6_readsSum_13 rfl ⟨_, rfl, rfl, rfl, rfl, h⟩
theorem b6_readsSum_14 {E : eT} {Q : Int32 → vT → Prop} {V : vT} {x1 : Int32} (hT : TW E) (h : c6_here E V (fun r15 V15 => c6_sumSign E r15 V15 (fun r18 V18 => (r18 = (-1) → c6_here E V18 (fun r84 V84 => (¬ r84 = 93 → c6_hasOpenSum E x1 V84 (fun r140 V140 => (r140 = 0 → c6_closesSums E 1 V140 (fun V158 => Q 1 V158)) ∧ (¬ r140 = 0 → c6_wrongAt E 1 (V140 214 7) V140 (fun r152 V152 => (r152 = 0 ∨ r152 = 1) ∧ Q r152 V152)))) ∧ (r84 = 93 → c6_hasOpenSum E x1 V84 (fun r94 V94 => (r94 = 0 → c6_hasOpenSum E x1 V94 (fun r140' V140' => (r140' = 0 → c6_closesSums E 1 V140' (fun V158' => Q 1 V158')) ∧ (¬ r140' = 0 → c6_wrongAt E 1 (V140' 214 7) V140' (fun r152' V152' => (r152' = 0 ∨ r152' = 1) ∧ Q r152' V152')))) ∧ (¬ r94 = 0 → c6_closesSums E 1 V94 (fun V102 => w6_readsSum E Q 14 [some (vr 214), some (vi x1), none] [] (up2 (up2 (up2 V102 214 13 ((V102 214 13) - 1)) 214 11 (((up2 V102 214 13 ((V102 214 13) - 1)) 214 11) - 1)) 214 7 (((up2 (up2 V102 214 13 ((V102 214 13) - 1)) 214 11 (((up2 V102 214 13 ((V102 214 13) - 1)) 214 11) - 1)) 214 7) + 1)))))))) ∧ (¬ r18 = (-1) → (4 ≤ r18 → c6_closesSums E 0 V18 (fun V38 => vp_in (V38 214 13) 260 ∧ (c6_readsFactor E (up2 (up2 (up2 V38 222 ((V38 214 13).toNatClampNeg) (1048576 * r18)) 214 13 (((up2 V38 222 ((V38 214 13).toNatClampNeg) (1048576 * r18)) 214 13) + 1)) 214 7 (((up2 (up2 V38 222 ((V38 214 13).toNatClampNeg) (1048576 * r18)) 214 13 (((up2 V38 222 ((V38 214 13).toNatClampNeg) (1048576 * r18)) 214 13) + 1)) 214 7) + 1)) (fun r75 V75 => (¬ r75 = 0 → w6_readsSum E Q 14 [some (vr 214), some (vi x1), none] [] V75) ∧ (r75 = 0 → Q 0 V75))))) ∧ (r18 < 4 → c6_closesSums E 1 V18 (fun V38' => vp_in (V38' 214 13) 260 ∧ (c6_readsFactor E (up2 (up2 (up2 V38' 222 ((V38' 214 13).toNatClampNeg) (1048576 * r18)) 214 13 (((up2 V38' 222 ((V38' 214 13).toNatClampNeg) (1048576 * r18)) 214 13) + 1)) 214 7 (((up2 (up2 V38' 222 ((V38' 214 13).toNatClampNeg) (1048576 * r18)) 214 13 (((up2 V38' 222 ((V38' 214 13).toNatClampNeg) (1048576 * r18)) 214 13) + 1)) 214 7) + 1)) (fun r75' V75' => (¬ r75' = 0 → w6_readsSum E Q 14 [some (vr 214), some (vi x1), none] [] V75') ∧ (r75' = 0 → Q 0 V75'))))))))) : w6_readsSum E Q 14 [some (vr 214), some (vi x1), none] [] V := by
  refine wp_aload_n dX6_readsSum_14 rfl ?_
  refine wq_VI0 lk6_131 rfl (tb_214 hT) (tk_214 hT) dX6_readsSum_15 h (rmQ_ok (by decide) (by decide)) ⟨Nat.le_refl _, Nat.le_refl _⟩ (Nat.le_of_ble_eq_true rfl) (fun r15 V15 h => ?_)
  refine wq_SI1 lk6_178 dX6_readsSum_18 h (rmQ_ok (by decide) (by decide)) ⟨Nat.le_refl _, Nat.le_refl _⟩ (Nat.le_of_ble_eq_true rfl) (fun r18 V18 h => ?_)
  refine wi3_2 dX6_readsSum_21 ?_
  refine wp_iload_n dX6_readsSum_22 rfl ?_
  refine wp_iconst (v := (-1)) dX6_readsSum_23 rfl ?_
  refine wp_icmp_eq 83 dX6_readsSum_24 (by decide) (fun hc => ?_) (fun hc => ?_)
  · replace h := h.1 hc
    refine wp_aload_n dX6_readsSum_83 rfl ?_
    refine wq_VI0 lk6_131 rfl (tb_214 hT) (tk_214 hT) dX6_readsSum_84 h (rmQ_ok (by decide) (by decide)) ⟨Nat.le_refl _, Nat.le_refl _⟩ (Nat.le_of_ble_eq_true rfl) (fun r84 V84 h => ?_)
    refine wp_bipush (v := 93) dX6_readsSum_87 rfl ?_
    refine wp_icmp_ne 138 dX6_readsSum_89 (by decide) (fun hc => ?_) (fun hc => ?_)
    · replace h := h.1 hc
      refine wp_aload_n dX6_readsSum_138 rfl ?_
      refine wp_iload_n dX6_readsSum_139 rfl ?_
      refine wq_VI1 lk6_185 rfl (tb_214 hT) (tk_214 hT) dX6_readsSum_140 h (rmQ_ok (by decide) (by decide)) ⟨Nat.le_refl _, Nat.le_refl _⟩ (Nat.le_of_ble_eq_true rfl) (fun r140 V140 h => ?_)
      refine wp_if_eq 156 dX6_readsSum_143 (by decide) (fun hc => ?_) (fun hc => ?_)
      · replace h := h.1 hc
        refine wp_aload_n dX6_readsSum_156 rfl ?_
        refine wp_iconst (v := 1) dX6_readsSum_157 rfl ?_
        refine wq_VV1 lk6_181 rfl (tb_214 hT) (tk_214 hT) dX6_readsSum_158 h (rmQ_ok (by decide) (by decide)) ⟨Nat.le_refl _, Nat.le_refl _⟩ (Nat.le_of_ble_eq_true rfl) (fun V158 h => ?_)
        refine wp_iconst (v := 1) dX6_readsSum_161 rfl ?_
        exact wp_iret dX6_readsSum_162 rfl ⟨_, rfl, rfl, rfl, rfl, h⟩
      · replace h := h.2 hc
        refine wp_aload_n dX6_readsSum_146 rfl ?_
        refine wp_iconst (v := 1) dX6_readsSum_147 rfl ?_
        refine wp_aload_n dX6_readsSum_148 rfl ?_
        refine wp_geti dX6_readsSum_149 fk6_125 (tb_214 hT) (tk_214 hT) rfl ?_
        refine wq_VI2 lk6_138 rfl (tb_214 hT) (tk_214 hT) dX6_readsSum_152 h (rmQ_ok (by decide) (by decide)) ⟨Nat.le_refl _, Nat.le_refl _⟩ (Nat.le_of_ble_eq_true rfl) (fun r152 V152 h => ?_)
        exact wp_iret dX6_readsSum_155 (by rcases h.1 with q9 | q9 <;> rw [q9] <;> rfl) ⟨_, rfl, rfl, rfl, rfl, h.2⟩
    · replace h := h.2 hc
      refine wp_aload_n dX6_readsSum_92 rfl ?_
      refine wp_iload_n dX6_readsSum_93 rfl ?_
      refine wq_VI1 lk6_185 rfl (tb_214 hT) (tk_214 hT) dX6_readsSum_94 h (rmQ_ok (by decide) (by decide)) ⟨Nat.le_refl _, Nat.le_refl _⟩ (Nat.le_of_ble_eq_true rfl) (fun r94 V94 h => ?_)
      refine wp_if_eq 138 dX6_readsSum_97 (by decide) (fun hc => ?_) (fun hc => ?_)
      · replace h := h.1 hc
        refine wp_aload_n dX6_readsSum_138 rfl ?_
        refine wp_iload_n dX6_readsSum_139 rfl ?_
        refine wq_VI1 lk6_185 rfl (tb_214 hT) (tk_214 hT) dX6_readsSum_140 h (rmQ_ok (by decide) (by decide)) ⟨Nat.le_refl _, Nat.le_refl _⟩ (Nat.le_of_ble_eq_true rfl) (fun r140' V140' h => ?_)
        refine wp_if_eq 156 dX6_readsSum_143 (by decide) (fun hc => ?_) (fun hc => ?_)
        · replace h := h.1 hc
          refine wp_aload_n dX6_readsSum_156 rfl ?_
          refine wp_iconst (v := 1) dX6_readsSum_157 rfl ?_
          refine wq_VV1 lk6_181 rfl (tb_214 hT) (tk_214 hT) dX6_readsSum_158 h (rmQ_ok (by decide) (by decide)) ⟨Nat.le_refl _, Nat.le_refl _⟩ (Nat.le_of_ble_eq_true rfl) (fun V158' h => ?_)
          refine wp_iconst (v := 1) dX6_readsSum_161 rfl ?_
          exact wp_iret dX6_readsSum_162 rfl ⟨_, rfl, rfl, rfl, rfl, h⟩
        · replace h := h.2 hc
          refine wp_aload_n dX6_readsSum_146 rfl ?_
          refine wp_iconst (v := 1) dX6_readsSum_147 rfl ?_
          refine wp_aload_n dX6_readsSum_148 rfl ?_
          refine wp_geti dX6_readsSum_149 fk6_125 (tb_214 hT) (tk_214 hT) rfl ?_
          refine wq_VI2 lk6_138 rfl (tb_214 hT) (tk_214 hT) dX6_readsSum_152 h (rmQ_ok (by decide) (by decide)) ⟨Nat.le_refl _, Nat.le_refl _⟩ (Nat.le_of_ble_eq_true rfl) (fun r152' V152' h => ?_)
          exact wp_iret dX6_readsSum_155 (by rcases h.1 with q9 | q9 <;> rw [q9] <;> rfl) ⟨_, rfl, rfl, rfl, rfl, h.2⟩
      · replace h := h.2 hc
        refine wp_aload_n dX6_readsSum_100 rfl ?_
        refine wp_iconst (v := 1) dX6_readsSum_101 rfl ?_
        refine wq_VV1 lk6_181 rfl (tb_214 hT) (tk_214 hT) dX6_readsSum_102 h (rmQ_ok (by decide) (by decide)) ⟨Nat.le_refl _, Nat.le_refl _⟩ (Nat.le_of_ble_eq_true rfl) (fun V102 h => ?_)
        refine wp_aload_n dX6_readsSum_105 rfl ?_
        refine wp_aload_n dX6_readsSum_106 rfl ?_
        refine wp_geti dX6_readsSum_107 fk6_155 (tb_214 hT) (tk_214 hT) rfl ?_
        refine wp_iconst (v := 1) dX6_readsSum_110 rfl ?_
        refine wp_isub dX6_readsSum_111 ?_
        refine wp_puti dX6_readsSum_112 fp6_155 (tb_214 hT) (tk_214 hT) rfl ?_
        refine wp_aload_n dX6_readsSum_115 rfl ?_
        refine wp_aload_n dX6_readsSum_116 rfl ?_
        refine wp_geti dX6_readsSum_117 fk6_152 (tb_214 hT) (tk_214 hT) rfl ?_
        refine wp_iconst (v := 1) dX6_readsSum_120 rfl ?_
        refine wp_isub dX6_readsSum_121 ?_
        refine wp_puti dX6_readsSum_122 fp6_152 (tb_214 hT) (tk_214 hT) rfl ?_
        refine wp_aload_n dX6_readsSum_125 rfl ?_
        refine wp_aload_n dX6_readsSum_126 rfl ?_
        refine wp_geti dX6_readsSum_127 fk6_125 (tb_214 hT) (tk_214 hT) rfl ?_
        refine wp_iconst (v := 1) dX6_readsSum_130 rfl ?_
        refine wp_iadd dX6_readsSum_131 ?_
        refine wp_puti dX6_readsSum_132 fp6_125 (tb_214 hT) (tk_214 hT) rfl ?_
        refine wp_goto 163 dX6_readsSum_135 (by decide) ?_
        refine wp_goto 14 dX6_readsSum_163 (by decide) ?_
        exact wp_drop [some (vr 214), some (vi x1), none] ⟨rfl, ⟨rfl, trivial⟩⟩ h
  · replace h := h.2 hc
    refine wp_aload_n dX6_readsSum_27 rfl ?_
    refine wp_iload_n dX6_readsSum_28 rfl ?_
    refine wp_iconst (v := 4) dX6_readsSum_29 rfl ?_
    refine wp_icmp_ge 37 dX6_readsSum_30 (by decide) (fun hc => ?_) (fun hc => ?_)
    · replace h := h.1 hc
      refine wp_iconst (v := 0) dX6_readsSum_37 rfl ?_
      refine wq_VV1 lk6_181 rfl (tb_214 hT) (tk_214 hT) dX6_readsSum_38 h (rmQ_ok (by decide) (by decide)) ⟨Nat.le_refl _, Nat.le_refl _⟩ (Nat.le_of_ble_eq_true rfl) (fun V38 h => ?_)
      refine wp_aload_n dX6_readsSum_41 rfl ?_
      refine wp_getrs dX6_readsSum_42 fk6_32 (tb_214 hT) (tk_214 hT) rfl (tr_17 hT) ?_
      refine wp_aload_n dX6_readsSum_45 rfl ?_
      refine wp_geti dX6_readsSum_46 fk6_155 (tb_214 hT) (tk_214 hT) rfl ?_
      refine wp_ldc (v := 1048576) dX6_readsSum_49 q1366 ?_
      refine wp_iload_n dX6_readsSum_51 rfl ?_
      refine wp_imul dX6_readsSum_52 ?_
      refine wp_iast dX6_readsSum_53 (tb_222 hT) (tk_222 hT) h.1 ?_
      replace h := h.2
      refine wp_aload_n dX6_readsSum_54 rfl ?_
      refine wp_aload_n dX6_readsSum_55 rfl ?_
      refine wp_geti dX6_readsSum_56 fk6_155 (tb_214 hT) (tk_214 hT) rfl ?_
      refine wp_iconst (v := 1) dX6_readsSum_59 rfl ?_
      refine wp_iadd dX6_readsSum_60 ?_
      refine wp_puti dX6_readsSum_61 fp6_155 (tb_214 hT) (tk_214 hT) rfl ?_
      refine wp_aload_n dX6_readsSum_64 rfl ?_
      refine wp_aload_n dX6_readsSum_65 rfl ?_
      refine wp_geti dX6_readsSum_66 fk6_125 (tb_214 hT) (tk_214 hT) rfl ?_
      refine wp_iconst (v := 1) dX6_readsSum_69 rfl ?_
      refine wp_iadd dX6_readsSum_70 ?_
      refine wp_puti dX6_readsSum_71 fp6_125 (tb_214 hT) (tk_214 hT) rfl ?_
      refine wp_aload_n dX6_readsSum_74 rfl ?_
      refine wq_VI0 lk6_175 rfl (tb_214 hT) (tk_214 hT) dX6_readsSum_75 h (rmQ_ok (by decide) (by decide)) ⟨Nat.le_refl _, Nat.le_refl _⟩ (Nat.le_of_ble_eq_true rfl) (fun r75 V75 h => ?_)
      refine wp_if_ne 163 dX6_readsSum_78 (by decide) (fun hc => ?_) (fun hc => ?_)
      · replace h := h.1 hc
        refine wp_goto 14 dX6_readsSum_163 (by decide) ?_
        exact wp_drop [some (vr 214), some (vi x1), none] ⟨rfl, ⟨rfl, trivial⟩⟩ h
      · replace h := h.2 hc
        refine wp_iconst (v := 0) dX6_readsSum_81 rfl ?_
        exact wp_iret dX6_readsSum_82 rfl ⟨_, rfl, rfl, rfl, rfl, h⟩
    · replace h := h.2 (Int32.not_le.mp hc)
      refine wp_iconst (v := 1) dX6_readsSum_33 rfl ?_
      refine wp_goto 38 dX6_readsSum_34 (by decide) ?_
      refine wq_VV1 lk6_181 rfl (tb_214 hT) (tk_214 hT) dX6_readsSum_38 h (rmQ_ok (by decide) (by decide)) ⟨Nat.le_refl _, Nat.le_refl _⟩ (Nat.le_of_ble_eq_true rfl) (fun V38' h => ?_)
      refine wp_aload_n dX6_readsSum_41 rfl ?_
      refine wp_getrs dX6_readsSum_42 fk6_32 (tb_214 hT) (tk_214 hT) rfl (tr_17 hT) ?_
      refine wp_aload_n dX6_readsSum_45 rfl ?_
      refine wp_geti dX6_readsSum_46 fk6_155 (tb_214 hT) (tk_214 hT) rfl ?_
      refine wp_ldc (v := 1048576) dX6_readsSum_49 q1366 ?_
      refine wp_iload_n dX6_readsSum_51 rfl ?_
      refine wp_imul dX6_readsSum_52 ?_
      refine wp_iast dX6_readsSum_53 (tb_222 hT) (tk_222 hT) h.1 ?_
      replace h := h.2
      refine wp_aload_n dX6_readsSum_54 rfl ?_
      refine wp_aload_n dX6_readsSum_55 rfl ?_
      refine wp_geti dX6_readsSum_56 fk6_155 (tb_214 hT) (tk_214 hT) rfl ?_
      refine wp_iconst (v := 1) dX6_readsSum_59 rfl ?_
      refine wp_iadd dX6_readsSum_60 ?_
      refine wp_puti dX6_readsSum_61 fp6_155 (tb_214 hT) (tk_214 hT) rfl ?_
      refine wp_aload_n dX6_readsSum_64 rfl ?_
      refine wp_aload_n dX6_readsSum_65 rfl ?_
      refine wp_geti dX6_readsSum_66 fk6_125 (tb_214 hT) (tk_214 hT) rfl ?_
      refine wp_iconst (v := 1) dX6_readsSum_69 rfl ?_
      refine wp_iadd dX6_readsSum_70 ?_
      refine wp_puti dX6_readsSum_71 fp6_125 (tb_214 hT) (tk_214 hT) rfl ?_
      refine wp_aload_n dX6_readsSum_74 rfl ?_
      refine wq_VI0 lk6_175 rfl (tb_214 hT) (tk_214 hT) dX6_readsSum_75 h (rmQ_ok (by decide) (by decide)) ⟨Nat.le_refl _, Nat.le_refl _⟩ (Nat.le_of_ble_eq_true rfl) (fun r75' V75' h => ?_)
      refine wp_if_ne 163 dX6_readsSum_78 (by decide) (fun hc => ?_) (fun hc => ?_)
      · replace h := h.1 hc
        refine wp_goto 14 dX6_readsSum_163 (by decide) ?_
        exact wp_drop [some (vr 214), some (vi x1), none] ⟨rfl, ⟨rfl, trivial⟩⟩ h
      · replace h := h.2 hc
        refine wp_iconst (v := 0) dX6_readsSum_81 rfl ?_
        exact wp_iret dX6_readsSum_82 rfl ⟨_, rfl, rfl, rfl, rfl, h⟩
theorem n6_readsSum {E : eT} {Q : Int32 → vT → Prop} {V : vT} (h : w6_readsSum E Q 0 [some (vr 214), none, none] [] V) : c6_readsSum E V Q := MOk.enter [some (vr 214), none, none] pn_6 rfl rfl (Nat.le_of_ble_eq_true rfl) rfl h
theorem b6_readsFactor_0 {E : eT} {Q : Int32 → vT → Prop} {V : vT} (hT : TW E) (h : c6_here E V (fun r1 V1 => (¬ r1 = 91 → c6_isDigit E V1 (fun r21 V21 => (r21 = 0 → c6_here E V21 (fun r48 V48 => c6_factOf E r48 V48 (fun r51 V51 => (¬ r51 = (-1) → c6_notes E 1 r51 V51 (fun V73 => Q 1 (up2 V73 214 7 ((V73 214 7) + 1)))) ∧ (r51 = (-1) → c6_wrongAt E 1 (V51 214 7) V51 (fun r66 V66 => (r66 = 0 ∨ r66 = 1) ∧ Q r66 V66))))) ∧ (¬ r21 = 0 → c6_readsNumber E V21 (fun r28 V28 => (¬ r28 = 0 → c6_notes E 0 (V28 214 10) V28 (fun V42 => Q 1 V42)) ∧ (r28 = 0 → Q 0 V28))))) ∧ (r1 = 91 → c6_opens E 14 V1 (fun r12 V12 => (¬ r12 = 0 → w6_readsFactor E Q 0 [some (vr 214), none] [] V12) ∧ (r12 = 0 → Q 0 V12))))) : w6_readsFactor E Q 0 [some (vr 214), none] [] V := by
  refine wp_aload_n dX6_readsFactor_0 rfl ?_
  refine wq_VI0 lk6_131 rfl (tb_214 hT) (tk_214 hT) dX6_readsFactor_1 h (rmQ_ok (by decide) (by decide)) ⟨Nat.le_refl _, Nat.le_refl _⟩ (Nat.le_of_ble_eq_true rfl) (fun r1 V1 h => ?_)
  refine wp_bipush (v := 91) dX6_readsFactor_4 rfl ?_
  refine wp_icmp_ne 20 dX6_readsFactor_6 (by decide) (fun hc => ?_) (fun hc => ?_)
  · replace h := h.1 hc
    refine wp_aload_n dX6_readsFactor_20 rfl ?_
    refine wq_VI0 lk6_144 rfl (tb_214 hT) (tk_214 hT) dX6_readsFactor_21 h (rmQ_ok (by decide) (by decide)) ⟨Nat.le_refl _, Nat.le_refl _⟩ (Nat.le_of_ble_eq_true rfl) (fun r21 V21 h => ?_)
    refine wp_if_eq 47 dX6_readsFactor_24 (by decide) (fun hc => ?_) (fun hc => ?_)
    · replace h := h.1 hc
      refine wp_aload_n dX6_readsFactor_47 rfl ?_
      refine wq_VI0 lk6_131 rfl (tb_214 hT) (tk_214 hT) dX6_readsFactor_48 h (rmQ_ok (by decide) (by decide)) ⟨Nat.le_refl _, Nat.le_refl _⟩ (Nat.le_of_ble_eq_true rfl) (fun r48 V48 h => ?_)
      refine wq_SI1 lk6_171 dX6_readsFactor_51 h (rmQ_ok (by decide) (by decide)) ⟨Nat.le_refl _, Nat.le_refl _⟩ (Nat.le_of_ble_eq_true rfl) (fun r51 V51 h => ?_)
      refine wi2_1 dX6_readsFactor_54 ?_
      refine wp_iload_n dX6_readsFactor_55 rfl ?_
      refine wp_iconst (v := (-1)) dX6_readsFactor_56 rfl ?_
      refine wp_icmp_ne 70 dX6_readsFactor_57 (by decide) (fun hc => ?_) (fun hc => ?_)
      · replace h := h.1 hc
        refine wp_aload_n dX6_readsFactor_70 rfl ?_
        refine wp_iconst (v := 1) dX6_readsFactor_71 rfl ?_
        refine wp_iload_n dX6_readsFactor_72 rfl ?_
        refine wq_VV2 lk6_161 rfl (tb_214 hT) (tk_214 hT) dX6_readsFactor_73 h (rmQ_ok (by decide) (by decide)) ⟨Nat.le_refl _, Nat.le_refl _⟩ (Nat.le_of_ble_eq_true rfl) (fun V73 h => ?_)
        refine wp_aload_n dX6_readsFactor_76 rfl ?_
        refine wp_aload_n dX6_readsFactor_77 rfl ?_
        refine wp_geti dX6_readsFactor_78 fk6_125 (tb_214 hT) (tk_214 hT) rfl ?_
        refine wp_iconst (v := 1) dX6_readsFactor_81 rfl ?_
        refine wp_iadd dX6_readsFactor_82 ?_
        refine wp_puti dX6_readsFactor_83 fp6_125 (tb_214 hT) (tk_214 hT) rfl ?_
        refine wp_iconst (v := 1) dX6_readsFactor_86 rfl ?_
        exact wp_iret dX6_readsFactor_87 rfl ⟨_, rfl, rfl, rfl, rfl, h⟩
      · replace h := h.2 hc
        refine wp_aload_n dX6_readsFactor_60 rfl ?_
        refine wp_iconst (v := 1) dX6_readsFactor_61 rfl ?_
        refine wp_aload_n dX6_readsFactor_62 rfl ?_
        refine wp_geti dX6_readsFactor_63 fk6_125 (tb_214 hT) (tk_214 hT) rfl ?_
        refine wq_VI2 lk6_138 rfl (tb_214 hT) (tk_214 hT) dX6_readsFactor_66 h (rmQ_ok (by decide) (by decide)) ⟨Nat.le_refl _, Nat.le_refl _⟩ (Nat.le_of_ble_eq_true rfl) (fun r66 V66 h => ?_)
        exact wp_iret dX6_readsFactor_69 (by rcases h.1 with q9 | q9 <;> rw [q9] <;> rfl) ⟨_, rfl, rfl, rfl, rfl, h.2⟩
    · replace h := h.2 hc
      refine wp_aload_n dX6_readsFactor_27 rfl ?_
      refine wq_VI0 lk6_168 rfl (tb_214 hT) (tk_214 hT) dX6_readsFactor_28 h (rmQ_ok (by decide) (by decide)) ⟨Nat.le_refl _, Nat.le_refl _⟩ (Nat.le_of_ble_eq_true rfl) (fun r28 V28 h => ?_)
      refine wp_if_ne 36 dX6_readsFactor_31 (by decide) (fun hc => ?_) (fun hc => ?_)
      · replace h := h.1 hc
        refine wp_aload_n dX6_readsFactor_36 rfl ?_
        refine wp_iconst (v := 0) dX6_readsFactor_37 rfl ?_
        refine wp_aload_n dX6_readsFactor_38 rfl ?_
        refine wp_geti dX6_readsFactor_39 fk6_141 (tb_214 hT) (tk_214 hT) rfl ?_
        refine wq_VV2 lk6_161 rfl (tb_214 hT) (tk_214 hT) dX6_readsFactor_42 h (rmQ_ok (by decide) (by decide)) ⟨Nat.le_refl _, Nat.le_refl _⟩ (Nat.le_of_ble_eq_true rfl) (fun V42 h => ?_)
        refine wp_iconst (v := 1) dX6_readsFactor_45 rfl ?_
        exact wp_iret dX6_readsFactor_46 rfl ⟨_, rfl, rfl, rfl, rfl, h⟩
      · replace h := h.2 hc
        refine wp_iconst (v := 0) dX6_readsFactor_34 rfl ?_
        exact wp_iret dX6_readsFactor_35 rfl ⟨_, rfl, rfl, rfl, rfl, h⟩
  · replace h := h.2 hc
    refine wp_aload_n dX6_readsFactor_9 rfl ?_
    refine wp_bipush (v := 14) dX6_readsFactor_10 rfl ?_
    refine wq_VI1 lk6_165 rfl (tb_214 hT) (tk_214 hT) dX6_readsFactor_12 h (rmQ_ok (by decide) (by decide)) ⟨Nat.le_refl _, Nat.le_refl _⟩ (Nat.le_of_ble_eq_true rfl) (fun r12 V12 h => ?_)
    refine wp_if_ne 0 dX6_readsFactor_15 (by decide) (fun hc => ?_) (fun hc => ?_)
    · replace h := h.1 hc
      exact h
    · replace h := h.2 hc
      refine wp_iconst (v := 0) dX6_readsFactor_18 rfl ?_
      exact wp_iret dX6_readsFactor_19 rfl ⟨_, rfl, rfl, rfl, rfl, h⟩
theorem n6_readsFactor {E : eT} {Q : Int32 → vT → Prop} {V : vT} (h : w6_readsFactor E Q 0 [some (vr 214), none] [] V) : c6_readsFactor E V Q := MOk.enter [some (vr 214), none] pn_6 rfl rfl (Nat.le_of_ble_eq_true rfl) rfl h
theorem b6_opens_0 {E : eT} {Q : Int32 → vT → Prop} {V : vT} {x1 : Int32} (hT : TW E) (h : (¬ (V 214 11) = 6 → vp_in ((up2 V 214 11 ((V 214 11) + 1)) 214 13) 260 ∧ (Q 1 (up2 (up2 (up2 (up2 V 214 11 ((V 214 11) + 1)) 222 (((up2 V 214 11 ((V 214 11) + 1)) 214 13).toNatClampNeg) (1048576 * x1)) 214 13 (((up2 (up2 V 214 11 ((V 214 11) + 1)) 222 (((up2 V 214 11 ((V 214 11) + 1)) 214 13).toNatClampNeg) (1048576 * x1)) 214 13) + 1)) 214 7 (((up2 (up2 (up2 V 214 11 ((V 214 11) + 1)) 222 (((up2 V 214 11 ((V 214 11) + 1)) 214 13).toNatClampNeg) (1048576 * x1)) 214 13 (((up2 (up2 V 214 11 ((V 214 11) + 1)) 222 (((up2 V 214 11 ((V 214 11) + 1)) 214 13).toNatClampNeg) (1048576 * x1)) 214 13) + 1)) 214 7) + 1)))) ∧ ((V 214 11) = 6 → c6_wrongAt E 5 (V 214 7) V (fun r15 V15 => (r15 = 0 ∨ r15 = 1) ∧ Q r15 V15))) : w6_opens E Q 0 [some (vr 214), some (vi x1)] [] V := by
  refine wp_aload_n dX6_opens_0 rfl ?_
  refine wp_geti dX6_opens_1 fk6_152 (tb_214 hT) (tk_214 hT) rfl ?_
  refine wp_bipush (v := 6) dX6_opens_4 rfl ?_
  refine wp_icmp_ne 19 dX6_opens_6 (by decide) (fun hc => ?_) (fun hc => ?_)
  · replace h := h.1 hc
    refine wp_aload_n dX6_opens_19 rfl ?_
    refine wp_aload_n dX6_opens_20 rfl ?_
    refine wp_geti dX6_opens_21 fk6_152 (tb_214 hT) (tk_214 hT) rfl ?_
    refine wp_iconst (v := 1) dX6_opens_24 rfl ?_
    refine wp_iadd dX6_opens_25 ?_
    refine wp_puti dX6_opens_26 fp6_152 (tb_214 hT) (tk_214 hT) rfl ?_
    refine wp_aload_n dX6_opens_29 rfl ?_
    refine wp_getrs dX6_opens_30 fk6_32 (tb_214 hT) (tk_214 hT) rfl (tr_17 hT) ?_
    refine wp_aload_n dX6_opens_33 rfl ?_
    refine wp_geti dX6_opens_34 fk6_155 (tb_214 hT) (tk_214 hT) rfl ?_
    refine wp_ldc (v := 1048576) dX6_opens_37 q1366 ?_
    refine wp_iload_n dX6_opens_39 rfl ?_
    refine wp_imul dX6_opens_40 ?_
    refine wp_iast dX6_opens_41 (tb_222 hT) (tk_222 hT) h.1 ?_
    replace h := h.2
    refine wp_aload_n dX6_opens_42 rfl ?_
    refine wp_aload_n dX6_opens_43 rfl ?_
    refine wp_geti dX6_opens_44 fk6_155 (tb_214 hT) (tk_214 hT) rfl ?_
    refine wp_iconst (v := 1) dX6_opens_47 rfl ?_
    refine wp_iadd dX6_opens_48 ?_
    refine wp_puti dX6_opens_49 fp6_155 (tb_214 hT) (tk_214 hT) rfl ?_
    refine wp_aload_n dX6_opens_52 rfl ?_
    refine wp_aload_n dX6_opens_53 rfl ?_
    refine wp_geti dX6_opens_54 fk6_125 (tb_214 hT) (tk_214 hT) rfl ?_
    refine wp_iconst (v := 1) dX6_opens_57 rfl ?_
    refine wp_iadd dX6_opens_58 ?_
    refine wp_puti dX6_opens_59 fp6_125 (tb_214 hT) (tk_214 hT) rfl ?_
    refine wp_iconst (v := 1) dX6_opens_62 rfl ?_
    exact wp_iret dX6_opens_63 rfl ⟨_, rfl, rfl, rfl, rfl, h⟩
  · replace h := h.2 hc
    refine wp_aload_n dX6_opens_9 rfl ?_
    refine wp_iconst (v := 5) dX6_opens_10 rfl ?_
    refine wp_aload_n dX6_opens_11 rfl ?_
    refine wp_geti dX6_opens_12 fk6_125 (tb_214 hT) (tk_214 hT) rfl ?_
    refine wq_VI2 lk6_138 rfl (tb_214 hT) (tk_214 hT) dX6_opens_15 h (rmQ_ok (by decide) (by decide)) ⟨Nat.le_refl _, Nat.le_refl _⟩ (Nat.le_of_ble_eq_true rfl) (fun r15 V15 h => ?_)
    exact wp_iret dX6_opens_18 (by rcases h.1 with q9 | q9 <;> rw [q9] <;> rfl) ⟨_, rfl, rfl, rfl, rfl, h.2⟩
theorem n6_opens {E : eT} {Q : Int32 → vT → Prop} {V : vT} {x1 : Int32} (h : w6_opens E Q 0 [some (vr 214), some (vi x1)] [] V) : c6_opens E x1 V Q := MOk.enter [some (vr 214), some (vi x1)] pn_6 rfl rfl (Nat.le_of_ble_eq_true rfl) rfl h
theorem b6_isDigit_0 {E : eT} {Q : Int32 → vT → Prop} {V : vT} (hT : TW E) (h : c6_here E V (fun r1 V1 => (r1 < 48 → Q 0 V1) ∧ (48 ≤ r1 → c6_here E V1 (fun r10 V10 => (57 < r10 → Q 0 V10) ∧ (r10 ≤ 57 → Q 1 V10))))) : w6_isDigit E Q 0 [some (vr 214)] [] V := by
  refine wp_aload_n dX6_isDigit_0 rfl ?_
  refine wq_VI0 lk6_131 rfl (tb_214 hT) (tk_214 hT) dX6_isDigit_1 h (rmQ_ok (by decide) (by decide)) ⟨Nat.le_refl _, Nat.le_refl _⟩ (Nat.le_of_ble_eq_true rfl) (fun r1 V1 h => ?_)
  refine wp_bipush (v := 48) dX6_isDigit_4 rfl ?_
  refine wp_icmp_lt 22 dX6_isDigit_6 (by decide) (fun hc => ?_) (fun hc => ?_)
  · replace h := h.1 hc
    refine wp_iconst (v := 0) dX6_isDigit_22 rfl ?_
    exact wp_iret dX6_isDigit_23 rfl ⟨_, rfl, rfl, rfl, rfl, h⟩
  · replace h := h.2 (Int32.not_lt.mp hc)
    refine wp_aload_n dX6_isDigit_9 rfl ?_
    refine wq_VI0 lk6_131 rfl (tb_214 hT) (tk_214 hT) dX6_isDigit_10 h (rmQ_ok (by decide) (by decide)) ⟨Nat.le_refl _, Nat.le_refl _⟩ (Nat.le_of_ble_eq_true rfl) (fun r10 V10 h => ?_)
    refine wp_bipush (v := 57) dX6_isDigit_13 rfl ?_
    refine wp_icmp_gt 22 dX6_isDigit_15 (by decide) (fun hc => ?_) (fun hc => ?_)
    · replace h := h.1 hc
      refine wp_iconst (v := 0) dX6_isDigit_22 rfl ?_
      exact wp_iret dX6_isDigit_23 rfl ⟨_, rfl, rfl, rfl, rfl, h⟩
    · replace h := h.2 (Int32.not_lt.mp hc)
      refine wp_iconst (v := 1) dX6_isDigit_18 rfl ?_
      refine wp_goto 23 dX6_isDigit_19 (by decide) ?_
      exact wp_iret dX6_isDigit_23 rfl ⟨_, rfl, rfl, rfl, rfl, h⟩
theorem n6_isDigit {E : eT} {Q : Int32 → vT → Prop} {V : vT} (h : w6_isDigit E Q 0 [some (vr 214)] [] V) : c6_isDigit E V Q := MOk.enter [some (vr 214)] pn_6 rfl rfl (Nat.le_of_ble_eq_true rfl) rfl h
theorem b6_readsNumber_0 {E : eT} {Q : Int32 → vT → Prop} {V : vT} (hT : TW E) (h : w6_readsNumber E Q 10 [some (vr 214), some (vi (V 214 7))] [] (up2 V 214 10 0)) : w6_readsNumber E Q 0 [some (vr 214), none] [] V := by
  refine wp_aload_n dX6_readsNumber_0 rfl ?_
  refine wp_geti dX6_readsNumber_1 fk6_125 (tb_214 hT) (tk_214 hT) rfl ?_
  refine wi2_1 dX6_readsNumber_4 ?_
  refine wp_aload_n dX6_readsNumber_5 rfl ?_
  refine wp_iconst (v := 0) dX6_readsNumber_6 rfl ?_
  refine wp_puti dX6_readsNumber_7 fp6_141 (tb_214 hT) (tk_214 hT) rfl ?_
  exact h
theorem b6_readsNumber_10 {E : eT} {Q : Int32 → vT → Prop} {V : vT} {x1 : Int32} (hT : TW E) (h : c6_isDigit E V (fun r11 V11 => (r11 = 0 → Q 1 V11) ∧ (¬ r11 = 0 → (¬ (V11 214 7) = (x1 + 5) → c6_here E V11 (fun r46 V46 => w6_readsNumber E Q 10 [some (vr 214), some (vi x1)] [] (up2 (up2 V46 214 10 (((10 * (V11 214 10)) + r46) - 48)) 214 7 (((up2 V46 214 10 (((10 * (V11 214 10)) + r46) - 48)) 214 7) + 1)))) ∧ ((V11 214 7) = (x1 + 5) → c6_wrongAt E 2 (V11 214 7) V11 (fun r33 V33 => (r33 = 0 ∨ r33 = 1) ∧ Q r33 V33))))) : w6_readsNumber E Q 10 [some (vr 214), some (vi x1)] [] V := by
  refine wp_aload_n dX6_readsNumber_10 rfl ?_
  refine wq_VI0 lk6_144 rfl (tb_214 hT) (tk_214 hT) dX6_readsNumber_11 h (rmQ_ok (by decide) (by decide)) ⟨Nat.le_refl _, Nat.le_refl _⟩ (Nat.le_of_ble_eq_true rfl) (fun r11 V11 h => ?_)
  refine wp_if_eq 69 dX6_readsNumber_14 (by decide) (fun hc => ?_) (fun hc => ?_)
  · replace h := h.1 hc
    refine wp_iconst (v := 1) dX6_readsNumber_69 rfl ?_
    exact wp_iret dX6_readsNumber_70 rfl ⟨_, rfl, rfl, rfl, rfl, h⟩
  · replace h := h.2 hc
    refine wp_aload_n dX6_readsNumber_17 rfl ?_
    refine wp_geti dX6_readsNumber_18 fk6_125 (tb_214 hT) (tk_214 hT) rfl ?_
    refine wp_iload_n dX6_readsNumber_21 rfl ?_
    refine wp_iconst (v := 5) dX6_readsNumber_22 rfl ?_
    refine wp_iadd dX6_readsNumber_23 ?_
    refine wp_icmp_ne 37 dX6_readsNumber_24 (by decide) (fun hc => ?_) (fun hc => ?_)
    · replace h := h.1 hc
      refine wp_aload_n dX6_readsNumber_37 rfl ?_
      refine wp_bipush (v := 10) dX6_readsNumber_38 rfl ?_
      refine wp_aload_n dX6_readsNumber_40 rfl ?_
      refine wp_geti dX6_readsNumber_41 fk6_141 (tb_214 hT) (tk_214 hT) rfl ?_
      refine wp_imul dX6_readsNumber_44 ?_
      refine wp_aload_n dX6_readsNumber_45 rfl ?_
      refine wq_VI0 lk6_131 rfl (tb_214 hT) (tk_214 hT) dX6_readsNumber_46 h (rmQ_ok (by decide) (by decide)) ⟨Nat.le_refl _, Nat.le_refl _⟩ (Nat.le_of_ble_eq_true rfl) (fun r46 V46 h => ?_)
      refine wp_iadd dX6_readsNumber_49 ?_
      refine wp_bipush (v := 48) dX6_readsNumber_50 rfl ?_
      refine wp_isub dX6_readsNumber_52 ?_
      refine wp_puti dX6_readsNumber_53 fp6_141 (tb_214 hT) (tk_214 hT) rfl ?_
      refine wp_aload_n dX6_readsNumber_56 rfl ?_
      refine wp_aload_n dX6_readsNumber_57 rfl ?_
      refine wp_geti dX6_readsNumber_58 fk6_125 (tb_214 hT) (tk_214 hT) rfl ?_
      refine wp_iconst (v := 1) dX6_readsNumber_61 rfl ?_
      refine wp_iadd dX6_readsNumber_62 ?_
      refine wp_puti dX6_readsNumber_63 fp6_125 (tb_214 hT) (tk_214 hT) rfl ?_
      refine wp_goto 10 dX6_readsNumber_66 (by decide) ?_
      exact h
    · replace h := h.2 hc
      refine wp_aload_n dX6_readsNumber_27 rfl ?_
      refine wp_iconst (v := 2) dX6_readsNumber_28 rfl ?_
      refine wp_aload_n dX6_readsNumber_29 rfl ?_
      refine wp_geti dX6_readsNumber_30 fk6_125 (tb_214 hT) (tk_214 hT) rfl ?_
      refine wq_VI2 lk6_138 rfl (tb_214 hT) (tk_214 hT) dX6_readsNumber_33 h (rmQ_ok (by decide) (by decide)) ⟨Nat.le_refl _, Nat.le_refl _⟩ (Nat.le_of_ble_eq_true rfl) (fun r33 V33 h => ?_)
      exact wp_iret dX6_readsNumber_36 (by rcases h.1 with q9 | q9 <;> rw [q9] <;> rfl) ⟨_, rfl, rfl, rfl, rfl, h.2⟩
theorem n6_readsNumber {E : eT} {Q : Int32 → vT → Prop} {V : vT} (h : w6_readsNumber E Q 0 [some (vr 214), none] [] V) : c6_readsNumber E V Q := MOk.enter [some (vr 214), none] pn_6 rfl rfl (Nat.le_of_ble_eq_true rfl) rfl h
theorem b6_notes_0 {E : eT} {Q : vT → Prop} {V : vT} {x1 x2 : Int32} (hT : TW E) (h : vp_in (V 214 12) 260 ∧ (Q (up2 (up2 V 221 ((V 214 12).toNatClampNeg) ((1048576 * x1) + x2)) 214 12 (((up2 V 221 ((V 214 12).toNatClampNeg) ((1048576 * x1) + x2)) 214 12) + 1)))) : w6_notes E Q 0 [some (vr 214), some (vi x1), some (vi x2)] [] V := by
  refine wp_aload_n dX6_notes_0 rfl ?_
  refine wp_getrs dX6_notes_1 fk6_29 (tb_214 hT) (tk_214 hT) rfl (tr_16 hT) ?_
  refine wp_aload_n dX6_notes_4 rfl ?_
  refine wp_geti dX6_notes_5 fk6_148 (tb_214 hT) (tk_214 hT) rfl ?_
  refine wp_ldc (v := 1048576) dX6_notes_8 q1366 ?_
  refine wp_iload_n dX6_notes_10 rfl ?_
  refine wp_imul dX6_notes_11 ?_
  refine wp_iload_n dX6_notes_12 rfl ?_
  refine wp_iadd dX6_notes_13 ?_
  refine wp_iast dX6_notes_14 (tb_221 hT) (tk_221 hT) h.1 ?_
  replace h := h.2
  refine wp_aload_n dX6_notes_15 rfl ?_
  refine wp_aload_n dX6_notes_16 rfl ?_
  refine wp_geti dX6_notes_17 fk6_148 (tb_214 hT) (tk_214 hT) rfl ?_
  refine wp_iconst (v := 1) dX6_notes_20 rfl ?_
  refine wp_iadd dX6_notes_21 ?_
  refine wp_puti dX6_notes_22 fp6_148 (tb_214 hT) (tk_214 hT) rfl ?_
  exact wp_vret dX6_notes_25 ⟨rfl, rfl, rfl, rfl, h⟩
theorem n6_notes {E : eT} {Q : vT → Prop} {V : vT} {x1 x2 : Int32} (h : w6_notes E Q 0 [some (vr 214), some (vi x1), some (vi x2)] [] V) : c6_notes E x1 x2 V Q := MOk.enter [some (vr 214), some (vi x1), some (vi x2)] pn_6 rfl rfl (Nat.le_of_ble_eq_true rfl) rfl h
theorem b6_factOf_0 {E : eT} {Q : Int32 → vT → Prop} {V : vT} {x1 : Int32} (hT : TW E) (h : (x1 = 100 → Q 5 V) ∧ (x1 = 103 → Q 6 V) ∧ (x1 = 105 → Q 4 V) ∧ (x1 = 109 → Q 1 V) ∧ (x1 = 110 → Q 2 V) ∧ (x1 = 112 → Q 0 V) ∧ (x1 = 116 → Q 7 V) ∧ (x1 = 118 → Q 3 V) ∧ (x1 = 119 → Q 8 V) ∧ (¬ x1 = 100 → ¬ x1 = 103 → ¬ x1 = 105 → ¬ x1 = 109 → ¬ x1 = 110 → ¬ x1 = 112 → ¬ x1 = 116 → ¬ x1 = 118 → ¬ x1 = 119 → Q (-1) V)) : w6_factOf E Q 0 [some (vi x1)] [] V := by
  refine wp_iload_n dX6_factOf_0 rfl ?_
  by_cases hc100 : x1 = 100
  · replace h := h.1 hc100
    rw [hc100]
    refine wp_tableIn 106 dX6_factOf_1 (by decide) (by decide) rfl (by decide) ?_
    refine wp_iconst (v := 5) dX6_factOf_106 rfl ?_
    exact wp_iret dX6_factOf_107 rfl ⟨_, rfl, rfl, rfl, rfl, h⟩
  · skip
    by_cases hc103 : x1 = 103
    · replace h := h.2.1 hc103
      rw [hc103]
      refine wp_tableIn 108 dX6_factOf_1 (by decide) (by decide) rfl (by decide) ?_
      refine wp_bipush (v := 6) dX6_factOf_108 rfl ?_
      exact wp_iret dX6_factOf_110 rfl ⟨_, rfl, rfl, rfl, rfl, h⟩
    · skip
      by_cases hc105 : x1 = 105
      · replace h := h.2.2.1 hc105
        rw [hc105]
        refine wp_tableIn 104 dX6_factOf_1 (by decide) (by decide) rfl (by decide) ?_
        refine wp_iconst (v := 4) dX6_factOf_104 rfl ?_
        exact wp_iret dX6_factOf_105 rfl ⟨_, rfl, rfl, rfl, rfl, h⟩
      · skip
        by_cases hc109 : x1 = 109
        · replace h := h.2.2.2.1 hc109
          rw [hc109]
          refine wp_tableIn 98 dX6_factOf_1 (by decide) (by decide) rfl (by decide) ?_
          refine wp_iconst (v := 1) dX6_factOf_98 rfl ?_
          exact wp_iret dX6_factOf_99 rfl ⟨_, rfl, rfl, rfl, rfl, h⟩
        · skip
          by_cases hc110 : x1 = 110
          · replace h := h.2.2.2.2.1 hc110
            rw [hc110]
            refine wp_tableIn 100 dX6_factOf_1 (by decide) (by decide) rfl (by decide) ?_
            refine wp_iconst (v := 2) dX6_factOf_100 rfl ?_
            exact wp_iret dX6_factOf_101 rfl ⟨_, rfl, rfl, rfl, rfl, h⟩
          · skip
            by_cases hc112 : x1 = 112
            · replace h := h.2.2.2.2.2.1 hc112
              rw [hc112]
              refine wp_tableIn 96 dX6_factOf_1 (by decide) (by decide) rfl (by decide) ?_
              refine wp_iconst (v := 0) dX6_factOf_96 rfl ?_
              exact wp_iret dX6_factOf_97 rfl ⟨_, rfl, rfl, rfl, rfl, h⟩
            · skip
              by_cases hc116 : x1 = 116
              · replace h := h.2.2.2.2.2.2.1 hc116
                rw [hc116]
                refine wp_tableIn 111 dX6_factOf_1 (by decide) (by decide) rfl (by decide) ?_
                refine wp_bipush (v := 7) dX6_factOf_111 rfl ?_
                exact wp_iret dX6_factOf_113 rfl ⟨_, rfl, rfl, rfl, rfl, h⟩
              · skip
                by_cases hc118 : x1 = 118
                · replace h := h.2.2.2.2.2.2.2.1 hc118
                  rw [hc118]
                  refine wp_tableIn 102 dX6_factOf_1 (by decide) (by decide) rfl (by decide) ?_
                  refine wp_iconst (v := 3) dX6_factOf_102 rfl ?_
                  exact wp_iret dX6_factOf_103 rfl ⟨_, rfl, rfl, rfl, rfl, h⟩
                · skip
                  by_cases hc119 : x1 = 119
                  · replace h := h.2.2.2.2.2.2.2.2.1 hc119
                    rw [hc119]
                    refine wp_tableIn 114 dX6_factOf_1 (by decide) (by decide) rfl (by decide) ?_
                    refine wp_bipush (v := 8) dX6_factOf_114 rfl ?_
                    exact wp_iret dX6_factOf_116 rfl ⟨_, rfl, rfl, rfl, rfl, h⟩
                  · skip
                    replace h := h.2.2.2.2.2.2.2.2.2 hc100 hc103 hc105 hc109 hc110 hc112 hc116 hc118 hc119
                    refine wp_tableD 117 dX6_factOf_1 (fun j9 h8 h9 => ?_) (by decide) ?_
                    · rcases (show j9 = 0 ∨ j9 = 1 ∨ j9 = 2 ∨ j9 = 3 ∨ j9 = 4 ∨ j9 = 5 ∨ j9 = 6 ∨ j9 = 7 ∨ j9 = 8 ∨ j9 = 9 ∨ j9 = 10 ∨ j9 = 11 ∨ j9 = 12 ∨ j9 = 13 ∨ j9 = 14 ∨ j9 = 15 ∨ j9 = 16 ∨ j9 = 17 ∨ j9 = 18 ∨ j9 = 19 by omega) with rfl | rfl | rfl | rfl | rfl | rfl | rfl | rfl | rfl | rfl | rfl | rfl | rfl | rfl | rfl | rfl | rfl | rfl | rfl | rfl
                      · exact absurd h9 (tab_ne hc100 (by decide))
                      · exact rfl
                      · exact rfl
                      · exact absurd h9 (tab_ne hc103 (by decide))
                      · exact rfl
                      · exact absurd h9 (tab_ne hc105 (by decide))
                      · exact rfl
                      · exact rfl
                      · exact rfl
                      · exact absurd h9 (tab_ne hc109 (by decide))
                      · exact absurd h9 (tab_ne hc110 (by decide))
                      · exact rfl
                      · exact absurd h9 (tab_ne hc112 (by decide))
                      · exact rfl
                      · exact rfl
                      · exact rfl
                      · exact absurd h9 (tab_ne hc116 (by decide))
                      · exact rfl
                      · exact absurd h9 (tab_ne hc118 (by decide))
                      · exact absurd h9 (tab_ne hc119 (by decide))
                    refine wp_iconst (v := (-1)) dX6_factOf_117 rfl ?_
                    exact wp_iret dX6_factOf_118 rfl ⟨_, rfl, rfl, rfl, rfl, h⟩
theorem n6_factOf {E : eT} {Q : Int32 → vT → Prop} {V : vT} {x1 : Int32} (h : w6_factOf E Q 0 [some (vi x1)] [] V) : c6_factOf E x1 V Q := MOk.enter [some (vi x1)] pn_6 rfl rfl (Nat.le_of_ble_eq_true rfl) rfl h
theorem b6_sumSign_0 {E : eT} {Q : Int32 → vT → Prop} {V : vT} {x1 : Int32} (hT : TW E) (h : (¬ x1 = 43 → (¬ x1 = 45 → (¬ x1 = 42 → (¬ x1 = 47 → (¬ x1 = 37 → Q (-1) V) ∧ (x1 = 37 → Q 6 V)) ∧ (x1 = 47 → Q 5 V)) ∧ (x1 = 42 → Q 4 V)) ∧ (x1 = 45 → Q 3 V)) ∧ (x1 = 43 → Q 2 V)) : w6_sumSign E Q 0 [some (vi x1)] [] V := by
  refine wp_iload_n dX6_sumSign_0 rfl ?_
  refine wp_bipush (v := 43) dX6_sumSign_1 rfl ?_
  refine wp_icmp_ne 10 dX6_sumSign_3 (by decide) (fun hc => ?_) (fun hc => ?_)
  · replace h := h.1 hc
    refine wp_iload_n dX6_sumSign_10 rfl ?_
    refine wp_bipush (v := 45) dX6_sumSign_11 rfl ?_
    refine wp_icmp_ne 20 dX6_sumSign_13 (by decide) (fun hc => ?_) (fun hc => ?_)
    · replace h := h.1 hc
      refine wp_iload_n dX6_sumSign_20 rfl ?_
      refine wp_bipush (v := 42) dX6_sumSign_21 rfl ?_
      refine wp_icmp_ne 30 dX6_sumSign_23 (by decide) (fun hc => ?_) (fun hc => ?_)
      · replace h := h.1 hc
        refine wp_iload_n dX6_sumSign_30 rfl ?_
        refine wp_bipush (v := 47) dX6_sumSign_31 rfl ?_
        refine wp_icmp_ne 40 dX6_sumSign_33 (by decide) (fun hc => ?_) (fun hc => ?_)
        · replace h := h.1 hc
          refine wp_iload_n dX6_sumSign_40 rfl ?_
          refine wp_bipush (v := 37) dX6_sumSign_41 rfl ?_
          refine wp_icmp_ne 51 dX6_sumSign_43 (by decide) (fun hc => ?_) (fun hc => ?_)
          · replace h := h.1 hc
            refine wp_iconst (v := (-1)) dX6_sumSign_51 rfl ?_
            exact wp_iret dX6_sumSign_52 rfl ⟨_, rfl, rfl, rfl, rfl, h⟩
          · replace h := h.2 hc
            refine wp_bipush (v := 6) dX6_sumSign_46 rfl ?_
            refine wp_goto 52 dX6_sumSign_48 (by decide) ?_
            exact wp_iret dX6_sumSign_52 rfl ⟨_, rfl, rfl, rfl, rfl, h⟩
        · replace h := h.2 hc
          refine wp_iconst (v := 5) dX6_sumSign_36 rfl ?_
          refine wp_goto 52 dX6_sumSign_37 (by decide) ?_
          exact wp_iret dX6_sumSign_52 rfl ⟨_, rfl, rfl, rfl, rfl, h⟩
      · replace h := h.2 hc
        refine wp_iconst (v := 4) dX6_sumSign_26 rfl ?_
        refine wp_goto 52 dX6_sumSign_27 (by decide) ?_
        exact wp_iret dX6_sumSign_52 rfl ⟨_, rfl, rfl, rfl, rfl, h⟩
    · replace h := h.2 hc
      refine wp_iconst (v := 3) dX6_sumSign_16 rfl ?_
      refine wp_goto 52 dX6_sumSign_17 (by decide) ?_
      exact wp_iret dX6_sumSign_52 rfl ⟨_, rfl, rfl, rfl, rfl, h⟩
  · replace h := h.2 hc
    refine wp_iconst (v := 2) dX6_sumSign_6 rfl ?_
    refine wp_goto 52 dX6_sumSign_7 (by decide) ?_
    exact wp_iret dX6_sumSign_52 rfl ⟨_, rfl, rfl, rfl, rfl, h⟩
theorem n6_sumSign {E : eT} {Q : Int32 → vT → Prop} {V : vT} {x1 : Int32} (h : w6_sumSign E Q 0 [some (vi x1)] [] V) : c6_sumSign E x1 V Q := MOk.enter [some (vi x1)] pn_6 rfl rfl (Nat.le_of_ble_eq_true rfl) rfl h
theorem b6_closesSums_0 {E : eT} {Q : vT → Prop} {V : vT} {x1 : Int32} (hT : TW E) (h : c6_waitTop E V (fun r1 V1 => (r1 < 4 → (x1 = 0 → Q V1) ∧ (¬ x1 = 0 → c6_waitTop E V1 (fun r22 V22 => (r22 = 2 → c6_waitTop E V22 (fun r39 V39 => c6_notes E r39 0 V39 (fun V43 => w6_closesSums E Q 0 [some (vr 214), some (vi x1)] [] (up2 V43 214 13 ((V43 214 13) - 1))))) ∧ (¬ r22 = 2 → c6_waitTop E V22 (fun r30 V30 => (¬ r30 = 3 → Q V30) ∧ (r30 = 3 → c6_waitTop E V30 (fun r39' V39' => c6_notes E r39' 0 V39' (fun V43' => w6_closesSums E Q 0 [some (vr 214), some (vi x1)] [] (up2 V43' 214 13 ((V43' 214 13) - 1)))))))))) ∧ (4 ≤ r1 → c6_waitTop E V1 (fun r9 V9 => (r9 ≤ 6 → c6_waitTop E V9 (fun r39'' V39'' => c6_notes E r39'' 0 V39'' (fun V43'' => w6_closesSums E Q 0 [some (vr 214), some (vi x1)] [] (up2 V43'' 214 13 ((V43'' 214 13) - 1))))) ∧ (6 < r9 → (x1 = 0 → Q V9) ∧ (¬ x1 = 0 → c6_waitTop E V9 (fun r22' V22' => (r22' = 2 → c6_waitTop E V22' (fun r39''' V39''' => c6_notes E r39''' 0 V39''' (fun V43''' => w6_closesSums E Q 0 [some (vr 214), some (vi x1)] [] (up2 V43''' 214 13 ((V43''' 214 13) - 1))))) ∧ (¬ r22' = 2 → c6_waitTop E V22' (fun r30' V30' => (¬ r30' = 3 → Q V30') ∧ (r30' = 3 → c6_waitTop E V30' (fun r39'''' V39'''' => c6_notes E r39'''' 0 V39'''' (fun V43'''' => w6_closesSums E Q 0 [some (vr 214), some (vi x1)] [] (up2 V43'''' 214 13 ((V43'''' 214 13) - 1)))))))))))))) : w6_closesSums E Q 0 [some (vr 214), some (vi x1)] [] V := by
  refine wp_aload_n dX6_closesSums_0 rfl ?_
  refine wq_VI0 lk6_158 rfl (tb_214 hT) (tk_214 hT) dX6_closesSums_1 h (rmQ_ok (by decide) (by decide)) ⟨Nat.le_refl _, Nat.le_refl _⟩ (Nat.le_of_ble_eq_true rfl) (fun r1 V1 h => ?_)
  refine wp_iconst (v := 4) dX6_closesSums_4 rfl ?_
  refine wp_icmp_lt 17 dX6_closesSums_5 (by decide) (fun hc => ?_) (fun hc => ?_)
  · replace h := h.1 hc
    refine wp_iload_n dX6_closesSums_17 rfl ?_
    refine wp_if_eq 59 dX6_closesSums_18 (by decide) (fun hc => ?_) (fun hc => ?_)
    · replace h := h.1 hc
      exact wp_vret dX6_closesSums_59 ⟨rfl, rfl, rfl, rfl, h⟩
    · replace h := h.2 hc
      refine wp_aload_n dX6_closesSums_21 rfl ?_
      refine wq_VI0 lk6_158 rfl (tb_214 hT) (tk_214 hT) dX6_closesSums_22 h (rmQ_ok (by decide) (by decide)) ⟨Nat.le_refl _, Nat.le_refl _⟩ (Nat.le_of_ble_eq_true rfl) (fun r22 V22 h => ?_)
      refine wp_iconst (v := 2) dX6_closesSums_25 rfl ?_
      refine wp_icmp_eq 37 dX6_closesSums_26 (by decide) (fun hc => ?_) (fun hc => ?_)
      · replace h := h.1 hc
        refine wp_aload_n dX6_closesSums_37 rfl ?_
        refine wp_aload_n dX6_closesSums_38 rfl ?_
        refine wq_VI0 lk6_158 rfl (tb_214 hT) (tk_214 hT) dX6_closesSums_39 h (rmQ_ok (by decide) (by decide)) ⟨Nat.le_refl _, Nat.le_refl _⟩ (Nat.le_of_ble_eq_true rfl) (fun r39 V39 h => ?_)
        refine wp_iconst (v := 0) dX6_closesSums_42 rfl ?_
        refine wq_VV2 lk6_161 rfl (tb_214 hT) (tk_214 hT) dX6_closesSums_43 h (rmQ_ok (by decide) (by decide)) ⟨Nat.le_refl _, Nat.le_refl _⟩ (Nat.le_of_ble_eq_true rfl) (fun V43 h => ?_)
        refine wp_aload_n dX6_closesSums_46 rfl ?_
        refine wp_aload_n dX6_closesSums_47 rfl ?_
        refine wp_geti dX6_closesSums_48 fk6_155 (tb_214 hT) (tk_214 hT) rfl ?_
        refine wp_iconst (v := 1) dX6_closesSums_51 rfl ?_
        refine wp_isub dX6_closesSums_52 ?_
        refine wp_puti dX6_closesSums_53 fp6_155 (tb_214 hT) (tk_214 hT) rfl ?_
        refine wp_goto 0 dX6_closesSums_56 (by decide) ?_
        exact h
      · replace h := h.2 hc
        refine wp_aload_n dX6_closesSums_29 rfl ?_
        refine wq_VI0 lk6_158 rfl (tb_214 hT) (tk_214 hT) dX6_closesSums_30 h (rmQ_ok (by decide) (by decide)) ⟨Nat.le_refl _, Nat.le_refl _⟩ (Nat.le_of_ble_eq_true rfl) (fun r30 V30 h => ?_)
        refine wp_iconst (v := 3) dX6_closesSums_33 rfl ?_
        refine wp_icmp_ne 59 dX6_closesSums_34 (by decide) (fun hc => ?_) (fun hc => ?_)
        · replace h := h.1 hc
          exact wp_vret dX6_closesSums_59 ⟨rfl, rfl, rfl, rfl, h⟩
        · replace h := h.2 hc
          refine wp_aload_n dX6_closesSums_37 rfl ?_
          refine wp_aload_n dX6_closesSums_38 rfl ?_
          refine wq_VI0 lk6_158 rfl (tb_214 hT) (tk_214 hT) dX6_closesSums_39 h (rmQ_ok (by decide) (by decide)) ⟨Nat.le_refl _, Nat.le_refl _⟩ (Nat.le_of_ble_eq_true rfl) (fun r39' V39' h => ?_)
          refine wp_iconst (v := 0) dX6_closesSums_42 rfl ?_
          refine wq_VV2 lk6_161 rfl (tb_214 hT) (tk_214 hT) dX6_closesSums_43 h (rmQ_ok (by decide) (by decide)) ⟨Nat.le_refl _, Nat.le_refl _⟩ (Nat.le_of_ble_eq_true rfl) (fun V43' h => ?_)
          refine wp_aload_n dX6_closesSums_46 rfl ?_
          refine wp_aload_n dX6_closesSums_47 rfl ?_
          refine wp_geti dX6_closesSums_48 fk6_155 (tb_214 hT) (tk_214 hT) rfl ?_
          refine wp_iconst (v := 1) dX6_closesSums_51 rfl ?_
          refine wp_isub dX6_closesSums_52 ?_
          refine wp_puti dX6_closesSums_53 fp6_155 (tb_214 hT) (tk_214 hT) rfl ?_
          refine wp_goto 0 dX6_closesSums_56 (by decide) ?_
          exact h
  · replace h := h.2 (Int32.not_lt.mp hc)
    refine wp_aload_n dX6_closesSums_8 rfl ?_
    refine wq_VI0 lk6_158 rfl (tb_214 hT) (tk_214 hT) dX6_closesSums_9 h (rmQ_ok (by decide) (by decide)) ⟨Nat.le_refl _, Nat.le_refl _⟩ (Nat.le_of_ble_eq_true rfl) (fun r9 V9 h => ?_)
    refine wp_bipush (v := 6) dX6_closesSums_12 rfl ?_
    refine wp_icmp_le 37 dX6_closesSums_14 (by decide) (fun hc => ?_) (fun hc => ?_)
    · replace h := h.1 hc
      refine wp_aload_n dX6_closesSums_37 rfl ?_
      refine wp_aload_n dX6_closesSums_38 rfl ?_
      refine wq_VI0 lk6_158 rfl (tb_214 hT) (tk_214 hT) dX6_closesSums_39 h (rmQ_ok (by decide) (by decide)) ⟨Nat.le_refl _, Nat.le_refl _⟩ (Nat.le_of_ble_eq_true rfl) (fun r39'' V39'' h => ?_)
      refine wp_iconst (v := 0) dX6_closesSums_42 rfl ?_
      refine wq_VV2 lk6_161 rfl (tb_214 hT) (tk_214 hT) dX6_closesSums_43 h (rmQ_ok (by decide) (by decide)) ⟨Nat.le_refl _, Nat.le_refl _⟩ (Nat.le_of_ble_eq_true rfl) (fun V43'' h => ?_)
      refine wp_aload_n dX6_closesSums_46 rfl ?_
      refine wp_aload_n dX6_closesSums_47 rfl ?_
      refine wp_geti dX6_closesSums_48 fk6_155 (tb_214 hT) (tk_214 hT) rfl ?_
      refine wp_iconst (v := 1) dX6_closesSums_51 rfl ?_
      refine wp_isub dX6_closesSums_52 ?_
      refine wp_puti dX6_closesSums_53 fp6_155 (tb_214 hT) (tk_214 hT) rfl ?_
      refine wp_goto 0 dX6_closesSums_56 (by decide) ?_
      exact h
    · replace h := h.2 (Int32.not_le.mp hc)
      refine wp_iload_n dX6_closesSums_17 rfl ?_
      refine wp_if_eq 59 dX6_closesSums_18 (by decide) (fun hc => ?_) (fun hc => ?_)
      · replace h := h.1 hc
        exact wp_vret dX6_closesSums_59 ⟨rfl, rfl, rfl, rfl, h⟩
      · replace h := h.2 hc
        refine wp_aload_n dX6_closesSums_21 rfl ?_
        refine wq_VI0 lk6_158 rfl (tb_214 hT) (tk_214 hT) dX6_closesSums_22 h (rmQ_ok (by decide) (by decide)) ⟨Nat.le_refl _, Nat.le_refl _⟩ (Nat.le_of_ble_eq_true rfl) (fun r22' V22' h => ?_)
        refine wp_iconst (v := 2) dX6_closesSums_25 rfl ?_
        refine wp_icmp_eq 37 dX6_closesSums_26 (by decide) (fun hc => ?_) (fun hc => ?_)
        · replace h := h.1 hc
          refine wp_aload_n dX6_closesSums_37 rfl ?_
          refine wp_aload_n dX6_closesSums_38 rfl ?_
          refine wq_VI0 lk6_158 rfl (tb_214 hT) (tk_214 hT) dX6_closesSums_39 h (rmQ_ok (by decide) (by decide)) ⟨Nat.le_refl _, Nat.le_refl _⟩ (Nat.le_of_ble_eq_true rfl) (fun r39''' V39''' h => ?_)
          refine wp_iconst (v := 0) dX6_closesSums_42 rfl ?_
          refine wq_VV2 lk6_161 rfl (tb_214 hT) (tk_214 hT) dX6_closesSums_43 h (rmQ_ok (by decide) (by decide)) ⟨Nat.le_refl _, Nat.le_refl _⟩ (Nat.le_of_ble_eq_true rfl) (fun V43''' h => ?_)
          refine wp_aload_n dX6_closesSums_46 rfl ?_
          refine wp_aload_n dX6_closesSums_47 rfl ?_
          refine wp_geti dX6_closesSums_48 fk6_155 (tb_214 hT) (tk_214 hT) rfl ?_
          refine wp_iconst (v := 1) dX6_closesSums_51 rfl ?_
          refine wp_isub dX6_closesSums_52 ?_
          refine wp_puti dX6_closesSums_53 fp6_155 (tb_214 hT) (tk_214 hT) rfl ?_
          refine wp_goto 0 dX6_closesSums_56 (by decide) ?_
          exact h
        · replace h := h.2 hc
          refine wp_aload_n dX6_closesSums_29 rfl ?_
          refine wq_VI0 lk6_158 rfl (tb_214 hT) (tk_214 hT) dX6_closesSums_30 h (rmQ_ok (by decide) (by decide)) ⟨Nat.le_refl _, Nat.le_refl _⟩ (Nat.le_of_ble_eq_true rfl) (fun r30' V30' h => ?_)
          refine wp_iconst (v := 3) dX6_closesSums_33 rfl ?_
          refine wp_icmp_ne 59 dX6_closesSums_34 (by decide) (fun hc => ?_) (fun hc => ?_)
          · replace h := h.1 hc
            exact wp_vret dX6_closesSums_59 ⟨rfl, rfl, rfl, rfl, h⟩
          · replace h := h.2 hc
            refine wp_aload_n dX6_closesSums_37 rfl ?_
            refine wp_aload_n dX6_closesSums_38 rfl ?_
            refine wq_VI0 lk6_158 rfl (tb_214 hT) (tk_214 hT) dX6_closesSums_39 h (rmQ_ok (by decide) (by decide)) ⟨Nat.le_refl _, Nat.le_refl _⟩ (Nat.le_of_ble_eq_true rfl) (fun r39'''' V39'''' h => ?_)
            refine wp_iconst (v := 0) dX6_closesSums_42 rfl ?_
            refine wq_VV2 lk6_161 rfl (tb_214 hT) (tk_214 hT) dX6_closesSums_43 h (rmQ_ok (by decide) (by decide)) ⟨Nat.le_refl _, Nat.le_refl _⟩ (Nat.le_of_ble_eq_true rfl) (fun V43'''' h => ?_)
            refine wp_aload_n dX6_closesSums_46 rfl ?_
            refine wp_aload_n dX6_closesSums_47 rfl ?_
            refine wp_geti dX6_closesSums_48 fk6_155 (tb_214 hT) (tk_214 hT) rfl ?_
            refine wp_iconst (v := 1) dX6_closesSums_51 rfl ?_
            refine wp_isub dX6_closesSums_52 ?_
            refine wp_puti dX6_closesSums_53 fp6_155 (tb_214 hT) (tk_214 hT) rfl ?_
            refine wp_goto 0 dX6_closesSums_56 (by decide) ?_
            exact h
theorem n6_closesSums {E : eT} {Q : vT → Prop} {V : vT} {x1 : Int32} (h : w6_closesSums E Q 0 [some (vr 214), some (vi x1)] [] V) : c6_closesSums E x1 V Q := MOk.enter [some (vr 214), some (vi x1)] pn_6 rfl rfl (Nat.le_of_ble_eq_true rfl) rfl h
theorem b6_waitTop_0 {E : eT} {Q : Int32 → vT → Prop} {V : vT} (hT : TW E) (h : (¬ (V 214 13) = 0 → vp_in ((V 214 13) - 1) 260 ∧ (Q ((V 222 (((V 214 13) - 1).toNatClampNeg)) / 1048576) V)) ∧ ((V 214 13) = 0 → Q (-1) V)) : w6_waitTop E Q 0 [some (vr 214)] [] V := by
  refine wp_aload_n dX6_waitTop_0 rfl ?_
  refine wp_geti dX6_waitTop_1 fk6_155 (tb_214 hT) (tk_214 hT) rfl ?_
  refine wp_if_ne 11 dX6_waitTop_4 (by decide) (fun hc => ?_) (fun hc => ?_)
  · replace h := h.1 hc
    refine wp_aload_n dX6_waitTop_11 rfl ?_
    refine wp_getrs dX6_waitTop_12 fk6_32 (tb_214 hT) (tk_214 hT) rfl (tr_17 hT) ?_
    refine wp_aload_n dX6_waitTop_15 rfl ?_
    refine wp_geti dX6_waitTop_16 fk6_155 (tb_214 hT) (tk_214 hT) rfl ?_
    refine wp_iconst (v := 1) dX6_waitTop_19 rfl ?_
    refine wp_isub dX6_waitTop_20 ?_
    refine wp_iald dX6_waitTop_21 (tb_222 hT).2 (tk_222 hT) h.1 ?_
    replace h := h.2
    refine wp_ldc (v := 1048576) dX6_waitTop_22 q1366 ?_
    refine wp_idiv dX6_waitTop_24 (by decide) ?_
    exact wp_iret dX6_waitTop_25 rfl ⟨_, rfl, rfl, rfl, rfl, h⟩
  · replace h := h.2 hc
    refine wp_iconst (v := (-1)) dX6_waitTop_7 rfl ?_
    refine wp_goto 25 dX6_waitTop_8 (by decide) ?_
    exact wp_iret dX6_waitTop_25 rfl ⟨_, rfl, rfl, rfl, rfl, h⟩
theorem n6_waitTop {E : eT} {Q : Int32 → vT → Prop} {V : vT} (h : w6_waitTop E Q 0 [some (vr 214)] [] V) : c6_waitTop E V Q := MOk.enter [some (vr 214)] pn_6 rfl rfl (Nat.le_of_ble_eq_true rfl) rfl h
theorem b6_hasOpenSum_0 {E : eT} {Q : Int32 → vT → Prop} {V : vT} {x1 : Int32} (hT : TW E) (h : w6_hasOpenSum E Q 2 [some (vr 214), none, some (vi x1)] [] V) : w6_hasOpenSum E Q 0 [some (vr 214), some (vi x1), none] [] V := by
  refine wp_iload_n dX6_hasOpenSum_0 rfl ?_
  refine wi3_2 dX6_hasOpenSum_1 ?_
  exact wp_drop [some (vr 214), none, some (vi x1)] ⟨rfl, ⟨rfl, trivial⟩⟩ h
theorem b6_hasOpenSum_2 {E : eT} {Q : Int32 → vT → Prop} {V : vT} {x2 : Int32} (hT : TW E) (h : ((V 214 13) ≤ x2 → Q 0 V) ∧ (x2 < (V 214 13) → vp_in x2 260 ∧ ((¬ ((V 222 ((x2).toNatClampNeg)) / 1048576) = 14 → w6_hasOpenSum E Q 2 [some (vr 214), none, some (vi (x2 + 1))] [] V) ∧ (((V 222 ((x2).toNatClampNeg)) / 1048576) = 14 → Q 1 V)))) : w6_hasOpenSum E Q 2 [some (vr 214), none, some (vi x2)] [] V := by
  refine wp_iload_n dX6_hasOpenSum_2 rfl ?_
  refine wp_aload_n dX6_hasOpenSum_3 rfl ?_
  refine wp_geti dX6_hasOpenSum_4 fk6_155 (tb_214 hT) (tk_214 hT) rfl ?_
  refine wp_icmp_ge 32 dX6_hasOpenSum_7 (by decide) (fun hc => ?_) (fun hc => ?_)
  · replace h := h.1 hc
    refine wp_iconst (v := 0) dX6_hasOpenSum_32 rfl ?_
    exact wp_iret dX6_hasOpenSum_33 rfl ⟨_, rfl, rfl, rfl, rfl, h⟩
  · replace h := h.2 (Int32.not_le.mp hc)
    refine wp_aload_n dX6_hasOpenSum_10 rfl ?_
    refine wp_getrs dX6_hasOpenSum_11 fk6_32 (tb_214 hT) (tk_214 hT) rfl (tr_17 hT) ?_
    refine wp_iload_n dX6_hasOpenSum_14 rfl ?_
    refine wp_iald dX6_hasOpenSum_15 (tb_222 hT).2 (tk_222 hT) h.1 ?_
    replace h := h.2
    refine wp_ldc (v := 1048576) dX6_hasOpenSum_16 q1366 ?_
    refine wp_idiv dX6_hasOpenSum_18 (by decide) ?_
    refine wp_bipush (v := 14) dX6_hasOpenSum_19 rfl ?_
    refine wp_icmp_ne 26 dX6_hasOpenSum_21 (by decide) (fun hc => ?_) (fun hc => ?_)
    · replace h := h.1 hc
      refine wc3_2 1 dX6_hasOpenSum_26 rfl ?_
      refine wp_goto 2 dX6_hasOpenSum_29 (by decide) ?_
      exact h
    · replace h := h.2 hc
      refine wp_iconst (v := 1) dX6_hasOpenSum_24 rfl ?_
      exact wp_iret dX6_hasOpenSum_25 rfl ⟨_, rfl, rfl, rfl, rfl, h⟩
theorem n6_hasOpenSum {E : eT} {Q : Int32 → vT → Prop} {V : vT} {x1 : Int32} (h : w6_hasOpenSum E Q 0 [some (vr 214), some (vi x1), none] [] V) : c6_hasOpenSum E x1 V Q := MOk.enter [some (vr 214), some (vi x1), none] pn_6 rfl rfl (Nat.le_of_ble_eq_true rfl) rfl h
theorem b6_readsCondition_0 {E : eT} {Q : Int32 → vT → Prop} {V : vT} (hT : TW E) (h : c6_here E V (fun r1 V1 => (r1 = 40 → c6_opens E 13 (up2 (up2 V1 214 11 0) 214 13 0) (fun r32 V32 => (¬ r32 = 0 → w6_readsCondition E Q 40 [some (vr 214)] [] V32) ∧ (r32 = 0 → Q 0 V32))) ∧ (¬ r1 = 40 → c6_wrongAt E 1 (V1 214 7) V1 (fun r15 V15 => (r15 = 0 ∨ r15 = 1) ∧ Q r15 V15)))) : w6_readsCondition E Q 0 [some (vr 214)] [] V := by
  refine wp_aload_n dX6_readsCondition_0 rfl ?_
  refine wq_VI0 lk6_131 rfl (tb_214 hT) (tk_214 hT) dX6_readsCondition_1 h (rmQ_ok (by decide) (by decide)) ⟨Nat.le_refl _, Nat.le_refl _⟩ (Nat.le_of_ble_eq_true rfl) (fun r1 V1 h => ?_)
  refine wp_bipush (v := 40) dX6_readsCondition_4 rfl ?_
  refine wp_icmp_eq 19 dX6_readsCondition_6 (by decide) (fun hc => ?_) (fun hc => ?_)
  · replace h := h.1 hc
    refine wp_aload_n dX6_readsCondition_19 rfl ?_
    refine wp_iconst (v := 0) dX6_readsCondition_20 rfl ?_
    refine wp_puti dX6_readsCondition_21 fp6_152 (tb_214 hT) (tk_214 hT) rfl ?_
    refine wp_aload_n dX6_readsCondition_24 rfl ?_
    refine wp_iconst (v := 0) dX6_readsCondition_25 rfl ?_
    refine wp_puti dX6_readsCondition_26 fp6_155 (tb_214 hT) (tk_214 hT) rfl ?_
    refine wp_aload_n dX6_readsCondition_29 rfl ?_
    refine wp_bipush (v := 13) dX6_readsCondition_30 rfl ?_
    refine wq_VI1 lk6_165 rfl (tb_214 hT) (tk_214 hT) dX6_readsCondition_32 h (rmQ_ok (by decide) (by decide)) ⟨Nat.le_refl _, Nat.le_refl _⟩ (Nat.le_of_ble_eq_true rfl) (fun r32 V32 h => ?_)
    refine wp_if_ne 40 dX6_readsCondition_35 (by decide) (fun hc => ?_) (fun hc => ?_)
    · replace h := h.1 hc
      exact h
    · replace h := h.2 hc
      refine wp_iconst (v := 0) dX6_readsCondition_38 rfl ?_
      exact wp_iret dX6_readsCondition_39 rfl ⟨_, rfl, rfl, rfl, rfl, h⟩
  · replace h := h.2 hc
    refine wp_aload_n dX6_readsCondition_9 rfl ?_
    refine wp_iconst (v := 1) dX6_readsCondition_10 rfl ?_
    refine wp_aload_n dX6_readsCondition_11 rfl ?_
    refine wp_geti dX6_readsCondition_12 fk6_125 (tb_214 hT) (tk_214 hT) rfl ?_
    refine wq_VI2 lk6_138 rfl (tb_214 hT) (tk_214 hT) dX6_readsCondition_15 h (rmQ_ok (by decide) (by decide)) ⟨Nat.le_refl _, Nat.le_refl _⟩ (Nat.le_of_ble_eq_true rfl) (fun r15 V15 h => ?_)
    exact wp_iret dX6_readsCondition_18 (by rcases h.1 with q9 | q9 <;> rw [q9] <;> rfl) ⟨_, rfl, rfl, rfl, rfl, h.2⟩
theorem b6_readsCondition_40 {E : eT} {Q : Int32 → vT → Prop} {V : vT} (hT : TW E) (h : c6_here E V (fun r41 V41 => (r41 = 33 → c6_here E V41 (fun r60 V60 => (¬ r60 = 33 → c6_opens E 13 V60 (fun r75 V75 => (¬ r75 = 0 → w6_readsCondition E Q 40 [some (vr 214)] [] V75) ∧ (r75 = 0 → Q 0 V75))) ∧ (r60 = 33 → c6_opens E 10 V60 (fun r75' V75' => (¬ r75' = 0 → w6_readsCondition E Q 40 [some (vr 214)] [] V75') ∧ (r75' = 0 → Q 0 V75'))))) ∧ (¬ r41 = 33 → c6_here E V41 (fun r50 V50 => (¬ r50 = 40 → c6_readsCompared E V50 (fun r84 V84 => (¬ r84 = 0 → w6_readsCondition E Q 92 [some (vr 214)] [] V84) ∧ (r84 = 0 → Q 0 V84))) ∧ (r50 = 40 → c6_here E V50 (fun r60' V60' => (¬ r60' = 33 → c6_opens E 13 V60' (fun r75'' V75'' => (¬ r75'' = 0 → w6_readsCondition E Q 40 [some (vr 214)] [] V75'') ∧ (r75'' = 0 → Q 0 V75''))) ∧ (r60' = 33 → c6_opens E 10 V60' (fun r75''' V75''' => (¬ r75''' = 0 → w6_readsCondition E Q 40 [some (vr 214)] [] V75''') ∧ (r75''' = 0 → Q 0 V75'''))))))))) : w6_readsCondition E Q 40 [some (vr 214)] [] V := by
  refine wp_aload_n dX6_readsCondition_40 rfl ?_
  refine wq_VI0 lk6_131 rfl (tb_214 hT) (tk_214 hT) dX6_readsCondition_41 h (rmQ_ok (by decide) (by decide)) ⟨Nat.le_refl _, Nat.le_refl _⟩ (Nat.le_of_ble_eq_true rfl) (fun r41 V41 h => ?_)
  refine wp_bipush (v := 33) dX6_readsCondition_44 rfl ?_
  refine wp_icmp_eq 58 dX6_readsCondition_46 (by decide) (fun hc => ?_) (fun hc => ?_)
  · replace h := h.1 hc
    refine wp_aload_n dX6_readsCondition_58 rfl ?_
    refine wp_aload_n dX6_readsCondition_59 rfl ?_
    refine wq_VI0 lk6_131 rfl (tb_214 hT) (tk_214 hT) dX6_readsCondition_60 h (rmQ_ok (by decide) (by decide)) ⟨Nat.le_refl _, Nat.le_refl _⟩ (Nat.le_of_ble_eq_true rfl) (fun r60 V60 h => ?_)
    refine wp_bipush (v := 33) dX6_readsCondition_63 rfl ?_
    refine wp_icmp_ne 73 dX6_readsCondition_65 (by decide) (fun hc => ?_) (fun hc => ?_)
    · replace h := h.1 hc
      refine wp_bipush (v := 13) dX6_readsCondition_73 rfl ?_
      refine wq_VI1 lk6_165 rfl (tb_214 hT) (tk_214 hT) dX6_readsCondition_75 h (rmQ_ok (by decide) (by decide)) ⟨Nat.le_refl _, Nat.le_refl _⟩ (Nat.le_of_ble_eq_true rfl) (fun r75 V75 h => ?_)
      refine wp_if_ne 40 dX6_readsCondition_78 (by decide) (fun hc => ?_) (fun hc => ?_)
      · replace h := h.1 hc
        exact h
      · replace h := h.2 hc
        refine wp_iconst (v := 0) dX6_readsCondition_81 rfl ?_
        exact wp_iret dX6_readsCondition_82 rfl ⟨_, rfl, rfl, rfl, rfl, h⟩
    · replace h := h.2 hc
      refine wp_bipush (v := 10) dX6_readsCondition_68 rfl ?_
      refine wp_goto 75 dX6_readsCondition_70 (by decide) ?_
      refine wq_VI1 lk6_165 rfl (tb_214 hT) (tk_214 hT) dX6_readsCondition_75 h (rmQ_ok (by decide) (by decide)) ⟨Nat.le_refl _, Nat.le_refl _⟩ (Nat.le_of_ble_eq_true rfl) (fun r75' V75' h => ?_)
      refine wp_if_ne 40 dX6_readsCondition_78 (by decide) (fun hc => ?_) (fun hc => ?_)
      · replace h := h.1 hc
        exact h
      · replace h := h.2 hc
        refine wp_iconst (v := 0) dX6_readsCondition_81 rfl ?_
        exact wp_iret dX6_readsCondition_82 rfl ⟨_, rfl, rfl, rfl, rfl, h⟩
  · replace h := h.2 hc
    refine wp_aload_n dX6_readsCondition_49 rfl ?_
    refine wq_VI0 lk6_131 rfl (tb_214 hT) (tk_214 hT) dX6_readsCondition_50 h (rmQ_ok (by decide) (by decide)) ⟨Nat.le_refl _, Nat.le_refl _⟩ (Nat.le_of_ble_eq_true rfl) (fun r50 V50 h => ?_)
    refine wp_bipush (v := 40) dX6_readsCondition_53 rfl ?_
    refine wp_icmp_ne 83 dX6_readsCondition_55 (by decide) (fun hc => ?_) (fun hc => ?_)
    · replace h := h.1 hc
      refine wp_aload_n dX6_readsCondition_83 rfl ?_
      refine wq_VI0 lk6_194 rfl (tb_214 hT) (tk_214 hT) dX6_readsCondition_84 h (rmQ_ok (by decide) (by decide)) ⟨Nat.le_refl _, Nat.le_refl _⟩ (Nat.le_of_ble_eq_true rfl) (fun r84 V84 h => ?_)
      refine wp_if_ne 92 dX6_readsCondition_87 (by decide) (fun hc => ?_) (fun hc => ?_)
      · replace h := h.1 hc
        exact h
      · replace h := h.2 hc
        refine wp_iconst (v := 0) dX6_readsCondition_90 rfl ?_
        exact wp_iret dX6_readsCondition_91 rfl ⟨_, rfl, rfl, rfl, rfl, h⟩
    · replace h := h.2 hc
      refine wp_aload_n dX6_readsCondition_58 rfl ?_
      refine wp_aload_n dX6_readsCondition_59 rfl ?_
      refine wq_VI0 lk6_131 rfl (tb_214 hT) (tk_214 hT) dX6_readsCondition_60 h (rmQ_ok (by decide) (by decide)) ⟨Nat.le_refl _, Nat.le_refl _⟩ (Nat.le_of_ble_eq_true rfl) (fun r60' V60' h => ?_)
      refine wp_bipush (v := 33) dX6_readsCondition_63 rfl ?_
      refine wp_icmp_ne 73 dX6_readsCondition_65 (by decide) (fun hc => ?_) (fun hc => ?_)
      · replace h := h.1 hc
        refine wp_bipush (v := 13) dX6_readsCondition_73 rfl ?_
        refine wq_VI1 lk6_165 rfl (tb_214 hT) (tk_214 hT) dX6_readsCondition_75 h (rmQ_ok (by decide) (by decide)) ⟨Nat.le_refl _, Nat.le_refl _⟩ (Nat.le_of_ble_eq_true rfl) (fun r75'' V75'' h => ?_)
        refine wp_if_ne 40 dX6_readsCondition_78 (by decide) (fun hc => ?_) (fun hc => ?_)
        · replace h := h.1 hc
          exact h
        · replace h := h.2 hc
          refine wp_iconst (v := 0) dX6_readsCondition_81 rfl ?_
          exact wp_iret dX6_readsCondition_82 rfl ⟨_, rfl, rfl, rfl, rfl, h⟩
      · replace h := h.2 hc
        refine wp_bipush (v := 10) dX6_readsCondition_68 rfl ?_
        refine wp_goto 75 dX6_readsCondition_70 (by decide) ?_
        refine wq_VI1 lk6_165 rfl (tb_214 hT) (tk_214 hT) dX6_readsCondition_75 h (rmQ_ok (by decide) (by decide)) ⟨Nat.le_refl _, Nat.le_refl _⟩ (Nat.le_of_ble_eq_true rfl) (fun r75''' V75''' h => ?_)
        refine wp_if_ne 40 dX6_readsCondition_78 (by decide) (fun hc => ?_) (fun hc => ?_)
        · replace h := h.1 hc
          exact h
        · replace h := h.2 hc
          refine wp_iconst (v := 0) dX6_readsCondition_81 rfl ?_
          exact wp_iret dX6_readsCondition_82 rfl ⟨_, rfl, rfl, rfl, rfl, h⟩
theorem b6_readsCondition_92 {E : eT} {Q : Int32 → vT → Prop} {V : vT} (hT : TW E) (h : c6_here E V (fun r93 V93 => (¬ r93 = 41 → c6_here E V93 (fun r153 V153 => (r153 = 38 → c6_here E V153 (fun r182 V182 => (¬ r182 = 124 → c6_lands E 0 V182 (fun V195 => c6_here E V195 (fun r200 V200 => (¬ r200 = 38 → c6_jumps E 12 V200 (fun V215 => w6_readsCondition E Q 40 [some (vr 214)] [] V215)) ∧ (r200 = 38 → c6_jumps E 11 V200 (fun V215' => w6_readsCondition E Q 40 [some (vr 214)] [] V215'))))) ∧ (r182 = 124 → c6_lands E 1 V182 (fun V195' => c6_here E V195' (fun r200' V200' => (¬ r200' = 38 → c6_jumps E 12 V200' (fun V215'' => w6_readsCondition E Q 40 [some (vr 214)] [] V215'')) ∧ (r200' = 38 → c6_jumps E 11 V200' (fun V215''' => w6_readsCondition E Q 40 [some (vr 214)] [] V215'''))))))) ∧ (¬ r153 = 38 → c6_here E V153 (fun r162 V162 => (r162 = 124 → c6_here E V162 (fun r182' V182' => (¬ r182' = 124 → c6_lands E 0 V182' (fun V195'' => c6_here E V195'' (fun r200'' V200'' => (¬ r200'' = 38 → c6_jumps E 12 V200'' (fun V215'''' => w6_readsCondition E Q 40 [some (vr 214)] [] V215'''')) ∧ (r200'' = 38 → c6_jumps E 11 V200'' (fun V215''''' => w6_readsCondition E Q 40 [some (vr 214)] [] V215'''''))))) ∧ (r182' = 124 → c6_lands E 1 V182' (fun V195''' => c6_here E V195''' (fun r200''' V200''' => (¬ r200''' = 38 → c6_jumps E 12 V200''' (fun V215'''''' => w6_readsCondition E Q 40 [some (vr 214)] [] V215'''''')) ∧ (r200''' = 38 → c6_jumps E 11 V200''' (fun V215''''''' => w6_readsCondition E Q 40 [some (vr 214)] [] V215'''''''))))))) ∧ (¬ r162 = 124 → c6_wrongAt E 1 (V162 214 7) V162 (fun r176 V176 => (r176 = 0 ∨ r176 = 1) ∧ Q r176 V176)))))) ∧ (r93 = 41 → c6_lands E 1 V93 (fun V103 => (¬ ((up2 (up2 (up2 V103 214 13 ((V103 214 13) - 1)) 214 11 (((up2 V103 214 13 ((V103 214 13) - 1)) 214 11) - 1)) 214 7 (((up2 (up2 V103 214 13 ((V103 214 13) - 1)) 214 11 (((up2 V103 214 13 ((V103 214 13) - 1)) 214 11) - 1)) 214 7) + 1)) 214 13) = 0 → c6_endsPiece E (up2 (up2 (up2 V103 214 13 ((V103 214 13) - 1)) 214 11 (((up2 V103 214 13 ((V103 214 13) - 1)) 214 11) - 1)) 214 7 (((up2 (up2 V103 214 13 ((V103 214 13) - 1)) 214 11 (((up2 V103 214 13 ((V103 214 13) - 1)) 214 11) - 1)) 214 7) + 1)) (fun V146 => w6_readsCondition E Q 92 [some (vr 214)] [] V146)) ∧ (((up2 (up2 (up2 V103 214 13 ((V103 214 13) - 1)) 214 11 (((up2 V103 214 13 ((V103 214 13) - 1)) 214 11) - 1)) 214 7 (((up2 (up2 V103 214 13 ((V103 214 13) - 1)) 214 11 (((up2 V103 214 13 ((V103 214 13) - 1)) 214 11) - 1)) 214 7) + 1)) 214 13) = 0 → Q 1 (up2 (up2 (up2 V103 214 13 ((V103 214 13) - 1)) 214 11 (((up2 V103 214 13 ((V103 214 13) - 1)) 214 11) - 1)) 214 7 (((up2 (up2 V103 214 13 ((V103 214 13) - 1)) 214 11 (((up2 V103 214 13 ((V103 214 13) - 1)) 214 11) - 1)) 214 7) + 1))))))) : w6_readsCondition E Q 92 [some (vr 214)] [] V := by
  refine wp_aload_n dX6_readsCondition_92 rfl ?_
  refine wq_VI0 lk6_131 rfl (tb_214 hT) (tk_214 hT) dX6_readsCondition_93 h (rmQ_ok (by decide) (by decide)) ⟨Nat.le_refl _, Nat.le_refl _⟩ (Nat.le_of_ble_eq_true rfl) (fun r93 V93 h => ?_)
  refine wp_bipush (v := 41) dX6_readsCondition_96 rfl ?_
  refine wp_icmp_ne 152 dX6_readsCondition_98 (by decide) (fun hc => ?_) (fun hc => ?_)
  · replace h := h.1 hc
    refine wp_aload_n dX6_readsCondition_152 rfl ?_
    refine wq_VI0 lk6_131 rfl (tb_214 hT) (tk_214 hT) dX6_readsCondition_153 h (rmQ_ok (by decide) (by decide)) ⟨Nat.le_refl _, Nat.le_refl _⟩ (Nat.le_of_ble_eq_true rfl) (fun r153 V153 h => ?_)
    refine wp_bipush (v := 38) dX6_readsCondition_156 rfl ?_
    refine wp_icmp_eq 180 dX6_readsCondition_158 (by decide) (fun hc => ?_) (fun hc => ?_)
    · replace h := h.1 hc
      refine wp_aload_n dX6_readsCondition_180 rfl ?_
      refine wp_aload_n dX6_readsCondition_181 rfl ?_
      refine wq_VI0 lk6_131 rfl (tb_214 hT) (tk_214 hT) dX6_readsCondition_182 h (rmQ_ok (by decide) (by decide)) ⟨Nat.le_refl _, Nat.le_refl _⟩ (Nat.le_of_ble_eq_true rfl) (fun r182 V182 h => ?_)
      refine wp_bipush (v := 124) dX6_readsCondition_185 rfl ?_
      refine wp_icmp_ne 194 dX6_readsCondition_187 (by decide) (fun hc => ?_) (fun hc => ?_)
      · replace h := h.1 hc
        refine wp_iconst (v := 0) dX6_readsCondition_194 rfl ?_
        refine wq_VV1 lk6_197 rfl (tb_214 hT) (tk_214 hT) dX6_readsCondition_195 h (rmQ_ok (by decide) (by decide)) ⟨Nat.le_refl _, Nat.le_refl _⟩ (Nat.le_of_ble_eq_true rfl) (fun V195 h => ?_)
        refine wp_aload_n dX6_readsCondition_198 rfl ?_
        refine wp_aload_n dX6_readsCondition_199 rfl ?_
        refine wq_VI0 lk6_131 rfl (tb_214 hT) (tk_214 hT) dX6_readsCondition_200 h (rmQ_ok (by decide) (by decide)) ⟨Nat.le_refl _, Nat.le_refl _⟩ (Nat.le_of_ble_eq_true rfl) (fun r200 V200 h => ?_)
        refine wp_bipush (v := 38) dX6_readsCondition_203 rfl ?_
        refine wp_icmp_ne 213 dX6_readsCondition_205 (by decide) (fun hc => ?_) (fun hc => ?_)
        · replace h := h.1 hc
          refine wp_bipush (v := 12) dX6_readsCondition_213 rfl ?_
          refine wq_VV1 lk6_200 rfl (tb_214 hT) (tk_214 hT) dX6_readsCondition_215 h (rmQ_ok (by decide) (by decide)) ⟨Nat.le_refl _, Nat.le_refl _⟩ (Nat.le_of_ble_eq_true rfl) (fun V215 h => ?_)
          refine wp_goto 40 dX6_readsCondition_218 (by decide) ?_
          exact h
        · replace h := h.2 hc
          refine wp_bipush (v := 11) dX6_readsCondition_208 rfl ?_
          refine wp_goto 215 dX6_readsCondition_210 (by decide) ?_
          refine wq_VV1 lk6_200 rfl (tb_214 hT) (tk_214 hT) dX6_readsCondition_215 h (rmQ_ok (by decide) (by decide)) ⟨Nat.le_refl _, Nat.le_refl _⟩ (Nat.le_of_ble_eq_true rfl) (fun V215' h => ?_)
          refine wp_goto 40 dX6_readsCondition_218 (by decide) ?_
          exact h
      · replace h := h.2 hc
        refine wp_iconst (v := 1) dX6_readsCondition_190 rfl ?_
        refine wp_goto 195 dX6_readsCondition_191 (by decide) ?_
        refine wq_VV1 lk6_197 rfl (tb_214 hT) (tk_214 hT) dX6_readsCondition_195 h (rmQ_ok (by decide) (by decide)) ⟨Nat.le_refl _, Nat.le_refl _⟩ (Nat.le_of_ble_eq_true rfl) (fun V195' h => ?_)
        refine wp_aload_n dX6_readsCondition_198 rfl ?_
        refine wp_aload_n dX6_readsCondition_199 rfl ?_
        refine wq_VI0 lk6_131 rfl (tb_214 hT) (tk_214 hT) dX6_readsCondition_200 h (rmQ_ok (by decide) (by decide)) ⟨Nat.le_refl _, Nat.le_refl _⟩ (Nat.le_of_ble_eq_true rfl) (fun r200' V200' h => ?_)
        refine wp_bipush (v := 38) dX6_readsCondition_203 rfl ?_
        refine wp_icmp_ne 213 dX6_readsCondition_205 (by decide) (fun hc => ?_) (fun hc => ?_)
        · replace h := h.1 hc
          refine wp_bipush (v := 12) dX6_readsCondition_213 rfl ?_
          refine wq_VV1 lk6_200 rfl (tb_214 hT) (tk_214 hT) dX6_readsCondition_215 h (rmQ_ok (by decide) (by decide)) ⟨Nat.le_refl _, Nat.le_refl _⟩ (Nat.le_of_ble_eq_true rfl) (fun V215'' h => ?_)
          refine wp_goto 40 dX6_readsCondition_218 (by decide) ?_
          exact h
        · replace h := h.2 hc
          refine wp_bipush (v := 11) dX6_readsCondition_208 rfl ?_
          refine wp_goto 215 dX6_readsCondition_210 (by decide) ?_
          refine wq_VV1 lk6_200 rfl (tb_214 hT) (tk_214 hT) dX6_readsCondition_215 h (rmQ_ok (by decide) (by decide)) ⟨Nat.le_refl _, Nat.le_refl _⟩ (Nat.le_of_ble_eq_true rfl) (fun V215''' h => ?_)
          refine wp_goto 40 dX6_readsCondition_218 (by decide) ?_
          exact h
    · replace h := h.2 hc
      refine wp_aload_n dX6_readsCondition_161 rfl ?_
      refine wq_VI0 lk6_131 rfl (tb_214 hT) (tk_214 hT) dX6_readsCondition_162 h (rmQ_ok (by decide) (by decide)) ⟨Nat.le_refl _, Nat.le_refl _⟩ (Nat.le_of_ble_eq_true rfl) (fun r162 V162 h => ?_)
      refine wp_bipush (v := 124) dX6_readsCondition_165 rfl ?_
      refine wp_icmp_eq 180 dX6_readsCondition_167 (by decide) (fun hc => ?_) (fun hc => ?_)
      · replace h := h.1 hc
        refine wp_aload_n dX6_readsCondition_180 rfl ?_
        refine wp_aload_n dX6_readsCondition_181 rfl ?_
        refine wq_VI0 lk6_131 rfl (tb_214 hT) (tk_214 hT) dX6_readsCondition_182 h (rmQ_ok (by decide) (by decide)) ⟨Nat.le_refl _, Nat.le_refl _⟩ (Nat.le_of_ble_eq_true rfl) (fun r182' V182' h => ?_)
        refine wp_bipush (v := 124) dX6_readsCondition_185 rfl ?_
        refine wp_icmp_ne 194 dX6_readsCondition_187 (by decide) (fun hc => ?_) (fun hc => ?_)
        · replace h := h.1 hc
          refine wp_iconst (v := 0) dX6_readsCondition_194 rfl ?_
          refine wq_VV1 lk6_197 rfl (tb_214 hT) (tk_214 hT) dX6_readsCondition_195 h (rmQ_ok (by decide) (by decide)) ⟨Nat.le_refl _, Nat.le_refl _⟩ (Nat.le_of_ble_eq_true rfl) (fun V195'' h => ?_)
          refine wp_aload_n dX6_readsCondition_198 rfl ?_
          refine wp_aload_n dX6_readsCondition_199 rfl ?_
          refine wq_VI0 lk6_131 rfl (tb_214 hT) (tk_214 hT) dX6_readsCondition_200 h (rmQ_ok (by decide) (by decide)) ⟨Nat.le_refl _, Nat.le_refl _⟩ (Nat.le_of_ble_eq_true rfl) (fun r200'' V200'' h => ?_)
          refine wp_bipush (v := 38) dX6_readsCondition_203 rfl ?_
          refine wp_icmp_ne 213 dX6_readsCondition_205 (by decide) (fun hc => ?_) (fun hc => ?_)
          · replace h := h.1 hc
            refine wp_bipush (v := 12) dX6_readsCondition_213 rfl ?_
            refine wq_VV1 lk6_200 rfl (tb_214 hT) (tk_214 hT) dX6_readsCondition_215 h (rmQ_ok (by decide) (by decide)) ⟨Nat.le_refl _, Nat.le_refl _⟩ (Nat.le_of_ble_eq_true rfl) (fun V215'''' h => ?_)
            refine wp_goto 40 dX6_readsCondition_218 (by decide) ?_
            exact h
          · replace h := h.2 hc
            refine wp_bipush (v := 11) dX6_readsCondition_208 rfl ?_
            refine wp_goto 215 dX6_readsCondition_210 (by decide) ?_
            refine wq_VV1 lk6_200 rfl (tb_214 hT) (tk_214 hT) dX6_readsCondition_215 h (rmQ_ok (by decide) (by decide)) ⟨Nat.le_refl _, Nat.le_refl _⟩ (Nat.le_of_ble_eq_true rfl) (fun V215''''' h => ?_)
            refine wp_goto 40 dX6_readsCondition_218 (by decide) ?_
            exact h
        · replace h := h.2 hc
          refine wp_iconst (v := 1) dX6_readsCondition_190 rfl ?_
          refine wp_goto 195 dX6_readsCondition_191 (by decide) ?_
          refine wq_VV1 lk6_197 rfl (tb_214 hT) (tk_214 hT) dX6_readsCondition_195 h (rmQ_ok (by decide) (by decide)) ⟨Nat.le_refl _, Nat.le_refl _⟩ (Nat.le_of_ble_eq_true rfl) (fun V195''' h => ?_)
          refine wp_aload_n dX6_readsCondition_198 rfl ?_
          refine wp_aload_n dX6_readsCondition_199 rfl ?_
          refine wq_VI0 lk6_131 rfl (tb_214 hT) (tk_214 hT) dX6_readsCondition_200 h (rmQ_ok (by decide) (by decide)) ⟨Nat.le_refl _, Nat.le_refl _⟩ (Nat.le_of_ble_eq_true rfl) (fun r200''' V200''' h => ?_)
          refine wp_bipush (v := 38) dX6_readsCondition_203 rfl ?_
          refine wp_icmp_ne 213 dX6_readsCondition_205 (by decide) (fun hc => ?_) (fun hc => ?_)
          · replace h := h.1 hc
            refine wp_bipush (v := 12) dX6_readsCondition_213 rfl ?_
            refine wq_VV1 lk6_200 rfl (tb_214 hT) (tk_214 hT) dX6_readsCondition_215 h (rmQ_ok (by decide) (by decide)) ⟨Nat.le_refl _, Nat.le_refl _⟩ (Nat.le_of_ble_eq_true rfl) (fun V215'''''' h => ?_)
            refine wp_goto 40 dX6_readsCondition_218 (by decide) ?_
            exact h
          · replace h := h.2 hc
            refine wp_bipush (v := 11) dX6_readsCondition_208 rfl ?_
            refine wp_goto 215 dX6_readsCondition_210 (by decide) ?_
            refine wq_VV1 lk6_200 rfl (tb_214 hT) (tk_214 hT) dX6_readsCondition_215 h (rmQ_ok (by decide) (by decide)) ⟨Nat.le_refl _, Nat.le_refl _⟩ (Nat.le_of_ble_eq_true rfl) (fun V215''''''' h => ?_)
            refine wp_goto 40 dX6_readsCondition_218 (by decide) ?_
            exact h
      · replace h := h.2 hc
        refine wp_aload_n dX6_readsCondition_170 rfl ?_
        refine wp_iconst (v := 1) dX6_readsCondition_171 rfl ?_
        refine wp_aload_n dX6_readsCondition_172 rfl ?_
        refine wp_geti dX6_readsCondition_173 fk6_125 (tb_214 hT) (tk_214 hT) rfl ?_
        refine wq_VI2 lk6_138 rfl (tb_214 hT) (tk_214 hT) dX6_readsCondition_176 h (rmQ_ok (by decide) (by decide)) ⟨Nat.le_refl _, Nat.le_refl _⟩ (Nat.le_of_ble_eq_true rfl) (fun r176 V176 h => ?_)
        exact wp_iret dX6_readsCondition_179 (by rcases h.1 with q9 | q9 <;> rw [q9] <;> rfl) ⟨_, rfl, rfl, rfl, rfl, h.2⟩
  · replace h := h.2 hc
    refine wp_aload_n dX6_readsCondition_101 rfl ?_
    refine wp_iconst (v := 1) dX6_readsCondition_102 rfl ?_
    refine wq_VV1 lk6_197 rfl (tb_214 hT) (tk_214 hT) dX6_readsCondition_103 h (rmQ_ok (by decide) (by decide)) ⟨Nat.le_refl _, Nat.le_refl _⟩ (Nat.le_of_ble_eq_true rfl) (fun V103 h => ?_)
    refine wp_aload_n dX6_readsCondition_106 rfl ?_
    refine wp_aload_n dX6_readsCondition_107 rfl ?_
    refine wp_geti dX6_readsCondition_108 fk6_155 (tb_214 hT) (tk_214 hT) rfl ?_
    refine wp_iconst (v := 1) dX6_readsCondition_111 rfl ?_
    refine wp_isub dX6_readsCondition_112 ?_
    refine wp_puti dX6_readsCondition_113 fp6_155 (tb_214 hT) (tk_214 hT) rfl ?_
    refine wp_aload_n dX6_readsCondition_116 rfl ?_
    refine wp_aload_n dX6_readsCondition_117 rfl ?_
    refine wp_geti dX6_readsCondition_118 fk6_152 (tb_214 hT) (tk_214 hT) rfl ?_
    refine wp_iconst (v := 1) dX6_readsCondition_121 rfl ?_
    refine wp_isub dX6_readsCondition_122 ?_
    refine wp_puti dX6_readsCondition_123 fp6_152 (tb_214 hT) (tk_214 hT) rfl ?_
    refine wp_aload_n dX6_readsCondition_126 rfl ?_
    refine wp_aload_n dX6_readsCondition_127 rfl ?_
    refine wp_geti dX6_readsCondition_128 fk6_125 (tb_214 hT) (tk_214 hT) rfl ?_
    refine wp_iconst (v := 1) dX6_readsCondition_131 rfl ?_
    refine wp_iadd dX6_readsCondition_132 ?_
    refine wp_puti dX6_readsCondition_133 fp6_125 (tb_214 hT) (tk_214 hT) rfl ?_
    refine wp_aload_n dX6_readsCondition_136 rfl ?_
    refine wp_geti dX6_readsCondition_137 fk6_155 (tb_214 hT) (tk_214 hT) rfl ?_
    refine wp_if_ne 145 dX6_readsCondition_140 (by decide) (fun hc => ?_) (fun hc => ?_)
    · replace h := h.1 hc
      refine wp_aload_n dX6_readsCondition_145 rfl ?_
      refine wq_VV0 lk6_191 rfl (tb_214 hT) (tk_214 hT) dX6_readsCondition_146 h (rmQ_ok (by decide) (by decide)) ⟨Nat.le_refl _, Nat.le_refl _⟩ (Nat.le_of_ble_eq_true rfl) (fun V146 h => ?_)
      refine wp_goto 92 dX6_readsCondition_149 (by decide) ?_
      exact h
    · replace h := h.2 hc
      refine wp_iconst (v := 1) dX6_readsCondition_143 rfl ?_
      exact wp_iret dX6_readsCondition_144 rfl ⟨_, rfl, rfl, rfl, rfl, h⟩
theorem n6_readsCondition {E : eT} {Q : Int32 → vT → Prop} {V : vT} (h : w6_readsCondition E Q 0 [some (vr 214)] [] V) : c6_readsCondition E V Q := MOk.enter [some (vr 214)] pn_6 rfl rfl (Nat.le_of_ble_eq_true rfl) rfl h
theorem b6_readsCompared_0 {E : eT} {Q : Int32 → vT → Prop} {V : vT} (hT : TW E) (h : c6_readsSum E V (fun r1 V1 => (¬ r1 = 0 → c6_here E V1 (fun r10 V10 => (¬ r10 = 60 → c6_here E V10 (fun r24 V24 => (¬ r24 = 62 → c6_here E V24 (fun r38 V38 => (¬ r38 = 61 → c6_wrongAt E 1 (V38 214 7) V38 (fun r64 V64 => (r64 = 0 ∨ r64 = 1) ∧ Q r64 V64)) ∧ (r38 = 61 → c6_readsSum E (up2 V38 214 7 ((V38 214 7) + 1)) (fun r79 V79 => (¬ r79 = 0 → c6_notes E 9 0 V79 (fun V90 => c6_endsPiece E V90 (fun V94 => Q 1 V94))) ∧ (r79 = 0 → Q 0 V79))))) ∧ (r24 = 62 → c6_readsSum E (up2 V24 214 7 ((V24 214 7) + 1)) (fun r79' V79' => (¬ r79' = 0 → c6_notes E 8 0 V79' (fun V90' => c6_endsPiece E V90' (fun V94' => Q 1 V94'))) ∧ (r79' = 0 → Q 0 V79'))))) ∧ (r10 = 60 → c6_readsSum E (up2 V10 214 7 ((V10 214 7) + 1)) (fun r79'' V79'' => (¬ r79'' = 0 → c6_notes E 7 0 V79'' (fun V90'' => c6_endsPiece E V90'' (fun V94'' => Q 1 V94''))) ∧ (r79'' = 0 → Q 0 V79''))))) ∧ (r1 = 0 → Q 0 V1))) : w6_readsCompared E Q 0 [some (vr 214), none] [] V := by
  refine wp_aload_n dX6_readsCompared_0 rfl ?_
  refine wq_VI0 lk6_188 rfl (tb_214 hT) (tk_214 hT) dX6_readsCompared_1 h (rmQ_ok (by decide) (by decide)) ⟨Nat.le_refl _, Nat.le_refl _⟩ (Nat.le_of_ble_eq_true rfl) (fun r1 V1 h => ?_)
  refine wp_if_ne 9 dX6_readsCompared_4 (by decide) (fun hc => ?_) (fun hc => ?_)
  · replace h := h.1 hc
    refine wp_aload_n dX6_readsCompared_9 rfl ?_
    refine wq_VI0 lk6_131 rfl (tb_214 hT) (tk_214 hT) dX6_readsCompared_10 h (rmQ_ok (by decide) (by decide)) ⟨Nat.le_refl _, Nat.le_refl _⟩ (Nat.le_of_ble_eq_true rfl) (fun r10 V10 h => ?_)
    refine wp_bipush (v := 60) dX6_readsCompared_13 rfl ?_
    refine wp_icmp_ne 23 dX6_readsCompared_15 (by decide) (fun hc => ?_) (fun hc => ?_)
    · replace h := h.1 hc
      refine wp_aload_n dX6_readsCompared_23 rfl ?_
      refine wq_VI0 lk6_131 rfl (tb_214 hT) (tk_214 hT) dX6_readsCompared_24 h (rmQ_ok (by decide) (by decide)) ⟨Nat.le_refl _, Nat.le_refl _⟩ (Nat.le_of_ble_eq_true rfl) (fun r24 V24 h => ?_)
      refine wp_bipush (v := 62) dX6_readsCompared_27 rfl ?_
      refine wp_icmp_ne 37 dX6_readsCompared_29 (by decide) (fun hc => ?_) (fun hc => ?_)
      · replace h := h.1 hc
        refine wp_aload_n dX6_readsCompared_37 rfl ?_
        refine wq_VI0 lk6_131 rfl (tb_214 hT) (tk_214 hT) dX6_readsCompared_38 h (rmQ_ok (by decide) (by decide)) ⟨Nat.le_refl _, Nat.le_refl _⟩ (Nat.le_of_ble_eq_true rfl) (fun r38 V38 h => ?_)
        refine wp_bipush (v := 61) dX6_readsCompared_41 rfl ?_
        refine wp_icmp_ne 51 dX6_readsCompared_43 (by decide) (fun hc => ?_) (fun hc => ?_)
        · replace h := h.1 hc
          refine wp_iconst (v := (-1)) dX6_readsCompared_51 rfl ?_
          refine wi2_1 dX6_readsCompared_52 ?_
          refine wp_iload_n dX6_readsCompared_53 rfl ?_
          refine wp_iconst (v := (-1)) dX6_readsCompared_54 rfl ?_
          refine wp_icmp_ne 68 dX6_readsCompared_55 (by decide) (fun hc => absurd hc (by decide)) (fun _ => ?_)
          refine wp_aload_n dX6_readsCompared_58 rfl ?_
          refine wp_iconst (v := 1) dX6_readsCompared_59 rfl ?_
          refine wp_aload_n dX6_readsCompared_60 rfl ?_
          refine wp_geti dX6_readsCompared_61 fk6_125 (tb_214 hT) (tk_214 hT) rfl ?_
          refine wq_VI2 lk6_138 rfl (tb_214 hT) (tk_214 hT) dX6_readsCompared_64 h (rmQ_ok (by decide) (by decide)) ⟨Nat.le_refl _, Nat.le_refl _⟩ (Nat.le_of_ble_eq_true rfl) (fun r64 V64 h => ?_)
          exact wp_iret dX6_readsCompared_67 (by rcases h.1 with q9 | q9 <;> rw [q9] <;> rfl) ⟨_, rfl, rfl, rfl, rfl, h.2⟩
        · replace h := h.2 hc
          refine wp_bipush (v := 9) dX6_readsCompared_46 rfl ?_
          refine wp_goto 52 dX6_readsCompared_48 (by decide) ?_
          refine wi2_1 dX6_readsCompared_52 ?_
          refine wp_iload_n dX6_readsCompared_53 rfl ?_
          refine wp_iconst (v := (-1)) dX6_readsCompared_54 rfl ?_
          refine wp_icmp_ne 68 dX6_readsCompared_55 (by decide) (fun _ => ?_) (fun hc => absurd hc (by decide))
          refine wp_aload_n dX6_readsCompared_68 rfl ?_
          refine wp_aload_n dX6_readsCompared_69 rfl ?_
          refine wp_geti dX6_readsCompared_70 fk6_125 (tb_214 hT) (tk_214 hT) rfl ?_
          refine wp_iconst (v := 1) dX6_readsCompared_73 rfl ?_
          refine wp_iadd dX6_readsCompared_74 ?_
          refine wp_puti dX6_readsCompared_75 fp6_125 (tb_214 hT) (tk_214 hT) rfl ?_
          refine wp_aload_n dX6_readsCompared_78 rfl ?_
          refine wq_VI0 lk6_188 rfl (tb_214 hT) (tk_214 hT) dX6_readsCompared_79 h (rmQ_ok (by decide) (by decide)) ⟨Nat.le_refl _, Nat.le_refl _⟩ (Nat.le_of_ble_eq_true rfl) (fun r79 V79 h => ?_)
          refine wp_if_ne 87 dX6_readsCompared_82 (by decide) (fun hc => ?_) (fun hc => ?_)
          · replace h := h.1 hc
            refine wp_aload_n dX6_readsCompared_87 rfl ?_
            refine wp_iload_n dX6_readsCompared_88 rfl ?_
            refine wp_iconst (v := 0) dX6_readsCompared_89 rfl ?_
            refine wq_VV2 lk6_161 rfl (tb_214 hT) (tk_214 hT) dX6_readsCompared_90 h (rmQ_ok (by decide) (by decide)) ⟨Nat.le_refl _, Nat.le_refl _⟩ (Nat.le_of_ble_eq_true rfl) (fun V90 h => ?_)
            refine wp_aload_n dX6_readsCompared_93 rfl ?_
            refine wq_VV0 lk6_191 rfl (tb_214 hT) (tk_214 hT) dX6_readsCompared_94 h (rmQ_ok (by decide) (by decide)) ⟨Nat.le_refl _, Nat.le_refl _⟩ (Nat.le_of_ble_eq_true rfl) (fun V94 h => ?_)
            refine wp_iconst (v := 1) dX6_readsCompared_97 rfl ?_
            exact wp_iret dX6_readsCompared_98 rfl ⟨_, rfl, rfl, rfl, rfl, h⟩
          · replace h := h.2 hc
            refine wp_iconst (v := 0) dX6_readsCompared_85 rfl ?_
            exact wp_iret dX6_readsCompared_86 rfl ⟨_, rfl, rfl, rfl, rfl, h⟩
      · replace h := h.2 hc
        refine wp_bipush (v := 8) dX6_readsCompared_32 rfl ?_
        refine wp_goto 52 dX6_readsCompared_34 (by decide) ?_
        refine wi2_1 dX6_readsCompared_52 ?_
        refine wp_iload_n dX6_readsCompared_53 rfl ?_
        refine wp_iconst (v := (-1)) dX6_readsCompared_54 rfl ?_
        refine wp_icmp_ne 68 dX6_readsCompared_55 (by decide) (fun _ => ?_) (fun hc => absurd hc (by decide))
        refine wp_aload_n dX6_readsCompared_68 rfl ?_
        refine wp_aload_n dX6_readsCompared_69 rfl ?_
        refine wp_geti dX6_readsCompared_70 fk6_125 (tb_214 hT) (tk_214 hT) rfl ?_
        refine wp_iconst (v := 1) dX6_readsCompared_73 rfl ?_
        refine wp_iadd dX6_readsCompared_74 ?_
        refine wp_puti dX6_readsCompared_75 fp6_125 (tb_214 hT) (tk_214 hT) rfl ?_
        refine wp_aload_n dX6_readsCompared_78 rfl ?_
        refine wq_VI0 lk6_188 rfl (tb_214 hT) (tk_214 hT) dX6_readsCompared_79 h (rmQ_ok (by decide) (by decide)) ⟨Nat.le_refl _, Nat.le_refl _⟩ (Nat.le_of_ble_eq_true rfl) (fun r79' V79' h => ?_)
        refine wp_if_ne 87 dX6_readsCompared_82 (by decide) (fun hc => ?_) (fun hc => ?_)
        · replace h := h.1 hc
          refine wp_aload_n dX6_readsCompared_87 rfl ?_
          refine wp_iload_n dX6_readsCompared_88 rfl ?_
          refine wp_iconst (v := 0) dX6_readsCompared_89 rfl ?_
          refine wq_VV2 lk6_161 rfl (tb_214 hT) (tk_214 hT) dX6_readsCompared_90 h (rmQ_ok (by decide) (by decide)) ⟨Nat.le_refl _, Nat.le_refl _⟩ (Nat.le_of_ble_eq_true rfl) (fun V90' h => ?_)
          refine wp_aload_n dX6_readsCompared_93 rfl ?_
          refine wq_VV0 lk6_191 rfl (tb_214 hT) (tk_214 hT) dX6_readsCompared_94 h (rmQ_ok (by decide) (by decide)) ⟨Nat.le_refl _, Nat.le_refl _⟩ (Nat.le_of_ble_eq_true rfl) (fun V94' h => ?_)
          refine wp_iconst (v := 1) dX6_readsCompared_97 rfl ?_
          exact wp_iret dX6_readsCompared_98 rfl ⟨_, rfl, rfl, rfl, rfl, h⟩
        · replace h := h.2 hc
          refine wp_iconst (v := 0) dX6_readsCompared_85 rfl ?_
          exact wp_iret dX6_readsCompared_86 rfl ⟨_, rfl, rfl, rfl, rfl, h⟩
    · replace h := h.2 hc
      refine wp_bipush (v := 7) dX6_readsCompared_18 rfl ?_
      refine wp_goto 52 dX6_readsCompared_20 (by decide) ?_
      refine wi2_1 dX6_readsCompared_52 ?_
      refine wp_iload_n dX6_readsCompared_53 rfl ?_
      refine wp_iconst (v := (-1)) dX6_readsCompared_54 rfl ?_
      refine wp_icmp_ne 68 dX6_readsCompared_55 (by decide) (fun _ => ?_) (fun hc => absurd hc (by decide))
      refine wp_aload_n dX6_readsCompared_68 rfl ?_
      refine wp_aload_n dX6_readsCompared_69 rfl ?_
      refine wp_geti dX6_readsCompared_70 fk6_125 (tb_214 hT) (tk_214 hT) rfl ?_
      refine wp_iconst (v := 1) dX6_readsCompared_73 rfl ?_
      refine wp_iadd dX6_readsCompared_74 ?_
      refine wp_puti dX6_readsCompared_75 fp6_125 (tb_214 hT) (tk_214 hT) rfl ?_
      refine wp_aload_n dX6_readsCompared_78 rfl ?_
      refine wq_VI0 lk6_188 rfl (tb_214 hT) (tk_214 hT) dX6_readsCompared_79 h (rmQ_ok (by decide) (by decide)) ⟨Nat.le_refl _, Nat.le_refl _⟩ (Nat.le_of_ble_eq_true rfl) (fun r79'' V79'' h => ?_)
      refine wp_if_ne 87 dX6_readsCompared_82 (by decide) (fun hc => ?_) (fun hc => ?_)
      · replace h := h.1 hc
        refine wp_aload_n dX6_readsCompared_87 rfl ?_
        refine wp_iload_n dX6_readsCompared_88 rfl ?_
        refine wp_iconst (v := 0) dX6_readsCompared_89 rfl ?_
        refine wq_VV2 lk6_161 rfl (tb_214 hT) (tk_214 hT) dX6_readsCompared_90 h (rmQ_ok (by decide) (by decide)) ⟨Nat.le_refl _, Nat.le_refl _⟩ (Nat.le_of_ble_eq_true rfl) (fun V90'' h => ?_)
        refine wp_aload_n dX6_readsCompared_93 rfl ?_
        refine wq_VV0 lk6_191 rfl (tb_214 hT) (tk_214 hT) dX6_readsCompared_94 h (rmQ_ok (by decide) (by decide)) ⟨Nat.le_refl _, Nat.le_refl _⟩ (Nat.le_of_ble_eq_true rfl) (fun V94'' h => ?_)
        refine wp_iconst (v := 1) dX6_readsCompared_97 rfl ?_
        exact wp_iret dX6_readsCompared_98 rfl ⟨_, rfl, rfl, rfl, rfl, h⟩
      · replace h := h.2 hc
        refine wp_iconst (v := 0) dX6_readsCompared_85 rfl ?_
        exact wp_iret dX6_readsCompared_86 rfl ⟨_, rfl, rfl, rfl, rfl, h⟩
  · replace h := h.2 hc
    refine wp_iconst (v := 0) dX6_readsCompared_7 rfl ?_
    exact wp_iret dX6_readsCompared_8 rfl ⟨_, rfl, rfl, rfl, rfl, h⟩
theorem n6_readsCompared {E : eT} {Q : Int32 → vT → Prop} {V : vT} (h : w6_readsCompared E Q 0 [some (vr 214), none] [] V) : c6_readsCompared E V Q := MOk.enter [some (vr 214), none] pn_6 rfl rfl (Nat.le_of_ble_eq_true rfl) rfl h
theorem b6_endsPiece_0 {E : eT} {Q : vT → Prop} {V : vT} (hT : TW E) (h : c6_waitTop E V (fun r1 V1 => (¬ r1 = 10 → Q V1) ∧ (r1 = 10 → c6_notes E 10 0 V1 (fun V13 => w6_endsPiece E Q 0 [some (vr 214)] [] (up2 (up2 V13 214 13 ((V13 214 13) - 1)) 214 11 (((up2 V13 214 13 ((V13 214 13) - 1)) 214 11) - 1)))))) : w6_endsPiece E Q 0 [some (vr 214)] [] V := by
  refine wp_aload_n dX6_endsPiece_0 rfl ?_
  refine wq_VI0 lk6_158 rfl (tb_214 hT) (tk_214 hT) dX6_endsPiece_1 h (rmQ_ok (by decide) (by decide)) ⟨Nat.le_refl _, Nat.le_refl _⟩ (Nat.le_of_ble_eq_true rfl) (fun r1 V1 h => ?_)
  refine wp_bipush (v := 10) dX6_endsPiece_4 rfl ?_
  refine wp_icmp_ne 39 dX6_endsPiece_6 (by decide) (fun hc => ?_) (fun hc => ?_)
  · replace h := h.1 hc
    exact wp_vret dX6_endsPiece_39 ⟨rfl, rfl, rfl, rfl, h⟩
  · replace h := h.2 hc
    refine wp_aload_n dX6_endsPiece_9 rfl ?_
    refine wp_bipush (v := 10) dX6_endsPiece_10 rfl ?_
    refine wp_iconst (v := 0) dX6_endsPiece_12 rfl ?_
    refine wq_VV2 lk6_161 rfl (tb_214 hT) (tk_214 hT) dX6_endsPiece_13 h (rmQ_ok (by decide) (by decide)) ⟨Nat.le_refl _, Nat.le_refl _⟩ (Nat.le_of_ble_eq_true rfl) (fun V13 h => ?_)
    refine wp_aload_n dX6_endsPiece_16 rfl ?_
    refine wp_aload_n dX6_endsPiece_17 rfl ?_
    refine wp_geti dX6_endsPiece_18 fk6_155 (tb_214 hT) (tk_214 hT) rfl ?_
    refine wp_iconst (v := 1) dX6_endsPiece_21 rfl ?_
    refine wp_isub dX6_endsPiece_22 ?_
    refine wp_puti dX6_endsPiece_23 fp6_155 (tb_214 hT) (tk_214 hT) rfl ?_
    refine wp_aload_n dX6_endsPiece_26 rfl ?_
    refine wp_aload_n dX6_endsPiece_27 rfl ?_
    refine wp_geti dX6_endsPiece_28 fk6_152 (tb_214 hT) (tk_214 hT) rfl ?_
    refine wp_iconst (v := 1) dX6_endsPiece_31 rfl ?_
    refine wp_isub dX6_endsPiece_32 ?_
    refine wp_puti dX6_endsPiece_33 fp6_152 (tb_214 hT) (tk_214 hT) rfl ?_
    refine wp_goto 0 dX6_endsPiece_36 (by decide) ?_
    exact h
theorem n6_endsPiece {E : eT} {Q : vT → Prop} {V : vT} (h : w6_endsPiece E Q 0 [some (vr 214)] [] V) : c6_endsPiece E V Q := MOk.enter [some (vr 214)] pn_6 rfl rfl (Nat.le_of_ble_eq_true rfl) rfl h
theorem b6_lands_0 {E : eT} {Q : vT → Prop} {V : vT} {x1 : Int32} (hT : TW E) (h : c6_waitTop E V (fun r1 V1 => (r1 = 11 → vp_in ((V1 214 13) - 1) 260 ∧ (vp_in (rmd (V1 222 (((V1 214 13) - 1).toNatClampNeg)) 1048576) 260 ∧ (vp_in (rmd (V1 222 (((V1 214 13) - 1).toNatClampNeg)) 1048576) 260 ∧ (w6_lands E Q 0 [some (vr 214), some (vi x1), none] [] (up2 (up2 V1 221 ((rmd (V1 222 (((V1 214 13) - 1).toNatClampNeg)) 1048576).toNatClampNeg) ((1048576 * ((V1 221 ((rmd (V1 222 (((V1 214 13) - 1).toNatClampNeg)) 1048576).toNatClampNeg)) / 1048576)) + (V1 214 12))) 214 13 (((up2 V1 221 ((rmd (V1 222 (((V1 214 13) - 1).toNatClampNeg)) 1048576).toNatClampNeg) ((1048576 * ((V1 221 ((rmd (V1 222 (((V1 214 13) - 1).toNatClampNeg)) 1048576).toNatClampNeg)) / 1048576)) + (V1 214 12))) 214 13) - 1)))))) ∧ (¬ r1 = 11 → (x1 = 0 → Q V1) ∧ (¬ x1 = 0 → c6_waitTop E V1 (fun r14 V14 => (¬ r14 = 12 → Q V14) ∧ (r14 = 12 → vp_in ((V14 214 13) - 1) 260 ∧ (vp_in (rmd (V14 222 (((V14 214 13) - 1).toNatClampNeg)) 1048576) 260 ∧ (vp_in (rmd (V14 222 (((V14 214 13) - 1).toNatClampNeg)) 1048576) 260 ∧ (w6_lands E Q 0 [some (vr 214), some (vi x1), none] [] (up2 (up2 V14 221 ((rmd (V14 222 (((V14 214 13) - 1).toNatClampNeg)) 1048576).toNatClampNeg) ((1048576 * ((V14 221 ((rmd (V14 222 (((V14 214 13) - 1).toNatClampNeg)) 1048576).toNatClampNeg)) / 1048576)) + (V14 214 12))) 214 13 (((up2 V14 221 ((rmd (V14 222 (((V14 214 13) - 1).toNatClampNeg)) 1048576).toNatClampNeg) ((1048576 * ((V14 221 ((rmd (V14 222 (((V14 214 13) - 1).toNatClampNeg)) 1048576).toNatClampNeg)) / 1048576)) + (V14 214 12))) 214 13) - 1))))))))))) : w6_lands E Q 0 [some (vr 214), some (vi x1), none] [] V := by
  refine wp_aload_n dX6_lands_0 rfl ?_
  refine wq_VI0 lk6_158 rfl (tb_214 hT) (tk_214 hT) dX6_lands_1 h (rmQ_ok (by decide) (by decide)) ⟨Nat.le_refl _, Nat.le_refl _⟩ (Nat.le_of_ble_eq_true rfl) (fun r1 V1 h => ?_)
  refine wp_bipush (v := 11) dX6_lands_4 rfl ?_
  refine wp_icmp_eq 22 dX6_lands_6 (by decide) (fun hc => ?_) (fun hc => ?_)
  · replace h := h.1 hc
    refine wp_aload_n dX6_lands_22 rfl ?_
    refine wp_getrs dX6_lands_23 fk6_32 (tb_214 hT) (tk_214 hT) rfl (tr_17 hT) ?_
    refine wp_aload_n dX6_lands_26 rfl ?_
    refine wp_geti dX6_lands_27 fk6_155 (tb_214 hT) (tk_214 hT) rfl ?_
    refine wp_iconst (v := 1) dX6_lands_30 rfl ?_
    refine wp_isub dX6_lands_31 ?_
    refine wp_iald dX6_lands_32 (tb_222 hT).2 (tk_222 hT) h.1 ?_
    replace h := h.2
    refine wp_ldc (v := 1048576) dX6_lands_33 q1366 ?_
    refine wp_irm dX6_lands_35 (by decide) ?_
    refine wi3_2 dX6_lands_36 ?_
    refine wp_aload_n dX6_lands_37 rfl ?_
    refine wp_getrs dX6_lands_38 fk6_29 (tb_214 hT) (tk_214 hT) rfl (tr_16 hT) ?_
    refine wp_iload_n dX6_lands_41 rfl ?_
    refine wp_ldc (v := 1048576) dX6_lands_42 q1366 ?_
    refine wp_aload_n dX6_lands_44 rfl ?_
    refine wp_getrs dX6_lands_45 fk6_29 (tb_214 hT) (tk_214 hT) rfl (tr_16 hT) ?_
    refine wp_iload_n dX6_lands_48 rfl ?_
    refine wp_iald dX6_lands_49 (tb_221 hT).2 (tk_221 hT) h.1 ?_
    replace h := h.2
    refine wp_ldc (v := 1048576) dX6_lands_50 q1366 ?_
    refine wp_idiv dX6_lands_52 (by decide) ?_
    refine wp_imul dX6_lands_53 ?_
    refine wp_aload_n dX6_lands_54 rfl ?_
    refine wp_geti dX6_lands_55 fk6_148 (tb_214 hT) (tk_214 hT) rfl ?_
    refine wp_iadd dX6_lands_58 ?_
    refine wp_iast dX6_lands_59 (tb_221 hT) (tk_221 hT) h.1 ?_
    replace h := h.2
    refine wp_aload_n dX6_lands_60 rfl ?_
    refine wp_aload_n dX6_lands_61 rfl ?_
    refine wp_geti dX6_lands_62 fk6_155 (tb_214 hT) (tk_214 hT) rfl ?_
    refine wp_iconst (v := 1) dX6_lands_65 rfl ?_
    refine wp_isub dX6_lands_66 ?_
    refine wp_puti dX6_lands_67 fp6_155 (tb_214 hT) (tk_214 hT) rfl ?_
    refine wp_goto 0 dX6_lands_70 (by decide) ?_
    exact wp_drop [some (vr 214), some (vi x1), none] ⟨rfl, ⟨rfl, trivial⟩⟩ h
  · replace h := h.2 hc
    refine wp_iload_n dX6_lands_9 rfl ?_
    refine wp_if_eq 73 dX6_lands_10 (by decide) (fun hc => ?_) (fun hc => ?_)
    · replace h := h.1 hc
      exact wp_vret dX6_lands_73 ⟨rfl, rfl, rfl, rfl, h⟩
    · replace h := h.2 hc
      refine wp_aload_n dX6_lands_13 rfl ?_
      refine wq_VI0 lk6_158 rfl (tb_214 hT) (tk_214 hT) dX6_lands_14 h (rmQ_ok (by decide) (by decide)) ⟨Nat.le_refl _, Nat.le_refl _⟩ (Nat.le_of_ble_eq_true rfl) (fun r14 V14 h => ?_)
      refine wp_bipush (v := 12) dX6_lands_17 rfl ?_
      refine wp_icmp_ne 73 dX6_lands_19 (by decide) (fun hc => ?_) (fun hc => ?_)
      · replace h := h.1 hc
        exact wp_vret dX6_lands_73 ⟨rfl, rfl, rfl, rfl, h⟩
      · replace h := h.2 hc
        refine wp_aload_n dX6_lands_22 rfl ?_
        refine wp_getrs dX6_lands_23 fk6_32 (tb_214 hT) (tk_214 hT) rfl (tr_17 hT) ?_
        refine wp_aload_n dX6_lands_26 rfl ?_
        refine wp_geti dX6_lands_27 fk6_155 (tb_214 hT) (tk_214 hT) rfl ?_
        refine wp_iconst (v := 1) dX6_lands_30 rfl ?_
        refine wp_isub dX6_lands_31 ?_
        refine wp_iald dX6_lands_32 (tb_222 hT).2 (tk_222 hT) h.1 ?_
        replace h := h.2
        refine wp_ldc (v := 1048576) dX6_lands_33 q1366 ?_
        refine wp_irm dX6_lands_35 (by decide) ?_
        refine wi3_2 dX6_lands_36 ?_
        refine wp_aload_n dX6_lands_37 rfl ?_
        refine wp_getrs dX6_lands_38 fk6_29 (tb_214 hT) (tk_214 hT) rfl (tr_16 hT) ?_
        refine wp_iload_n dX6_lands_41 rfl ?_
        refine wp_ldc (v := 1048576) dX6_lands_42 q1366 ?_
        refine wp_aload_n dX6_lands_44 rfl ?_
        refine wp_getrs dX6_lands_45 fk6_29 (tb_214 hT) (tk_214 hT) rfl (tr_16 hT) ?_
        refine wp_iload_n dX6_lands_48 rfl ?_
        refine wp_iald dX6_lands_49 (tb_221 hT).2 (tk_221 hT) h.1 ?_
        replace h := h.2
        refine wp_ldc (v := 1048576) dX6_lands_50 q1366 ?_
        refine wp_idiv dX6_lands_52 (by decide) ?_
        refine wp_imul dX6_lands_53 ?_
        refine wp_aload_n dX6_lands_54 rfl ?_
        refine wp_geti dX6_lands_55 fk6_148 (tb_214 hT) (tk_214 hT) rfl ?_
        refine wp_iadd dX6_lands_58 ?_
        refine wp_iast dX6_lands_59 (tb_221 hT) (tk_221 hT) h.1 ?_
        replace h := h.2
        refine wp_aload_n dX6_lands_60 rfl ?_
        refine wp_aload_n dX6_lands_61 rfl ?_
        refine wp_geti dX6_lands_62 fk6_155 (tb_214 hT) (tk_214 hT) rfl ?_
        refine wp_iconst (v := 1) dX6_lands_65 rfl ?_
        refine wp_isub dX6_lands_66 ?_
        refine wp_puti dX6_lands_67 fp6_155 (tb_214 hT) (tk_214 hT) rfl ?_
        refine wp_goto 0 dX6_lands_70 (by decide) ?_
        exact wp_drop [some (vr 214), some (vi x1), none] ⟨rfl, ⟨rfl, trivial⟩⟩ h
theorem n6_lands {E : eT} {Q : vT → Prop} {V : vT} {x1 : Int32} (h : w6_lands E Q 0 [some (vr 214), some (vi x1), none] [] V) : c6_lands E x1 V Q := MOk.enter [some (vr 214), some (vi x1), none] pn_6 rfl rfl (Nat.le_of_ble_eq_true rfl) rfl h
theorem b6_jumps_0 {E : eT} {Q : vT → Prop} {V : vT} {x1 : Int32} (hT : TW E) (h : vp_in (V 214 13) 260 ∧ (c6_notes E x1 0 (up2 (up2 V 222 ((V 214 13).toNatClampNeg) ((1048576 * x1) + (V 214 12))) 214 13 (((up2 V 222 ((V 214 13).toNatClampNeg) ((1048576 * x1) + (V 214 12))) 214 13) + 1)) (fun V31 => Q (up2 V31 214 7 ((V31 214 7) + 1))))) : w6_jumps E Q 0 [some (vr 214), some (vi x1)] [] V := by
  refine wp_aload_n dX6_jumps_0 rfl ?_
  refine wp_getrs dX6_jumps_1 fk6_32 (tb_214 hT) (tk_214 hT) rfl (tr_17 hT) ?_
  refine wp_aload_n dX6_jumps_4 rfl ?_
  refine wp_geti dX6_jumps_5 fk6_155 (tb_214 hT) (tk_214 hT) rfl ?_
  refine wp_ldc (v := 1048576) dX6_jumps_8 q1366 ?_
  refine wp_iload_n dX6_jumps_10 rfl ?_
  refine wp_imul dX6_jumps_11 ?_
  refine wp_aload_n dX6_jumps_12 rfl ?_
  refine wp_geti dX6_jumps_13 fk6_148 (tb_214 hT) (tk_214 hT) rfl ?_
  refine wp_iadd dX6_jumps_16 ?_
  refine wp_iast dX6_jumps_17 (tb_222 hT) (tk_222 hT) h.1 ?_
  replace h := h.2
  refine wp_aload_n dX6_jumps_18 rfl ?_
  refine wp_aload_n dX6_jumps_19 rfl ?_
  refine wp_geti dX6_jumps_20 fk6_155 (tb_214 hT) (tk_214 hT) rfl ?_
  refine wp_iconst (v := 1) dX6_jumps_23 rfl ?_
  refine wp_iadd dX6_jumps_24 ?_
  refine wp_puti dX6_jumps_25 fp6_155 (tb_214 hT) (tk_214 hT) rfl ?_
  refine wp_aload_n dX6_jumps_28 rfl ?_
  refine wp_iload_n dX6_jumps_29 rfl ?_
  refine wp_iconst (v := 0) dX6_jumps_30 rfl ?_
  refine wq_VV2 lk6_161 rfl (tb_214 hT) (tk_214 hT) dX6_jumps_31 h (rmQ_ok (by decide) (by decide)) ⟨Nat.le_refl _, Nat.le_refl _⟩ (Nat.le_of_ble_eq_true rfl) (fun V31 h => ?_)
  refine wp_aload_n dX6_jumps_34 rfl ?_
  refine wp_aload_n dX6_jumps_35 rfl ?_
  refine wp_geti dX6_jumps_36 fk6_125 (tb_214 hT) (tk_214 hT) rfl ?_
  refine wp_iconst (v := 1) dX6_jumps_39 rfl ?_
  refine wp_iadd dX6_jumps_40 ?_
  refine wp_puti dX6_jumps_41 fp6_125 (tb_214 hT) (tk_214 hT) rfl ?_
  exact wp_vret dX6_jumps_44 ⟨rfl, rfl, rfl, rfl, h⟩
theorem n6_jumps {E : eT} {Q : vT → Prop} {V : vT} {x1 : Int32} (h : w6_jumps E Q 0 [some (vr 214), some (vi x1)] [] V) : c6_jumps E x1 V Q := MOk.enter [some (vr 214), some (vi x1)] pn_6 rfl rfl (Nat.le_of_ble_eq_true rfl) rfl h
theorem b6_takes_0 {E : eT} {Q : Int32 → vT → Prop} {V : vT} {x1 : Int32} (hT : TW E) (h : c6_here E V (fun r1 V1 => (r1 = x1 → Q 1 (up2 V1 214 7 ((V1 214 7) + 1))) ∧ (¬ r1 = x1 → c6_wrongAt E 1 (V1 214 7) V1 (fun r14 V14 => (r14 = 0 ∨ r14 = 1) ∧ Q r14 V14)))) : w6_takes E Q 0 [some (vr 214), some (vi x1)] [] V := by
  refine wp_aload_n dX6_takes_0 rfl ?_
  refine wq_VI0 lk6_131 rfl (tb_214 hT) (tk_214 hT) dX6_takes_1 h (rmQ_ok (by decide) (by decide)) ⟨Nat.le_refl _, Nat.le_refl _⟩ (Nat.le_of_ble_eq_true rfl) (fun r1 V1 h => ?_)
  refine wp_iload_n dX6_takes_4 rfl ?_
  refine wp_icmp_eq 18 dX6_takes_5 (by decide) (fun hc => ?_) (fun hc => ?_)
  · replace h := h.1 hc
    refine wp_aload_n dX6_takes_18 rfl ?_
    refine wp_aload_n dX6_takes_19 rfl ?_
    refine wp_geti dX6_takes_20 fk6_125 (tb_214 hT) (tk_214 hT) rfl ?_
    refine wp_iconst (v := 1) dX6_takes_23 rfl ?_
    refine wp_iadd dX6_takes_24 ?_
    refine wp_puti dX6_takes_25 fp6_125 (tb_214 hT) (tk_214 hT) rfl ?_
    refine wp_iconst (v := 1) dX6_takes_28 rfl ?_
    exact wp_iret dX6_takes_29 rfl ⟨_, rfl, rfl, rfl, rfl, h⟩
  · replace h := h.2 hc
    refine wp_aload_n dX6_takes_8 rfl ?_
    refine wp_iconst (v := 1) dX6_takes_9 rfl ?_
    refine wp_aload_n dX6_takes_10 rfl ?_
    refine wp_geti dX6_takes_11 fk6_125 (tb_214 hT) (tk_214 hT) rfl ?_
    refine wq_VI2 lk6_138 rfl (tb_214 hT) (tk_214 hT) dX6_takes_14 h (rmQ_ok (by decide) (by decide)) ⟨Nat.le_refl _, Nat.le_refl _⟩ (Nat.le_of_ble_eq_true rfl) (fun r14 V14 h => ?_)
    exact wp_iret dX6_takes_17 (by rcases h.1 with q9 | q9 <;> rw [q9] <;> rfl) ⟨_, rfl, rfl, rfl, rfl, h.2⟩
theorem n6_takes {E : eT} {Q : Int32 → vT → Prop} {V : vT} {x1 : Int32} (h : w6_takes E Q 0 [some (vr 214), some (vi x1)] [] V) : c6_takes E x1 V Q := MOk.enter [some (vr 214), some (vi x1)] pn_6 rfl rfl (Nat.le_of_ble_eq_true rfl) rfl h
theorem b6_town_0 {E : eT} {Q : Int32 → vT → Prop} {V : vT} {x1 : Int32} (hT : TW E) (h : c6_in E x1 1 120 V (fun r4 V4 => (r4 = 0 → Q (-1) V4) ∧ (¬ r4 = 0 → (x1 ≤ (V4 214 6) → c6_beginsText E x1 V4 (fun V22 => w6_town E Q 27 [some (vr 214), none, some (vi 0), none, none, none] [] V22)) ∧ ((V4 214 6) < x1 → Q (-1) V4)))) : w6_town E Q 0 [some (vr 214), some (vi x1), none, none, none, none] [] V := by
  refine wp_iload_n dX6_town_0 rfl ?_
  refine wp_iconst (v := 1) dX6_town_1 rfl ?_
  refine wp_bipush (v := 120) dX6_town_2 rfl ?_
  refine wq_SI3 lk6_102 dX6_town_4 h (rmQ_ok (by decide) (by decide)) ⟨Nat.le_refl _, Nat.le_refl _⟩ (Nat.le_of_ble_eq_true rfl) (fun r4 V4 h => ?_)
  refine wp_if_eq 18 dX6_town_7 (by decide) (fun hc => ?_) (fun hc => ?_)
  · replace h := h.1 hc
    refine wp_iconst (v := (-1)) dX6_town_18 rfl ?_
    exact wp_iret dX6_town_19 rfl ⟨_, rfl, rfl, rfl, rfl, h⟩
  · replace h := h.2 hc
    refine wp_iload_n dX6_town_10 rfl ?_
    refine wp_aload_n dX6_town_11 rfl ?_
    refine wp_geti dX6_town_12 fk6_117 (tb_214 hT) (tk_214 hT) rfl ?_
    refine wp_icmp_le 20 dX6_town_15 (by decide) (fun hc => ?_) (fun hc => ?_)
    · replace h := h.1 hc
      refine wp_aload_n dX6_town_20 rfl ?_
      refine wp_iload_n dX6_town_21 rfl ?_
      refine wq_VV1 lk6_209 rfl (tb_214 hT) (tk_214 hT) dX6_town_22 h (rmQ_ok (by decide) (by decide)) ⟨Nat.le_refl _, Nat.le_refl _⟩ (Nat.le_of_ble_eq_true rfl) (fun V22 h => ?_)
      refine wp_iconst (v := 0) dX6_town_25 rfl ?_
      refine wi6_2 dX6_town_26 ?_
      exact wp_drop [some (vr 214), none, some (vi 0), none, none, none] ⟨rfl, ⟨rfl, trivial⟩⟩ h
    · replace h := h.2 (Int32.not_le.mp hc)
      refine wp_iconst (v := (-1)) dX6_town_18 rfl ?_
      exact wp_iret dX6_town_19 rfl ⟨_, rfl, rfl, rfl, rfl, h⟩
theorem b6_town_27 {E : eT} {Q : Int32 → vT → Prop} {V : vT} {x2 : Int32} (hT : TW E) (h : (96 ≤ x2 → c6_readsRow E 0 V (fun r50 V50 => w6_town E Q 54 [some (vr 214), none, some (vi 1), some (vi r50), none, none] [] V50)) ∧ (x2 < 96 → vp_in x2 96 ∧ (w6_town E Q 27 [some (vr 214), none, some (vi (x2 + 1)), none, none, none] [] (up2 V 234 (x2.toNatClampNeg) 0)))) : w6_town E Q 27 [some (vr 214), none, some (vi x2), none, none, none] [] V := by
  refine wp_iload_n dX6_town_27 rfl ?_
  refine wp_bipush (v := 96) dX6_town_28 rfl ?_
  refine wp_icmp_ge 46 dX6_town_30 (by decide) (fun hc => ?_) (fun hc => ?_)
  · replace h := h.1 hc
    refine wp_iconst (v := 1) dX6_town_46 rfl ?_
    refine wi6_2 dX6_town_47 ?_
    refine wp_aload_n dX6_town_48 rfl ?_
    refine wp_iconst (v := 0) dX6_town_49 rfl ?_
    refine wq_VI1 lk6_235 rfl (tb_214 hT) (tk_214 hT) dX6_town_50 h (rmQ_ok (by decide) (by decide)) ⟨Nat.le_refl _, Nat.le_refl _⟩ (Nat.le_of_ble_eq_true rfl) (fun r50 V50 h => ?_)
    refine wi6_3 dX6_town_53 ?_
    exact h
  · replace h := h.2 (Int32.not_le.mp hc)
    refine wp_aload_n dX6_town_33 rfl ?_
    refine wp_getrs dX6_town_34 fk6_68 (tb_214 hT) (tk_214 hT) rfl (tr_29 hT) ?_
    refine wp_iload_n dX6_town_37 rfl ?_
    refine wp_iconst (v := 0) dX6_town_38 rfl ?_
    refine wp_iast dX6_town_39 (tb_234 hT) (tk_234 hT) h.1 ?_
    replace h := h.2
    refine wc6_2 1 dX6_town_40 rfl ?_
    refine wp_goto 27 dX6_town_43 (by decide) ?_
    exact h
theorem b6_town_54 {E : eT} {Q : Int32 → vT → Prop} {V : vT} {x2 x3 : Int32} (hT : TW E) (h : (x3 = 0 → (¬ x3 = 0 → w6_town E Q 112 [some (vr 214), none, none, none, some (vi 0), some (vi 0)] [] (up2 V 214 6 0)) ∧ (x3 = 0 → Q ((up2 V 214 6 0) 214 9) (up2 V 214 6 0))) ∧ (¬ x3 = 0 → ((V 214 8) ≤ (V 214 7) → (¬ x3 = 0 → w6_town E Q 112 [some (vr 214), none, none, none, some (vi 0), some (vi 0)] [] (up2 V 214 6 0)) ∧ (x3 = 0 → Q ((up2 V 214 6 0) 214 9) (up2 V 214 6 0))) ∧ ((V 214 7) < (V 214 8) → c6_readsRow E x2 (up2 V 214 7 ((V 214 7) + 1)) (fun r81 V81 => w6_town E Q 54 [some (vr 214), none, some (vi (x2 + 1)), some (vi r81), none, none] [] V81)))) : w6_town E Q 54 [some (vr 214), none, some (vi x2), some (vi x3), none, none] [] V := by
  refine wp_iload_n dX6_town_54 rfl ?_
  refine wp_if_eq 92 dX6_town_55 (by decide) (fun hc => ?_) (fun hc => ?_)
  · replace h := h.1 hc
    refine wp_aload_n dX6_town_92 rfl ?_
    refine wp_iconst (v := 0) dX6_town_93 rfl ?_
    refine wp_puti dX6_town_94 fp6_117 (tb_214 hT) (tk_214 hT) rfl ?_
    refine wp_iload_n dX6_town_97 rfl ?_
    refine wp_if_ne 106 dX6_town_98 (by decide) (fun hc => ?_) (fun hc => ?_)
    · replace h := h.1 hc
      refine wp_iconst (v := 0) dX6_town_106 rfl ?_
      refine wi6_4 dX6_town_107 ?_
      refine wp_iconst (v := 0) dX6_town_109 rfl ?_
      refine wi6_5 dX6_town_110 ?_
      exact wp_drop [some (vr 214), none, none, none, some (vi 0), some (vi 0)] ⟨rfl, ⟨rfl, ⟨rfl, trivial⟩⟩⟩ h
    · replace h := h.2 hc
      refine wp_aload_n dX6_town_101 rfl ?_
      refine wp_geti dX6_town_102 fk6_135 (tb_214 hT) (tk_214 hT) rfl ?_
      exact wp_iret dX6_town_105 rfl ⟨_, rfl, rfl, rfl, rfl, h⟩
  · replace h := h.2 hc
    refine wp_aload_n dX6_town_58 rfl ?_
    refine wp_geti dX6_town_59 fk6_125 (tb_214 hT) (tk_214 hT) rfl ?_
    refine wp_aload_n dX6_town_62 rfl ?_
    refine wp_geti dX6_town_63 fk6_128 (tb_214 hT) (tk_214 hT) rfl ?_
    refine wp_icmp_ge 92 dX6_town_66 (by decide) (fun hc => ?_) (fun hc => ?_)
    · replace h := h.1 hc
      refine wp_aload_n dX6_town_92 rfl ?_
      refine wp_iconst (v := 0) dX6_town_93 rfl ?_
      refine wp_puti dX6_town_94 fp6_117 (tb_214 hT) (tk_214 hT) rfl ?_
      refine wp_iload_n dX6_town_97 rfl ?_
      refine wp_if_ne 106 dX6_town_98 (by decide) (fun hc => ?_) (fun hc => ?_)
      · replace h := h.1 hc
        refine wp_iconst (v := 0) dX6_town_106 rfl ?_
        refine wi6_4 dX6_town_107 ?_
        refine wp_iconst (v := 0) dX6_town_109 rfl ?_
        refine wi6_5 dX6_town_110 ?_
        exact wp_drop [some (vr 214), none, none, none, some (vi 0), some (vi 0)] ⟨rfl, ⟨rfl, ⟨rfl, trivial⟩⟩⟩ h
      · replace h := h.2 hc
        refine wp_aload_n dX6_town_101 rfl ?_
        refine wp_geti dX6_town_102 fk6_135 (tb_214 hT) (tk_214 hT) rfl ?_
        exact wp_iret dX6_town_105 rfl ⟨_, rfl, rfl, rfl, rfl, h⟩
    · replace h := h.2 (Int32.not_le.mp hc)
      refine wp_aload_n dX6_town_69 rfl ?_
      refine wp_aload_n dX6_town_70 rfl ?_
      refine wp_geti dX6_town_71 fk6_125 (tb_214 hT) (tk_214 hT) rfl ?_
      refine wp_iconst (v := 1) dX6_town_74 rfl ?_
      refine wp_iadd dX6_town_75 ?_
      refine wp_puti dX6_town_76 fp6_125 (tb_214 hT) (tk_214 hT) rfl ?_
      refine wp_aload_n dX6_town_79 rfl ?_
      refine wp_iload_n dX6_town_80 rfl ?_
      refine wq_VI1 lk6_235 rfl (tb_214 hT) (tk_214 hT) dX6_town_81 h (rmQ_ok (by decide) (by decide)) ⟨Nat.le_refl _, Nat.le_refl _⟩ (Nat.le_of_ble_eq_true rfl) (fun r81 V81 h => ?_)
      refine wi6_3 dX6_town_84 ?_
      refine wp_iload_n dX6_town_85 rfl ?_
      refine wp_iconst (v := 1) dX6_town_86 rfl ?_
      refine wp_iadd dX6_town_87 ?_
      refine wi6_2 dX6_town_88 ?_
      refine wp_goto 54 dX6_town_89 (by decide) ?_
      exact h
theorem b6_town_112 {E : eT} {Q : Int32 → vT → Prop} {V : vT} {x4 x5 : Int32} (hT : TW E) (h : (96 ≤ x5 → Q x4 V) ∧ (x5 < 96 → vp_in x5 96 ∧ (vp_in x5 96 ∧ (c6_becomesWhole E x5 (up2 V 218 (x5.toNatClampNeg) (V 234 ((x5).toNatClampNeg))) (fun V136 => c6_isWood E x5 V136 (fun r142 V142 => (r142 = 0 → w6_town E Q 112 [some (vr 214), none, none, none, some (vi x4), some (vi (x5 + 1))] [] V142) ∧ (¬ r142 = 0 → w6_town E Q 112 [some (vr 214), none, none, none, some (vi (x4 + 1)), some (vi (x5 + 1))] [] V142))))))) : w6_town E Q 112 [some (vr 214), none, none, none, some (vi x4), some (vi x5)] [] V := by
  refine wp_iload dX6_town_112 rfl ?_
  refine wp_bipush (v := 96) dX6_town_114 rfl ?_
  refine wp_icmp_ge 160 dX6_town_116 (by decide) (fun hc => ?_) (fun hc => ?_)
  · replace h := h.1 hc
    refine wp_iload dX6_town_160 rfl ?_
    exact wp_iret dX6_town_162 rfl ⟨_, rfl, rfl, rfl, rfl, h⟩
  · replace h := h.2 (Int32.not_le.mp hc)
    refine wp_aload_n dX6_town_119 rfl ?_
    refine wp_getrs dX6_town_120 fk6_19 (tb_214 hT) (tk_214 hT) rfl (tr_3 hT) ?_
    refine wp_iload dX6_town_123 rfl ?_
    refine wp_aload_n dX6_town_125 rfl ?_
    refine wp_getrs dX6_town_126 fk6_68 (tb_214 hT) (tk_214 hT) rfl (tr_29 hT) ?_
    refine wp_iload dX6_town_129 rfl ?_
    refine wp_iald dX6_town_131 (tb_234 hT).2 (tk_234 hT) h.1 ?_
    replace h := h.2
    refine wp_iast dX6_town_132 (tb_218 hT) (tk_218 hT) h.1 ?_
    replace h := h.2
    refine wp_aload_n dX6_town_133 rfl ?_
    refine wp_iload dX6_town_134 rfl ?_
    refine wq_VV1 lk6_238 rfl (tb_214 hT) (tk_214 hT) dX6_town_136 h (rmQ_ok (by decide) (by decide)) ⟨Nat.le_refl _, Nat.le_refl _⟩ (Nat.le_of_ble_eq_true rfl) (fun V136 h => ?_)
    refine wp_aload_n dX6_town_139 rfl ?_
    refine wp_iload dX6_town_140 rfl ?_
    refine wq_VI1 lk6_241 rfl (tb_214 hT) (tk_214 hT) dX6_town_142 h (rmQ_ok (by decide) (by decide)) ⟨Nat.le_refl _, Nat.le_refl _⟩ (Nat.le_of_ble_eq_true rfl) (fun r142 V142 h => ?_)
    refine wp_if_eq 154 dX6_town_145 (by decide) (fun hc => ?_) (fun hc => ?_)
    · replace h := h.1 hc
      refine wc6_5 1 dX6_town_154 rfl ?_
      refine wp_goto 112 dX6_town_157 (by decide) ?_
      exact h
    · replace h := h.2 hc
      refine wp_iload dX6_town_148 rfl ?_
      refine wp_iconst (v := 1) dX6_town_150 rfl ?_
      refine wp_iadd dX6_town_151 ?_
      refine wi6_4 dX6_town_152 ?_
      refine wc6_5 1 dX6_town_154 rfl ?_
      refine wp_goto 112 dX6_town_157 (by decide) ?_
      exact h
theorem n6_town {E : eT} {Q : Int32 → vT → Prop} {V : vT} {x1 : Int32} (h : w6_town E Q 0 [some (vr 214), some (vi x1), none, none, none, none] [] V) : c6_town E x1 V Q := MOk.enter [some (vr 214), some (vi x1), none, none, none, none] pn_6 rfl rfl (Nat.le_of_ble_eq_true rfl) rfl h
theorem b6_readsRow_0 {E : eT} {Q : Int32 → vT → Prop} {V : vT} {x1 : Int32} (hT : TW E) (h : (¬ x1 = 8 → w6_readsRow E Q 27 [some (vr 214), some (vi x1), some (vi 0), some (vi 1), none, none, none, none] [] V) ∧ (x1 = 8 → c6_canBeginRow E V (fun r7 V7 => (r7 = 0 → w6_readsRow E Q 27 [some (vr 214), some (vi x1), some (vi 0), some (vi 1), none, none, none, none] [] V7) ∧ (¬ r7 = 0 → c6_wrongAt E 4 (V7 214 7) V7 (fun r19 V19 => (r19 = 0 ∨ r19 = 1) ∧ Q r19 V19))))) : w6_readsRow E Q 0 [some (vr 214), some (vi x1), none, none, none, none, none, none] [] V := by
  refine wp_iload_n dX6_readsRow_0 rfl ?_
  refine wp_bipush (v := 8) dX6_readsRow_1 rfl ?_
  refine wp_icmp_ne 23 dX6_readsRow_3 (by decide) (fun hc => ?_) (fun hc => ?_)
  · replace h := h.1 hc
    refine wp_iconst (v := 0) dX6_readsRow_23 rfl ?_
    refine wi8_2 dX6_readsRow_24 ?_
    refine wp_iconst (v := 1) dX6_readsRow_25 rfl ?_
    refine wi8_3 dX6_readsRow_26 ?_
    exact h
  · replace h := h.2 hc
    refine wp_aload_n dX6_readsRow_6 rfl ?_
    refine wq_VI0 lk6_232 rfl (tb_214 hT) (tk_214 hT) dX6_readsRow_7 h (rmQ_ok (by decide) (by decide)) ⟨Nat.le_refl _, Nat.le_refl _⟩ (Nat.le_of_ble_eq_true rfl) (fun r7 V7 h => ?_)
    refine wp_if_eq 23 dX6_readsRow_10 (by decide) (fun hc => ?_) (fun hc => ?_)
    · replace h := h.1 hc
      refine wp_iconst (v := 0) dX6_readsRow_23 rfl ?_
      refine wi8_2 dX6_readsRow_24 ?_
      refine wp_iconst (v := 1) dX6_readsRow_25 rfl ?_
      refine wi8_3 dX6_readsRow_26 ?_
      exact h
    · replace h := h.2 hc
      refine wp_aload_n dX6_readsRow_13 rfl ?_
      refine wp_iconst (v := 4) dX6_readsRow_14 rfl ?_
      refine wp_aload_n dX6_readsRow_15 rfl ?_
      refine wp_geti dX6_readsRow_16 fk6_125 (tb_214 hT) (tk_214 hT) rfl ?_
      refine wq_VI2 lk6_138 rfl (tb_214 hT) (tk_214 hT) dX6_readsRow_19 h (rmQ_ok (by decide) (by decide)) ⟨Nat.le_refl _, Nat.le_refl _⟩ (Nat.le_of_ble_eq_true rfl) (fun r19 V19 h => ?_)
      exact wp_iret dX6_readsRow_22 (by rcases h.1 with q9 | q9 <;> rw [q9] <;> rfl) ⟨_, rfl, rfl, rfl, rfl, h.2⟩
theorem b6_readsRow_27 {E : eT} {Q : Int32 → vT → Prop} {V : vT} {x1 x2 x3 : Int32} (hT : TW E) (h : (x3 = 0 → Q 1 V) ∧ (¬ x3 = 0 → c6_here E V (fun r41 V41 => c6_in E r41 50 57 V41 (fun r48 V48 => (r48 = 0 → c6_here E V48 (fun r74 V74 => c6_kindBy E r74 V74 (fun r77 V77 => (¬ r77 = (-1) → ((x2 + 1) ≤ 12 → w6_readsRow E Q 129 [some (vr 214), some (vi x1), some (vi x2), none, none, some (vi 1), some (vi r77), some (vi 0)] [] (up2 V77 214 7 ((V77 214 7) + 1))) ∧ (12 < (x2 + 1) → c6_wrongAt E 6 (V 214 7) V77 (fun r112 V112 => (r112 = 0 ∨ r112 = 1) ∧ Q r112 V112))) ∧ (r77 = (-1) → c6_wrongAt E 1 (V77 214 7) V77 (fun r94 V94 => (r94 = 0 ∨ r94 = 1) ∧ Q r94 V94))))) ∧ (¬ r48 = 0 → c6_here E V48 (fun r55 V55 => c6_here E (up2 V55 214 7 ((V55 214 7) + 1)) (fun r74' V74' => c6_kindBy E r74' V74' (fun r77' V77' => (¬ r77' = (-1) → ((x2 + (r55 - 48)) ≤ 12 → w6_readsRow E Q 129 [some (vr 214), some (vi x1), some (vi x2), none, none, some (vi (r55 - 48)), some (vi r77'), some (vi 0)] [] (up2 V77' 214 7 ((V77' 214 7) + 1))) ∧ (12 < (x2 + (r55 - 48)) → c6_wrongAt E 6 (V 214 7) V77' (fun r112' V112' => (r112' = 0 ∨ r112' = 1) ∧ Q r112' V112'))) ∧ (r77' = (-1) → c6_wrongAt E 1 (V77' 214 7) V77' (fun r94' V94' => (r94' = 0 ∨ r94' = 1) ∧ Q r94' V94')))))))))) : w6_readsRow E Q 27 [some (vr 214), some (vi x1), some (vi x2), some (vi x3), none, none, none, none] [] V := by
  refine wp_iload_n dX6_readsRow_27 rfl ?_
  refine wp_if_eq 192 dX6_readsRow_28 (by decide) (fun hc => ?_) (fun hc => ?_)
  · replace h := h.1 hc
    refine wp_iconst (v := 1) dX6_readsRow_192 rfl ?_
    exact wp_iret dX6_readsRow_193 rfl ⟨_, rfl, rfl, rfl, rfl, h⟩
  · replace h := h.2 hc
    refine wp_aload_n dX6_readsRow_31 rfl ?_
    refine wp_geti dX6_readsRow_32 fk6_125 (tb_214 hT) (tk_214 hT) rfl ?_
    refine wi8_4 dX6_readsRow_35 ?_
    refine wp_iconst (v := 1) dX6_readsRow_37 rfl ?_
    refine wi8_5 dX6_readsRow_38 ?_
    refine wp_aload_n dX6_readsRow_40 rfl ?_
    refine wq_VI0 lk6_131 rfl (tb_214 hT) (tk_214 hT) dX6_readsRow_41 h (rmQ_ok (by decide) (by decide)) ⟨Nat.le_refl _, Nat.le_refl _⟩ (Nat.le_of_ble_eq_true rfl) (fun r41 V41 h => ?_)
    refine wp_bipush (v := 50) dX6_readsRow_44 rfl ?_
    refine wp_bipush (v := 57) dX6_readsRow_46 rfl ?_
    refine wq_SI3 lk6_102 dX6_readsRow_48 h (rmQ_ok (by decide) (by decide)) ⟨Nat.le_refl _, Nat.le_refl _⟩ (Nat.le_of_ble_eq_true rfl) (fun r48 V48 h => ?_)
    refine wp_if_eq 73 dX6_readsRow_51 (by decide) (fun hc => ?_) (fun hc => ?_)
    · replace h := h.1 hc
      refine wp_aload_n dX6_readsRow_73 rfl ?_
      refine wq_VI0 lk6_131 rfl (tb_214 hT) (tk_214 hT) dX6_readsRow_74 h (rmQ_ok (by decide) (by decide)) ⟨Nat.le_refl _, Nat.le_refl _⟩ (Nat.le_of_ble_eq_true rfl) (fun r74 V74 h => ?_)
      refine wq_SI1 lk6_229 dX6_readsRow_77 h (rmQ_ok (by decide) (by decide)) ⟨Nat.le_refl _, Nat.le_refl _⟩ (Nat.le_of_ble_eq_true rfl) (fun r77 V77 h => ?_)
      refine wi8_6 dX6_readsRow_80 ?_
      refine wp_iload dX6_readsRow_82 rfl ?_
      refine wp_iconst (v := (-1)) dX6_readsRow_84 rfl ?_
      refine wp_icmp_ne 98 dX6_readsRow_85 (by decide) (fun hc => ?_) (fun hc => ?_)
      · replace h := h.1 hc
        refine wp_iload_n dX6_readsRow_98 rfl ?_
        refine wp_iload dX6_readsRow_99 rfl ?_
        refine wp_iadd dX6_readsRow_101 ?_
        refine wp_bipush (v := 12) dX6_readsRow_102 rfl ?_
        refine wp_icmp_le 116 dX6_readsRow_104 (by decide) (fun hc => ?_) (fun hc => ?_)
        · replace h := h.1 hc
          refine wp_aload_n dX6_readsRow_116 rfl ?_
          refine wp_aload_n dX6_readsRow_117 rfl ?_
          refine wp_geti dX6_readsRow_118 fk6_125 (tb_214 hT) (tk_214 hT) rfl ?_
          refine wp_iconst (v := 1) dX6_readsRow_121 rfl ?_
          refine wp_iadd dX6_readsRow_122 ?_
          refine wp_puti dX6_readsRow_123 fp6_125 (tb_214 hT) (tk_214 hT) rfl ?_
          refine wp_iconst (v := 0) dX6_readsRow_126 rfl ?_
          refine wi8_7 dX6_readsRow_127 ?_
          exact wp_drop [some (vr 214), some (vi x1), some (vi x2), none, none, some (vi 1), some (vi r77), some (vi 0)] ⟨rfl, ⟨rfl, ⟨rfl, ⟨rfl, ⟨rfl, ⟨rfl, trivial⟩⟩⟩⟩⟩⟩ h
        · replace h := h.2 (Int32.not_le.mp hc)
          refine wp_aload_n dX6_readsRow_107 rfl ?_
          refine wp_bipush (v := 6) dX6_readsRow_108 rfl ?_
          refine wp_iload dX6_readsRow_110 rfl ?_
          refine wq_VI2 lk6_138 rfl (tb_214 hT) (tk_214 hT) dX6_readsRow_112 h (rmQ_ok (by decide) (by decide)) ⟨Nat.le_refl _, Nat.le_refl _⟩ (Nat.le_of_ble_eq_true rfl) (fun r112 V112 h => ?_)
          exact wp_iret dX6_readsRow_115 (by rcases h.1 with q9 | q9 <;> rw [q9] <;> rfl) ⟨_, rfl, rfl, rfl, rfl, h.2⟩
      · replace h := h.2 hc
        refine wp_aload_n dX6_readsRow_88 rfl ?_
        refine wp_iconst (v := 1) dX6_readsRow_89 rfl ?_
        refine wp_aload_n dX6_readsRow_90 rfl ?_
        refine wp_geti dX6_readsRow_91 fk6_125 (tb_214 hT) (tk_214 hT) rfl ?_
        refine wq_VI2 lk6_138 rfl (tb_214 hT) (tk_214 hT) dX6_readsRow_94 h (rmQ_ok (by decide) (by decide)) ⟨Nat.le_refl _, Nat.le_refl _⟩ (Nat.le_of_ble_eq_true rfl) (fun r94 V94 h => ?_)
        exact wp_iret dX6_readsRow_97 (by rcases h.1 with q9 | q9 <;> rw [q9] <;> rfl) ⟨_, rfl, rfl, rfl, rfl, h.2⟩
    · replace h := h.2 hc
      refine wp_aload_n dX6_readsRow_54 rfl ?_
      refine wq_VI0 lk6_131 rfl (tb_214 hT) (tk_214 hT) dX6_readsRow_55 h (rmQ_ok (by decide) (by decide)) ⟨Nat.le_refl _, Nat.le_refl _⟩ (Nat.le_of_ble_eq_true rfl) (fun r55 V55 h => ?_)
      refine wp_bipush (v := 48) dX6_readsRow_58 rfl ?_
      refine wp_isub dX6_readsRow_60 ?_
      refine wi8_5 dX6_readsRow_61 ?_
      refine wp_aload_n dX6_readsRow_63 rfl ?_
      refine wp_aload_n dX6_readsRow_64 rfl ?_
      refine wp_geti dX6_readsRow_65 fk6_125 (tb_214 hT) (tk_214 hT) rfl ?_
      refine wp_iconst (v := 1) dX6_readsRow_68 rfl ?_
      refine wp_iadd dX6_readsRow_69 ?_
      refine wp_puti dX6_readsRow_70 fp6_125 (tb_214 hT) (tk_214 hT) rfl ?_
      refine wp_aload_n dX6_readsRow_73 rfl ?_
      refine wq_VI0 lk6_131 rfl (tb_214 hT) (tk_214 hT) dX6_readsRow_74 h (rmQ_ok (by decide) (by decide)) ⟨Nat.le_refl _, Nat.le_refl _⟩ (Nat.le_of_ble_eq_true rfl) (fun r74' V74' h => ?_)
      refine wq_SI1 lk6_229 dX6_readsRow_77 h (rmQ_ok (by decide) (by decide)) ⟨Nat.le_refl _, Nat.le_refl _⟩ (Nat.le_of_ble_eq_true rfl) (fun r77' V77' h => ?_)
      refine wi8_6 dX6_readsRow_80 ?_
      refine wp_iload dX6_readsRow_82 rfl ?_
      refine wp_iconst (v := (-1)) dX6_readsRow_84 rfl ?_
      refine wp_icmp_ne 98 dX6_readsRow_85 (by decide) (fun hc => ?_) (fun hc => ?_)
      · replace h := h.1 hc
        refine wp_iload_n dX6_readsRow_98 rfl ?_
        refine wp_iload dX6_readsRow_99 rfl ?_
        refine wp_iadd dX6_readsRow_101 ?_
        refine wp_bipush (v := 12) dX6_readsRow_102 rfl ?_
        refine wp_icmp_le 116 dX6_readsRow_104 (by decide) (fun hc => ?_) (fun hc => ?_)
        · replace h := h.1 hc
          refine wp_aload_n dX6_readsRow_116 rfl ?_
          refine wp_aload_n dX6_readsRow_117 rfl ?_
          refine wp_geti dX6_readsRow_118 fk6_125 (tb_214 hT) (tk_214 hT) rfl ?_
          refine wp_iconst (v := 1) dX6_readsRow_121 rfl ?_
          refine wp_iadd dX6_readsRow_122 ?_
          refine wp_puti dX6_readsRow_123 fp6_125 (tb_214 hT) (tk_214 hT) rfl ?_
          refine wp_iconst (v := 0) dX6_readsRow_126 rfl ?_
          refine wi8_7 dX6_readsRow_127 ?_
          exact wp_drop [some (vr 214), some (vi x1), some (vi x2), none, none, some (vi (r55 - 48)), some (vi r77'), some (vi 0)] ⟨rfl, ⟨rfl, ⟨rfl, ⟨rfl, ⟨rfl, ⟨rfl, trivial⟩⟩⟩⟩⟩⟩ h
        · replace h := h.2 (Int32.not_le.mp hc)
          refine wp_aload_n dX6_readsRow_107 rfl ?_
          refine wp_bipush (v := 6) dX6_readsRow_108 rfl ?_
          refine wp_iload dX6_readsRow_110 rfl ?_
          refine wq_VI2 lk6_138 rfl (tb_214 hT) (tk_214 hT) dX6_readsRow_112 h (rmQ_ok (by decide) (by decide)) ⟨Nat.le_refl _, Nat.le_refl _⟩ (Nat.le_of_ble_eq_true rfl) (fun r112' V112' h => ?_)
          exact wp_iret dX6_readsRow_115 (by rcases h.1 with q9 | q9 <;> rw [q9] <;> rfl) ⟨_, rfl, rfl, rfl, rfl, h.2⟩
      · replace h := h.2 hc
        refine wp_aload_n dX6_readsRow_88 rfl ?_
        refine wp_iconst (v := 1) dX6_readsRow_89 rfl ?_
        refine wp_aload_n dX6_readsRow_90 rfl ?_
        refine wp_geti dX6_readsRow_91 fk6_125 (tb_214 hT) (tk_214 hT) rfl ?_
        refine wq_VI2 lk6_138 rfl (tb_214 hT) (tk_214 hT) dX6_readsRow_94 h (rmQ_ok (by decide) (by decide)) ⟨Nat.le_refl _, Nat.le_refl _⟩ (Nat.le_of_ble_eq_true rfl) (fun r94' V94' h => ?_)
        exact wp_iret dX6_readsRow_97 (by rcases h.1 with q9 | q9 <;> rw [q9] <;> rfl) ⟨_, rfl, rfl, rfl, rfl, h.2⟩
theorem b6_readsRow_129 {E : eT} {Q : Int32 → vT → Prop} {V : vT} {x1 x2 x5 x6 x7 : Int32} (hT : TW E) (h : (x5 ≤ x7 → ((V 214 8) ≤ (V 214 7) → w6_readsRow E Q 27 [some (vr 214), some (vi x1), some (vi (x2 + x5)), some (vi 0), none, none, none, none] [] V) ∧ ((V 214 7) < (V 214 8) → c6_here E V (fun r175 V175 => (r175 = 47 → w6_readsRow E Q 27 [some (vr 214), some (vi x1), some (vi (x2 + x5)), some (vi 0), none, none, none, none] [] V175) ∧ (¬ r175 = 47 → w6_readsRow E Q 27 [some (vr 214), some (vi x1), some (vi (x2 + x5)), some (vi 1), none, none, none, none] [] V175)))) ∧ (x7 < x5 → vp_in (((12 * x1) + x2) + x7) 96 ∧ (w6_readsRow E Q 129 [some (vr 214), some (vi x1), some (vi x2), none, none, some (vi x5), some (vi x6), some (vi (x7 + 1))] [] (up2 V 234 ((((12 * x1) + x2) + x7).toNatClampNeg) x6)))) : w6_readsRow E Q 129 [some (vr 214), some (vi x1), some (vi x2), none, none, some (vi x5), some (vi x6), some (vi x7)] [] V := by
  refine wp_iload dX6_readsRow_129 rfl ?_
  refine wp_iload dX6_readsRow_131 rfl ?_
  refine wp_icmp_ge 158 dX6_readsRow_133 (by decide) (fun hc => ?_) (fun hc => ?_)
  · replace h := h.1 hc
    refine wp_iload_n dX6_readsRow_158 rfl ?_
    refine wp_iload dX6_readsRow_159 rfl ?_
    refine wp_iadd dX6_readsRow_161 ?_
    refine wi8_2 dX6_readsRow_162 ?_
    refine wp_aload_n dX6_readsRow_163 rfl ?_
    refine wp_geti dX6_readsRow_164 fk6_125 (tb_214 hT) (tk_214 hT) rfl ?_
    refine wp_aload_n dX6_readsRow_167 rfl ?_
    refine wp_geti dX6_readsRow_168 fk6_128 (tb_214 hT) (tk_214 hT) rfl ?_
    refine wp_icmp_ge 187 dX6_readsRow_171 (by decide) (fun hc => ?_) (fun hc => ?_)
    · replace h := h.1 hc
      refine wp_iconst (v := 0) dX6_readsRow_187 rfl ?_
      refine wi8_3 dX6_readsRow_188 ?_
      refine wp_goto 27 dX6_readsRow_189 (by decide) ?_
      exact wp_drop [some (vr 214), some (vi x1), some (vi (x2 + x5)), some (vi 0), none, none, none, none] ⟨rfl, ⟨rfl, ⟨rfl, ⟨rfl, trivial⟩⟩⟩⟩ h
    · replace h := h.2 (Int32.not_le.mp hc)
      refine wp_aload_n dX6_readsRow_174 rfl ?_
      refine wq_VI0 lk6_131 rfl (tb_214 hT) (tk_214 hT) dX6_readsRow_175 h (rmQ_ok (by decide) (by decide)) ⟨Nat.le_refl _, Nat.le_refl _⟩ (Nat.le_of_ble_eq_true rfl) (fun r175 V175 h => ?_)
      refine wp_bipush (v := 47) dX6_readsRow_178 rfl ?_
      refine wp_icmp_eq 187 dX6_readsRow_180 (by decide) (fun hc => ?_) (fun hc => ?_)
      · replace h := h.1 hc
        refine wp_iconst (v := 0) dX6_readsRow_187 rfl ?_
        refine wi8_3 dX6_readsRow_188 ?_
        refine wp_goto 27 dX6_readsRow_189 (by decide) ?_
        exact wp_drop [some (vr 214), some (vi x1), some (vi (x2 + x5)), some (vi 0), none, none, none, none] ⟨rfl, ⟨rfl, ⟨rfl, ⟨rfl, trivial⟩⟩⟩⟩ h
      · replace h := h.2 hc
        refine wp_iconst (v := 1) dX6_readsRow_183 rfl ?_
        refine wp_goto 188 dX6_readsRow_184 (by decide) ?_
        refine wi8_3 dX6_readsRow_188 ?_
        refine wp_goto 27 dX6_readsRow_189 (by decide) ?_
        exact wp_drop [some (vr 214), some (vi x1), some (vi (x2 + x5)), some (vi 1), none, none, none, none] ⟨rfl, ⟨rfl, ⟨rfl, ⟨rfl, trivial⟩⟩⟩⟩ h
  · replace h := h.2 (Int32.not_le.mp hc)
    refine wp_aload_n dX6_readsRow_136 rfl ?_
    refine wp_getrs dX6_readsRow_137 fk6_68 (tb_214 hT) (tk_214 hT) rfl (tr_29 hT) ?_
    refine wp_bipush (v := 12) dX6_readsRow_140 rfl ?_
    refine wp_iload_n dX6_readsRow_142 rfl ?_
    refine wp_imul dX6_readsRow_143 ?_
    refine wp_iload_n dX6_readsRow_144 rfl ?_
    refine wp_iadd dX6_readsRow_145 ?_
    refine wp_iload dX6_readsRow_146 rfl ?_
    refine wp_iadd dX6_readsRow_148 ?_
    refine wp_iload dX6_readsRow_149 rfl ?_
    refine wp_iast dX6_readsRow_151 (tb_234 hT) (tk_234 hT) h.1 ?_
    replace h := h.2
    refine wc8_7 1 dX6_readsRow_152 rfl ?_
    refine wp_goto 129 dX6_readsRow_155 (by decide) ?_
    exact h
theorem n6_readsRow {E : eT} {Q : Int32 → vT → Prop} {V : vT} {x1 : Int32} (h : w6_readsRow E Q 0 [some (vr 214), some (vi x1), none, none, none, none, none, none] [] V) : c6_readsRow E x1 V Q := MOk.enter [some (vr 214), some (vi x1), none, none, none, none, none, none] pn_6 rfl rfl (Nat.le_of_ble_eq_true rfl) rfl h
theorem b6_canBeginRow_0 {E : eT} {Q : Int32 → vT → Prop} {V : vT} (hT : TW E) (h : c6_here E V (fun r1 V1 => c6_in E r1 50 57 V1 (fun r8 V8 => (¬ r8 = 0 → Q 1 V8) ∧ (r8 = 0 → c6_here E V8 (fun r15 V15 => c6_kindBy E r15 V15 (fun r18 V18 => (r18 = (-1) → Q 0 V18) ∧ (¬ r18 = (-1) → Q 1 V18))))))) : w6_canBeginRow E Q 0 [some (vr 214)] [] V := by
  refine wp_aload_n dX6_canBeginRow_0 rfl ?_
  refine wq_VI0 lk6_131 rfl (tb_214 hT) (tk_214 hT) dX6_canBeginRow_1 h (rmQ_ok (by decide) (by decide)) ⟨Nat.le_refl _, Nat.le_refl _⟩ (Nat.le_of_ble_eq_true rfl) (fun r1 V1 h => ?_)
  refine wp_bipush (v := 50) dX6_canBeginRow_4 rfl ?_
  refine wp_bipush (v := 57) dX6_canBeginRow_6 rfl ?_
  refine wq_SI3 lk6_102 dX6_canBeginRow_8 h (rmQ_ok (by decide) (by decide)) ⟨Nat.le_refl _, Nat.le_refl _⟩ (Nat.le_of_ble_eq_true rfl) (fun r8 V8 h => ?_)
  refine wp_if_ne 25 dX6_canBeginRow_11 (by decide) (fun hc => ?_) (fun hc => ?_)
  · replace h := h.1 hc
    refine wp_iconst (v := 1) dX6_canBeginRow_25 rfl ?_
    refine wp_goto 30 dX6_canBeginRow_26 (by decide) ?_
    exact wp_iret dX6_canBeginRow_30 rfl ⟨_, rfl, rfl, rfl, rfl, h⟩
  · replace h := h.2 hc
    refine wp_aload_n dX6_canBeginRow_14 rfl ?_
    refine wq_VI0 lk6_131 rfl (tb_214 hT) (tk_214 hT) dX6_canBeginRow_15 h (rmQ_ok (by decide) (by decide)) ⟨Nat.le_refl _, Nat.le_refl _⟩ (Nat.le_of_ble_eq_true rfl) (fun r15 V15 h => ?_)
    refine wq_SI1 lk6_229 dX6_canBeginRow_18 h (rmQ_ok (by decide) (by decide)) ⟨Nat.le_refl _, Nat.le_refl _⟩ (Nat.le_of_ble_eq_true rfl) (fun r18 V18 h => ?_)
    refine wp_iconst (v := (-1)) dX6_canBeginRow_21 rfl ?_
    refine wp_icmp_eq 29 dX6_canBeginRow_22 (by decide) (fun hc => ?_) (fun hc => ?_)
    · replace h := h.1 hc
      refine wp_iconst (v := 0) dX6_canBeginRow_29 rfl ?_
      exact wp_iret dX6_canBeginRow_30 rfl ⟨_, rfl, rfl, rfl, rfl, h⟩
    · replace h := h.2 hc
      refine wp_iconst (v := 1) dX6_canBeginRow_25 rfl ?_
      refine wp_goto 30 dX6_canBeginRow_26 (by decide) ?_
      exact wp_iret dX6_canBeginRow_30 rfl ⟨_, rfl, rfl, rfl, rfl, h⟩
theorem n6_canBeginRow {E : eT} {Q : Int32 → vT → Prop} {V : vT} (h : w6_canBeginRow E Q 0 [some (vr 214)] [] V) : c6_canBeginRow E V Q := MOk.enter [some (vr 214)] pn_6 rfl rfl (Nat.le_of_ble_eq_true rfl) rfl h
theorem b6_kindBy_0 {E : eT} {Q : Int32 → vT → Prop} {V : vT} {x1 : Int32} (hT : TW E) (h : (¬ x1 = 46 → (¬ x1 = 35 → (¬ x1 = 43 → (¬ x1 = 126 → Q (-1) V) ∧ (x1 = 126 → Q 3 V)) ∧ (x1 = 43 → Q 2 V)) ∧ (x1 = 35 → Q 1 V)) ∧ (x1 = 46 → Q 0 V)) : w6_kindBy E Q 0 [some (vi x1)] [] V := by
  refine wp_iload_n dX6_kindBy_0 rfl ?_
  refine wp_bipush (v := 46) dX6_kindBy_1 rfl ?_
  refine wp_icmp_ne 10 dX6_kindBy_3 (by decide) (fun hc => ?_) (fun hc => ?_)
  · replace h := h.1 hc
    refine wp_iload_n dX6_kindBy_10 rfl ?_
    refine wp_bipush (v := 35) dX6_kindBy_11 rfl ?_
    refine wp_icmp_ne 20 dX6_kindBy_13 (by decide) (fun hc => ?_) (fun hc => ?_)
    · replace h := h.1 hc
      refine wp_iload_n dX6_kindBy_20 rfl ?_
      refine wp_bipush (v := 43) dX6_kindBy_21 rfl ?_
      refine wp_icmp_ne 30 dX6_kindBy_23 (by decide) (fun hc => ?_) (fun hc => ?_)
      · replace h := h.1 hc
        refine wp_iload_n dX6_kindBy_30 rfl ?_
        refine wp_bipush (v := 126) dX6_kindBy_31 rfl ?_
        refine wp_icmp_ne 40 dX6_kindBy_33 (by decide) (fun hc => ?_) (fun hc => ?_)
        · replace h := h.1 hc
          refine wp_iconst (v := (-1)) dX6_kindBy_40 rfl ?_
          exact wp_iret dX6_kindBy_41 rfl ⟨_, rfl, rfl, rfl, rfl, h⟩
        · replace h := h.2 hc
          refine wp_iconst (v := 3) dX6_kindBy_36 rfl ?_
          refine wp_goto 41 dX6_kindBy_37 (by decide) ?_
          exact wp_iret dX6_kindBy_41 rfl ⟨_, rfl, rfl, rfl, rfl, h⟩
      · replace h := h.2 hc
        refine wp_iconst (v := 2) dX6_kindBy_26 rfl ?_
        refine wp_goto 41 dX6_kindBy_27 (by decide) ?_
        exact wp_iret dX6_kindBy_41 rfl ⟨_, rfl, rfl, rfl, rfl, h⟩
    · replace h := h.2 hc
      refine wp_iconst (v := 1) dX6_kindBy_16 rfl ?_
      refine wp_goto 41 dX6_kindBy_17 (by decide) ?_
      exact wp_iret dX6_kindBy_41 rfl ⟨_, rfl, rfl, rfl, rfl, h⟩
  · replace h := h.2 hc
    refine wp_iconst (v := 0) dX6_kindBy_6 rfl ?_
    refine wp_goto 41 dX6_kindBy_7 (by decide) ?_
    exact wp_iret dX6_kindBy_41 rfl ⟨_, rfl, rfl, rfl, rfl, h⟩
theorem n6_kindBy {E : eT} {Q : Int32 → vT → Prop} {V : vT} {x1 : Int32} (h : w6_kindBy E Q 0 [some (vi x1)] [] V) : c6_kindBy E x1 V Q := MOk.enter [some (vi x1)] pn_6 rfl rfl (Nat.le_of_ble_eq_true rfl) rfl h
theorem b6_becomesWhole_0 {E : eT} {Q : vT → Prop} {V : vT} {x1 : Int32} (hT : TW E) (h : vp_in (0 + x1) 315 ∧ (vp_in (96 + x1) 315 ∧ (Q (up2 (up2 V 215 ((0 + x1).toNatClampNeg) 0) 215 ((96 + x1).toNatClampNeg) 0)))) : w6_becomesWhole E Q 0 [some (vr 214), some (vi x1)] [] V := by
  refine wp_aload_n dX6_becomesWhole_0 rfl ?_
  refine wp_getrs dX6_becomesWhole_1 fk6_7 (tb_214 hT) (tk_214 hT) rfl (tr_0 hT) ?_
  refine wp_iconst (v := 0) dX6_becomesWhole_4 rfl ?_
  refine wp_iload_n dX6_becomesWhole_5 rfl ?_
  refine wp_iadd dX6_becomesWhole_6 ?_
  refine wp_iconst (v := 0) dX6_becomesWhole_7 rfl ?_
  refine wp_iast dX6_becomesWhole_8 (tb_215 hT) (tk_215 hT) h.1 ?_
  replace h := h.2
  refine wp_aload_n dX6_becomesWhole_9 rfl ?_
  refine wp_getrs dX6_becomesWhole_10 fk6_7 (tb_214 hT) (tk_214 hT) rfl (tr_0 hT) ?_
  refine wp_bipush (v := 96) dX6_becomesWhole_13 rfl ?_
  refine wp_iload_n dX6_becomesWhole_15 rfl ?_
  refine wp_iadd dX6_becomesWhole_16 ?_
  refine wp_iconst (v := 0) dX6_becomesWhole_17 rfl ?_
  refine wp_iast dX6_becomesWhole_18 (tb_215 hT) (tk_215 hT) h.1 ?_
  replace h := h.2
  exact wp_vret dX6_becomesWhole_19 ⟨rfl, rfl, rfl, rfl, h⟩
theorem n6_becomesWhole {E : eT} {Q : vT → Prop} {V : vT} {x1 : Int32} (h : w6_becomesWhole E Q 0 [some (vr 214), some (vi x1)] [] V) : c6_becomesWhole E x1 V Q := MOk.enter [some (vr 214), some (vi x1)] pn_6 rfl rfl (Nat.le_of_ble_eq_true rfl) rfl h
theorem b6_isWood_0 {E : eT} {Q : Int32 → vT → Prop} {V : vT} {x1 : Int32} (hT : TW E) (h : c6_isPlace E x1 V (fun r1 V1 => (r1 = 0 → Q 0 V1) ∧ (¬ r1 = 0 → vp_in x1 96 ∧ ((¬ (V1 218 ((x1).toNatClampNeg)) = 1 → Q 0 V1) ∧ ((V1 218 ((x1).toNatClampNeg)) = 1 → Q 1 V1))))) : w6_isWood E Q 0 [some (vr 214), some (vi x1)] [] V := by
  refine wp_iload_n dX6_isWood_0 rfl ?_
  refine wq_SI1 lk6_110 dX6_isWood_1 h (rmQ_ok (by decide) (by decide)) ⟨Nat.le_refl _, Nat.le_refl _⟩ (Nat.le_of_ble_eq_true rfl) (fun r1 V1 h => ?_)
  refine wp_if_eq 21 dX6_isWood_4 (by decide) (fun hc => ?_) (fun hc => ?_)
  · replace h := h.1 hc
    refine wp_iconst (v := 0) dX6_isWood_21 rfl ?_
    exact wp_iret dX6_isWood_22 rfl ⟨_, rfl, rfl, rfl, rfl, h⟩
  · replace h := h.2 hc
    refine wp_aload_n dX6_isWood_7 rfl ?_
    refine wp_getrs dX6_isWood_8 fk6_19 (tb_214 hT) (tk_214 hT) rfl (tr_3 hT) ?_
    refine wp_iload_n dX6_isWood_11 rfl ?_
    refine wp_iald dX6_isWood_12 (tb_218 hT).2 (tk_218 hT) h.1 ?_
    replace h := h.2
    refine wp_iconst (v := 1) dX6_isWood_13 rfl ?_
    refine wp_icmp_ne 21 dX6_isWood_14 (by decide) (fun hc => ?_) (fun hc => ?_)
    · replace h := h.1 hc
      refine wp_iconst (v := 0) dX6_isWood_21 rfl ?_
      exact wp_iret dX6_isWood_22 rfl ⟨_, rfl, rfl, rfl, rfl, h⟩
    · replace h := h.2 hc
      refine wp_iconst (v := 1) dX6_isWood_17 rfl ?_
      refine wp_goto 22 dX6_isWood_18 (by decide) ?_
      exact wp_iret dX6_isWood_22 rfl ⟨_, rfl, rfl, rfl, rfl, h⟩
theorem n6_isWood {E : eT} {Q : Int32 → vT → Prop} {V : vT} {x1 : Int32} (h : w6_isWood E Q 0 [some (vr 214), some (vi x1)] [] V) : c6_isWood E x1 V Q := MOk.enter [some (vr 214), some (vi x1)] pn_6 rfl rfl (Nat.le_of_ble_eq_true rfl) rfl h
theorem b6_isPlace_0 {E : eT} {Q : Int32 → vT → Prop} {V : vT} {x1 : Int32} (hT : TW E) (h : c6_in E x1 0 95 V (fun r4 V4 => (r4 = 0 ∨ r4 = 1) ∧ Q r4 V4)) : w6_isPlace E Q 0 [some (vi x1)] [] V := by
  refine wp_iload_n dX6_isPlace_0 rfl ?_
  refine wp_iconst (v := 0) dX6_isPlace_1 rfl ?_
  refine wp_bipush (v := 95) dX6_isPlace_2 rfl ?_
  refine wq_SI3 lk6_102 dX6_isPlace_4 h (rmQ_ok (by decide) (by decide)) ⟨Nat.le_refl _, Nat.le_refl _⟩ (Nat.le_of_ble_eq_true rfl) (fun r4 V4 h => ?_)
  exact wp_iret dX6_isPlace_7 (by rcases h.1 with q9 | q9 <;> rw [q9] <;> rfl) ⟨_, rfl, rfl, rfl, rfl, h.2⟩
theorem n6_isPlace {E : eT} {Q : Int32 → vT → Prop} {V : vT} {x1 : Int32} (h : w6_isPlace E Q 0 [some (vi x1)] [] V) : c6_isPlace E x1 V Q := MOk.enter [some (vi x1)] pn_6 rfl rfl (Nat.le_of_ble_eq_true rfl) rfl h
theorem b6_orders_0 {E : eT} {Q : Int32 → vT → Prop} {V : vT} {x1 : Int32} (hT : TW E) (h : c6_in E x1 1 120 V (fun r4 V4 => (r4 = 0 → Q (-1) V4) ∧ (¬ r4 = 0 → (x1 ≤ (V4 214 6) → c6_beginsText E x1 V4 (fun V22 => c6_copies E 215 216 (up2 V22 214 30 0) (fun V38 => w6_orders E Q 43 [some (vr 214), none, some (vi 0), none] [] V38))) ∧ ((V4 214 6) < x1 → Q (-1) V4)))) : w6_orders E Q 0 [some (vr 214), some (vi x1), none, none] [] V := by
  refine wp_iload_n dX6_orders_0 rfl ?_
  refine wp_iconst (v := 1) dX6_orders_1 rfl ?_
  refine wp_bipush (v := 120) dX6_orders_2 rfl ?_
  refine wq_SI3 lk6_102 dX6_orders_4 h (rmQ_ok (by decide) (by decide)) ⟨Nat.le_refl _, Nat.le_refl _⟩ (Nat.le_of_ble_eq_true rfl) (fun r4 V4 h => ?_)
  refine wp_if_eq 18 dX6_orders_7 (by decide) (fun hc => ?_) (fun hc => ?_)
  · replace h := h.1 hc
    refine wp_iconst (v := (-1)) dX6_orders_18 rfl ?_
    exact wp_iret dX6_orders_19 rfl ⟨_, rfl, rfl, rfl, rfl, h⟩
  · replace h := h.2 hc
    refine wp_iload_n dX6_orders_10 rfl ?_
    refine wp_aload_n dX6_orders_11 rfl ?_
    refine wp_geti dX6_orders_12 fk6_117 (tb_214 hT) (tk_214 hT) rfl ?_
    refine wp_icmp_le 20 dX6_orders_15 (by decide) (fun hc => ?_) (fun hc => ?_)
    · replace h := h.1 hc
      refine wp_aload_n dX6_orders_20 rfl ?_
      refine wp_iload_n dX6_orders_21 rfl ?_
      refine wq_VV1 lk6_209 rfl (tb_214 hT) (tk_214 hT) dX6_orders_22 h (rmQ_ok (by decide) (by decide)) ⟨Nat.le_refl _, Nat.le_refl _⟩ (Nat.le_of_ble_eq_true rfl) (fun V22 h => ?_)
      refine wp_aload_n dX6_orders_25 rfl ?_
      refine wp_iconst (v := 0) dX6_orders_26 rfl ?_
      refine wp_puti dX6_orders_27 fp6_256 (tb_214 hT) (tk_214 hT) rfl ?_
      refine wp_aload_n dX6_orders_30 rfl ?_
      refine wp_getrs dX6_orders_31 fk6_7 (tb_214 hT) (tk_214 hT) rfl (tr_0 hT) ?_
      refine wp_aload_n dX6_orders_34 rfl ?_
      refine wp_getrs dX6_orders_35 fk6_13 (tb_214 hT) (tk_214 hT) rfl (tr_1 hT) ?_
      refine wq_SV2 lk6_271 dX6_orders_38 h (rmQ_ok (by decide) (by decide)) ⟨Nat.le_refl _, Nat.le_refl _⟩ (Nat.le_of_ble_eq_true rfl) (fun V38 h => ?_)
      refine wp_iconst (v := 0) dX6_orders_41 rfl ?_
      refine wi4_2 dX6_orders_42 ?_
      exact wp_drop [some (vr 214), none, some (vi 0), none] ⟨rfl, ⟨rfl, trivial⟩⟩ h
    · replace h := h.2 (Int32.not_le.mp hc)
      refine wp_iconst (v := (-1)) dX6_orders_18 rfl ?_
      exact wp_iret dX6_orders_19 rfl ⟨_, rfl, rfl, rfl, rfl, h⟩
theorem b6_orders_43 {E : eT} {Q : Int32 → vT → Prop} {V : vT} {x2 : Int32} (hT : TW E) (h : (96 ≤ x2 → c6_readsLine E V (fun r68 V68 => w6_orders E Q 72 [some (vr 214), none, some (vi r68), none] [] V68)) ∧ (x2 < 96 → vp_in x2 96 ∧ (vp_in x2 96 ∧ (w6_orders E Q 43 [some (vr 214), none, some (vi (x2 + 1)), none] [] (up2 V 219 (x2.toNatClampNeg) (V 218 ((x2).toNatClampNeg))))))) : w6_orders E Q 43 [some (vr 214), none, some (vi x2), none] [] V := by
  refine wp_iload_n dX6_orders_43 rfl ?_
  refine wp_bipush (v := 96) dX6_orders_44 rfl ?_
  refine wp_icmp_ge 67 dX6_orders_46 (by decide) (fun hc => ?_) (fun hc => ?_)
  · replace h := h.1 hc
    refine wp_aload_n dX6_orders_67 rfl ?_
    refine wq_VI0 lk6_275 rfl (tb_214 hT) (tk_214 hT) dX6_orders_68 h (rmQ_ok (by decide) (by decide)) ⟨Nat.le_refl _, Nat.le_refl _⟩ (Nat.le_of_ble_eq_true rfl) (fun r68 V68 h => ?_)
    refine wi4_2 dX6_orders_71 ?_
    exact h
  · replace h := h.2 (Int32.not_le.mp hc)
    refine wp_aload_n dX6_orders_49 rfl ?_
    refine wp_getrs dX6_orders_50 fk6_22 (tb_214 hT) (tk_214 hT) rfl (tr_4 hT) ?_
    refine wp_iload_n dX6_orders_53 rfl ?_
    refine wp_aload_n dX6_orders_54 rfl ?_
    refine wp_getrs dX6_orders_55 fk6_19 (tb_214 hT) (tk_214 hT) rfl (tr_3 hT) ?_
    refine wp_iload_n dX6_orders_58 rfl ?_
    refine wp_iald dX6_orders_59 (tb_218 hT).2 (tk_218 hT) h.1 ?_
    replace h := h.2
    refine wp_iast dX6_orders_60 (tb_219 hT) (tk_219 hT) h.1 ?_
    replace h := h.2
    refine wc4_2 1 dX6_orders_61 rfl ?_
    refine wp_goto 43 dX6_orders_64 (by decide) ?_
    exact h
theorem b6_orders_72 {E : eT} {Q : Int32 → vT → Prop} {V : vT} {x2 : Int32} (hT : TW E) (h : (x2 = 0 → (x2 = 0 → c6_copies E 216 215 (up2 V 214 6 0) (fun V134 => w6_orders E Q 139 [some (vr 214), none, none, some (vi 0)] [] V134)) ∧ (¬ x2 = 0 → Q ((up2 V 214 6 0) 214 30) (up2 V 214 6 0))) ∧ (¬ x2 = 0 → ((V 214 8) ≤ (V 214 7) → (x2 = 0 → c6_copies E 216 215 (up2 V 214 6 0) (fun V134' => w6_orders E Q 139 [some (vr 214), none, none, some (vi 0)] [] V134')) ∧ (¬ x2 = 0 → Q ((up2 V 214 6 0) 214 30) (up2 V 214 6 0))) ∧ ((V 214 7) < (V 214 8) → c6_takes E 59 V (fun r90 V90 => (r90 = 0 → w6_orders E Q 72 [some (vr 214), none, some (vi 0), none] [] V90) ∧ (¬ r90 = 0 → c6_readsLine E V90 (fun r97 V97 => (r97 = 0 → w6_orders E Q 72 [some (vr 214), none, some (vi 0), none] [] V97) ∧ (¬ r97 = 0 → w6_orders E Q 72 [some (vr 214), none, some (vi 1), none] [] V97))))))) : w6_orders E Q 72 [some (vr 214), none, some (vi x2), none] [] V := by
  refine wp_iload_n dX6_orders_72 rfl ?_
  refine wp_if_eq 112 dX6_orders_73 (by decide) (fun hc => ?_) (fun hc => ?_)
  · replace h := h.1 hc
    refine wp_aload_n dX6_orders_112 rfl ?_
    refine wp_iconst (v := 0) dX6_orders_113 rfl ?_
    refine wp_puti dX6_orders_114 fp6_117 (tb_214 hT) (tk_214 hT) rfl ?_
    refine wp_iload_n dX6_orders_117 rfl ?_
    refine wp_if_eq 126 dX6_orders_118 (by decide) (fun hc => ?_) (fun hc => ?_)
    · replace h := h.1 hc
      refine wp_aload_n dX6_orders_126 rfl ?_
      refine wp_getrs dX6_orders_127 fk6_13 (tb_214 hT) (tk_214 hT) rfl (tr_1 hT) ?_
      refine wp_aload_n dX6_orders_130 rfl ?_
      refine wp_getrs dX6_orders_131 fk6_7 (tb_214 hT) (tk_214 hT) rfl (tr_0 hT) ?_
      refine wq_SV2 lk6_271 dX6_orders_134 h (rmQ_ok (by decide) (by decide)) ⟨Nat.le_refl _, Nat.le_refl _⟩ (Nat.le_of_ble_eq_true rfl) (fun V134 h => ?_)
      refine wp_iconst (v := 0) dX6_orders_137 rfl ?_
      refine wi4_3 dX6_orders_138 ?_
      exact wp_drop [some (vr 214), none, none, some (vi 0)] ⟨rfl, ⟨rfl, trivial⟩⟩ h
    · replace h := h.2 hc
      refine wp_aload_n dX6_orders_121 rfl ?_
      refine wp_geti dX6_orders_122 fk6_256 (tb_214 hT) (tk_214 hT) rfl ?_
      exact wp_iret dX6_orders_125 rfl ⟨_, rfl, rfl, rfl, rfl, h⟩
  · replace h := h.2 hc
    refine wp_aload_n dX6_orders_76 rfl ?_
    refine wp_geti dX6_orders_77 fk6_125 (tb_214 hT) (tk_214 hT) rfl ?_
    refine wp_aload_n dX6_orders_80 rfl ?_
    refine wp_geti dX6_orders_81 fk6_128 (tb_214 hT) (tk_214 hT) rfl ?_
    refine wp_icmp_ge 112 dX6_orders_84 (by decide) (fun hc => ?_) (fun hc => ?_)
    · replace h := h.1 hc
      refine wp_aload_n dX6_orders_112 rfl ?_
      refine wp_iconst (v := 0) dX6_orders_113 rfl ?_
      refine wp_puti dX6_orders_114 fp6_117 (tb_214 hT) (tk_214 hT) rfl ?_
      refine wp_iload_n dX6_orders_117 rfl ?_
      refine wp_if_eq 126 dX6_orders_118 (by decide) (fun hc => ?_) (fun hc => ?_)
      · replace h := h.1 hc
        refine wp_aload_n dX6_orders_126 rfl ?_
        refine wp_getrs dX6_orders_127 fk6_13 (tb_214 hT) (tk_214 hT) rfl (tr_1 hT) ?_
        refine wp_aload_n dX6_orders_130 rfl ?_
        refine wp_getrs dX6_orders_131 fk6_7 (tb_214 hT) (tk_214 hT) rfl (tr_0 hT) ?_
        refine wq_SV2 lk6_271 dX6_orders_134 h (rmQ_ok (by decide) (by decide)) ⟨Nat.le_refl _, Nat.le_refl _⟩ (Nat.le_of_ble_eq_true rfl) (fun V134' h => ?_)
        refine wp_iconst (v := 0) dX6_orders_137 rfl ?_
        refine wi4_3 dX6_orders_138 ?_
        exact wp_drop [some (vr 214), none, none, some (vi 0)] ⟨rfl, ⟨rfl, trivial⟩⟩ h
      · replace h := h.2 hc
        refine wp_aload_n dX6_orders_121 rfl ?_
        refine wp_geti dX6_orders_122 fk6_256 (tb_214 hT) (tk_214 hT) rfl ?_
        exact wp_iret dX6_orders_125 rfl ⟨_, rfl, rfl, rfl, rfl, h⟩
    · replace h := h.2 (Int32.not_le.mp hc)
      refine wp_aload_n dX6_orders_87 rfl ?_
      refine wp_bipush (v := 59) dX6_orders_88 rfl ?_
      refine wq_VI1 lk6_215 rfl (tb_214 hT) (tk_214 hT) dX6_orders_90 h (rmQ_ok (by decide) (by decide)) ⟨Nat.le_refl _, Nat.le_refl _⟩ (Nat.le_of_ble_eq_true rfl) (fun r90 V90 h => ?_)
      refine wp_if_eq 107 dX6_orders_93 (by decide) (fun hc => ?_) (fun hc => ?_)
      · replace h := h.1 hc
        refine wp_iconst (v := 0) dX6_orders_107 rfl ?_
        refine wi4_2 dX6_orders_108 ?_
        refine wp_goto 72 dX6_orders_109 (by decide) ?_
        exact h
      · replace h := h.2 hc
        refine wp_aload_n dX6_orders_96 rfl ?_
        refine wq_VI0 lk6_275 rfl (tb_214 hT) (tk_214 hT) dX6_orders_97 h (rmQ_ok (by decide) (by decide)) ⟨Nat.le_refl _, Nat.le_refl _⟩ (Nat.le_of_ble_eq_true rfl) (fun r97 V97 h => ?_)
        refine wp_if_eq 107 dX6_orders_100 (by decide) (fun hc => ?_) (fun hc => ?_)
        · replace h := h.1 hc
          refine wp_iconst (v := 0) dX6_orders_107 rfl ?_
          refine wi4_2 dX6_orders_108 ?_
          refine wp_goto 72 dX6_orders_109 (by decide) ?_
          exact h
        · replace h := h.2 hc
          refine wp_iconst (v := 1) dX6_orders_103 rfl ?_
          refine wp_goto 108 dX6_orders_104 (by decide) ?_
          refine wi4_2 dX6_orders_108 ?_
          refine wp_goto 72 dX6_orders_109 (by decide) ?_
          exact h
theorem b6_orders_139 {E : eT} {Q : Int32 → vT → Prop} {V : vT} {x3 : Int32} (hT : TW E) (h : (96 ≤ x3 → Q (V 214 9) V) ∧ (x3 < 96 → vp_in x3 96 ∧ (vp_in x3 96 ∧ (w6_orders E Q 139 [some (vr 214), none, none, some (vi (x3 + 1))] [] (up2 V 218 (x3.toNatClampNeg) (V 219 ((x3).toNatClampNeg))))))) : w6_orders E Q 139 [some (vr 214), none, none, some (vi x3)] [] V := by
  refine wp_iload_n dX6_orders_139 rfl ?_
  refine wp_bipush (v := 96) dX6_orders_140 rfl ?_
  refine wp_icmp_ge 163 dX6_orders_142 (by decide) (fun hc => ?_) (fun hc => ?_)
  · replace h := h.1 hc
    refine wp_aload_n dX6_orders_163 rfl ?_
    refine wp_geti dX6_orders_164 fk6_135 (tb_214 hT) (tk_214 hT) rfl ?_
    exact wp_iret dX6_orders_167 rfl ⟨_, rfl, rfl, rfl, rfl, h⟩
  · replace h := h.2 (Int32.not_le.mp hc)
    refine wp_aload_n dX6_orders_145 rfl ?_
    refine wp_getrs dX6_orders_146 fk6_19 (tb_214 hT) (tk_214 hT) rfl (tr_3 hT) ?_
    refine wp_iload_n dX6_orders_149 rfl ?_
    refine wp_aload_n dX6_orders_150 rfl ?_
    refine wp_getrs dX6_orders_151 fk6_22 (tb_214 hT) (tk_214 hT) rfl (tr_4 hT) ?_
    refine wp_iload_n dX6_orders_154 rfl ?_
    refine wp_iald dX6_orders_155 (tb_219 hT).2 (tk_219 hT) h.1 ?_
    replace h := h.2
    refine wp_iast dX6_orders_156 (tb_218 hT) (tk_218 hT) h.1 ?_
    replace h := h.2
    refine wc4_3 1 dX6_orders_157 rfl ?_
    refine wp_goto 139 dX6_orders_160 (by decide) ?_
    exact h
theorem n6_orders {E : eT} {Q : Int32 → vT → Prop} {V : vT} {x1 : Int32} (h : w6_orders E Q 0 [some (vr 214), some (vi x1), none, none] [] V) : c6_orders E x1 V Q := MOk.enter [some (vr 214), some (vi x1), none, none] pn_6 rfl rfl (Nat.le_of_ble_eq_true rfl) rfl h
theorem b6_copies_0 {E : eT} {Q : vT → Prop} {V : vT} {a1 a2 : Nat} (hT : TW E) (hb1 : 16 ≤ a1 ∧ a1 < E.2.2.1) (hk1 : E.2.2.2.1 a1 = .inr (0, 315)) (hb2 : 16 ≤ a2 ∧ a2 < E.2.2.1) (hk2 : E.2.2.2.1 a2 = .inr (0, 315)) (h : w6_copies E Q 2 [some (vr a1), some (vr a2), some (vi 0)] [] V) : w6_copies E Q 0 [some (vr a1), some (vr a2), none] [] V := by
  refine wp_iconst (v := 0) dX6_copies_0 rfl ?_
  refine wi3_2 dX6_copies_1 ?_
  exact h
theorem b6_copies_2 {E : eT} {Q : vT → Prop} {V : vT} {x2 : Int32} {a1 a2 : Nat} (hT : TW E) (hb1 : 16 ≤ a1 ∧ a1 < E.2.2.1) (hk1 : E.2.2.2.1 a1 = .inr (0, 315)) (hb2 : 16 ≤ a2 ∧ a2 < E.2.2.1) (hk2 : E.2.2.2.1 a2 = .inr (0, 315)) (h : (315 ≤ x2 → Q V) ∧ (x2 < 315 → vp_in x2 315 ∧ (vp_in x2 315 ∧ (w6_copies E Q 2 [some (vr a1), some (vr a2), some (vi (x2 + 1))] [] (up2 V a2 (x2.toNatClampNeg) (V a1 ((x2).toNatClampNeg))))))) : w6_copies E Q 2 [some (vr a1), some (vr a2), some (vi x2)] [] V := by
  refine wp_iload_n dX6_copies_2 rfl ?_
  refine wp_sipush (v := 315) dX6_copies_3 rfl ?_
  refine wp_icmp_ge 21 dX6_copies_6 (by decide) (fun hc => ?_) (fun hc => ?_)
  · replace h := h.1 hc
    exact wp_vret dX6_copies_21 ⟨rfl, rfl, rfl, rfl, h⟩
  · replace h := h.2 (Int32.not_le.mp hc)
    refine wp_aload_n dX6_copies_9 rfl ?_
    refine wp_iload_n dX6_copies_10 rfl ?_
    refine wp_aload_n dX6_copies_11 rfl ?_
    refine wp_iload_n dX6_copies_12 rfl ?_
    refine wp_iald dX6_copies_13 hb1.2 hk1 h.1 ?_
    replace h := h.2
    refine wp_iast dX6_copies_14 hb2 hk2 h.1 ?_
    replace h := h.2
    refine wc3_2 1 dX6_copies_15 rfl ?_
    refine wp_goto 2 dX6_copies_18 (by decide) ?_
    exact h
theorem n6_copies {E : eT} {Q : vT → Prop} {V : vT} {a1 a2 : Nat} (h : w6_copies E Q 0 [some (vr a1), some (vr a2), none] [] V) : c6_copies E a1 a2 V Q := MOk.enter [some (vr a1), some (vr a2), none] pn_6 rfl rfl (Nat.le_of_ble_eq_true rfl) rfl h
theorem b6_readsLine_0 {E : eT} {Q : Int32 → vT → Prop} {V : vT} (hT : TW E) (h : c6_here E V (fun r1 V1 => c6_isDigit E V1 (fun r6 V6 => (¬ r6 = 0 → (¬ (V6 214 30) = 16 → c6_isDigit E (up2 V6 214 30 ((V6 214 30) + 1)) (fun r70 V70 => (r70 = 0 → (¬ r1 = 42 → (¬ r1 = 126 → c6_readsWind E (up2 V70 214 7 ((V70 214 7) + 1)) (fun r118 V118 => (r118 = 0 ∨ r118 = 1) ∧ Q r118 V118)) ∧ (r1 = 126 → c6_readsWater E (up2 V70 214 7 ((V70 214 7) + 1)) (fun r111 V111 => (r111 = 0 ∨ r111 = 1) ∧ Q r111 V111))) ∧ (r1 = 42 → c6_readsFire E (up2 V70 214 7 ((V70 214 7) + 1)) (fun r98 V98 => (r98 = 0 ∨ r98 = 1) ∧ Q r98 V98))) ∧ (¬ r70 = 0 → c6_readsThing E V70 (fun r77 V77 => (r77 = 0 ∨ r77 = 1) ∧ Q r77 V77)))) ∧ ((V6 214 30) = 16 → c6_wrongAt E 4 (V6 214 7) V6 (fun r55 V55 => (r55 = 0 ∨ r55 = 1) ∧ Q r55 V55))) ∧ (r6 = 0 → (r1 = 42 → (¬ (V6 214 30) = 16 → c6_isDigit E (up2 V6 214 30 ((V6 214 30) + 1)) (fun r70' V70' => (r70' = 0 → (¬ r1 = 42 → (¬ r1 = 126 → c6_readsWind E (up2 V70' 214 7 ((V70' 214 7) + 1)) (fun r118' V118' => (r118' = 0 ∨ r118' = 1) ∧ Q r118' V118')) ∧ (r1 = 126 → c6_readsWater E (up2 V70' 214 7 ((V70' 214 7) + 1)) (fun r111' V111' => (r111' = 0 ∨ r111' = 1) ∧ Q r111' V111'))) ∧ (r1 = 42 → c6_readsFire E (up2 V70' 214 7 ((V70' 214 7) + 1)) (fun r98' V98' => (r98' = 0 ∨ r98' = 1) ∧ Q r98' V98'))) ∧ (¬ r70' = 0 → c6_readsThing E V70' (fun r77' V77' => (r77' = 0 ∨ r77' = 1) ∧ Q r77' V77')))) ∧ ((V6 214 30) = 16 → c6_wrongAt E 4 (V6 214 7) V6 (fun r55' V55' => (r55' = 0 ∨ r55' = 1) ∧ Q r55' V55'))) ∧ (¬ r1 = 42 → (r1 = 126 → (¬ (V6 214 30) = 16 → c6_isDigit E (up2 V6 214 30 ((V6 214 30) + 1)) (fun r70'' V70'' => (r70'' = 0 → (¬ r1 = 42 → (¬ r1 = 126 → c6_readsWind E (up2 V70'' 214 7 ((V70'' 214 7) + 1)) (fun r118'' V118'' => (r118'' = 0 ∨ r118'' = 1) ∧ Q r118'' V118'')) ∧ (r1 = 126 → c6_readsWater E (up2 V70'' 214 7 ((V70'' 214 7) + 1)) (fun r111'' V111'' => (r111'' = 0 ∨ r111'' = 1) ∧ Q r111'' V111''))) ∧ (r1 = 42 → c6_readsFire E (up2 V70'' 214 7 ((V70'' 214 7) + 1)) (fun r98'' V98'' => (r98'' = 0 ∨ r98'' = 1) ∧ Q r98'' V98''))) ∧ (¬ r70'' = 0 → c6_readsThing E V70'' (fun r77'' V77'' => (r77'' = 0 ∨ r77'' = 1) ∧ Q r77'' V77'')))) ∧ ((V6 214 30) = 16 → c6_wrongAt E 4 (V6 214 7) V6 (fun r55'' V55'' => (r55'' = 0 ∨ r55'' = 1) ∧ Q r55'' V55''))) ∧ (¬ r1 = 126 → (r1 = 33 → (¬ (V6 214 30) = 16 → c6_isDigit E (up2 V6 214 30 ((V6 214 30) + 1)) (fun r70''' V70''' => (r70''' = 0 → (¬ r1 = 42 → (¬ r1 = 126 → c6_readsWind E (up2 V70''' 214 7 ((V70''' 214 7) + 1)) (fun r118''' V118''' => (r118''' = 0 ∨ r118''' = 1) ∧ Q r118''' V118''')) ∧ (r1 = 126 → c6_readsWater E (up2 V70''' 214 7 ((V70''' 214 7) + 1)) (fun r111''' V111''' => (r111''' = 0 ∨ r111''' = 1) ∧ Q r111''' V111'''))) ∧ (r1 = 42 → c6_readsFire E (up2 V70''' 214 7 ((V70''' 214 7) + 1)) (fun r98''' V98''' => (r98''' = 0 ∨ r98''' = 1) ∧ Q r98''' V98'''))) ∧ (¬ r70''' = 0 → c6_readsThing E V70''' (fun r77''' V77''' => (r77''' = 0 ∨ r77''' = 1) ∧ Q r77''' V77''')))) ∧ ((V6 214 30) = 16 → c6_wrongAt E 4 (V6 214 7) V6 (fun r55''' V55''' => (r55''' = 0 ∨ r55''' = 1) ∧ Q r55''' V55'''))) ∧ (¬ r1 = 33 → c6_wrongAt E 1 (V6 214 7) V6 (fun r36 V36 => (r36 = 0 ∨ r36 = 1) ∧ Q r36 V36)))))))) : w6_readsLine E Q 0 [some (vr 214), none] [] V := by
  refine wp_aload_n dX6_readsLine_0 rfl ?_
  refine wq_VI0 lk6_131 rfl (tb_214 hT) (tk_214 hT) dX6_readsLine_1 h (rmQ_ok (by decide) (by decide)) ⟨Nat.le_refl _, Nat.le_refl _⟩ (Nat.le_of_ble_eq_true rfl) (fun r1 V1 h => ?_)
  refine wi2_1 dX6_readsLine_4 ?_
  refine wp_aload_n dX6_readsLine_5 rfl ?_
  refine wq_VI0 lk6_144 rfl (tb_214 hT) (tk_214 hT) dX6_readsLine_6 h (rmQ_ok (by decide) (by decide)) ⟨Nat.le_refl _, Nat.le_refl _⟩ (Nat.le_of_ble_eq_true rfl) (fun r6 V6 h => ?_)
  refine wp_if_ne 40 dX6_readsLine_9 (by decide) (fun hc => ?_) (fun hc => ?_)
  · replace h := h.1 hc
    refine wp_aload_n dX6_readsLine_40 rfl ?_
    refine wp_geti dX6_readsLine_41 fk6_256 (tb_214 hT) (tk_214 hT) rfl ?_
    refine wp_bipush (v := 16) dX6_readsLine_44 rfl ?_
    refine wp_icmp_ne 59 dX6_readsLine_46 (by decide) (fun hc => ?_) (fun hc => ?_)
    · replace h := h.1 hc
      refine wp_aload_n dX6_readsLine_59 rfl ?_
      refine wp_aload_n dX6_readsLine_60 rfl ?_
      refine wp_geti dX6_readsLine_61 fk6_256 (tb_214 hT) (tk_214 hT) rfl ?_
      refine wp_iconst (v := 1) dX6_readsLine_64 rfl ?_
      refine wp_iadd dX6_readsLine_65 ?_
      refine wp_puti dX6_readsLine_66 fp6_256 (tb_214 hT) (tk_214 hT) rfl ?_
      refine wp_aload_n dX6_readsLine_69 rfl ?_
      refine wq_VI0 lk6_144 rfl (tb_214 hT) (tk_214 hT) dX6_readsLine_70 h (rmQ_ok (by decide) (by decide)) ⟨Nat.le_refl _, Nat.le_refl _⟩ (Nat.le_of_ble_eq_true rfl) (fun r70 V70 h => ?_)
      refine wp_if_eq 81 dX6_readsLine_73 (by decide) (fun hc => ?_) (fun hc => ?_)
      · replace h := h.1 hc
        refine wp_aload_n dX6_readsLine_81 rfl ?_
        refine wp_aload_n dX6_readsLine_82 rfl ?_
        refine wp_geti dX6_readsLine_83 fk6_125 (tb_214 hT) (tk_214 hT) rfl ?_
        refine wp_iconst (v := 1) dX6_readsLine_86 rfl ?_
        refine wp_iadd dX6_readsLine_87 ?_
        refine wp_puti dX6_readsLine_88 fp6_125 (tb_214 hT) (tk_214 hT) rfl ?_
        refine wp_iload_n dX6_readsLine_91 rfl ?_
        refine wp_bipush (v := 42) dX6_readsLine_92 rfl ?_
        refine wp_icmp_ne 104 dX6_readsLine_94 (by decide) (fun hc => ?_) (fun hc => ?_)
        · replace h := h.1 hc
          refine wp_iload_n dX6_readsLine_104 rfl ?_
          refine wp_bipush (v := 126) dX6_readsLine_105 rfl ?_
          refine wp_icmp_ne 117 dX6_readsLine_107 (by decide) (fun hc => ?_) (fun hc => ?_)
          · replace h := h.1 hc
            refine wp_aload_n dX6_readsLine_117 rfl ?_
            refine wq_VI0 lk6_268 rfl (tb_214 hT) (tk_214 hT) dX6_readsLine_118 h (rmQ_ok (by decide) (by decide)) ⟨Nat.le_refl _, Nat.le_refl _⟩ (Nat.le_of_ble_eq_true rfl) (fun r118 V118 h => ?_)
            exact wp_iret dX6_readsLine_121 (by rcases h.1 with q9 | q9 <;> rw [q9] <;> rfl) ⟨_, rfl, rfl, rfl, rfl, h.2⟩
          · replace h := h.2 hc
            refine wp_aload_n dX6_readsLine_110 rfl ?_
            refine wq_VI0 lk6_265 rfl (tb_214 hT) (tk_214 hT) dX6_readsLine_111 h (rmQ_ok (by decide) (by decide)) ⟨Nat.le_refl _, Nat.le_refl _⟩ (Nat.le_of_ble_eq_true rfl) (fun r111 V111 h => ?_)
            refine wp_goto 121 dX6_readsLine_114 (by decide) ?_
            exact wp_iret dX6_readsLine_121 (by rcases h.1 with q9 | q9 <;> rw [q9] <;> rfl) ⟨_, rfl, rfl, rfl, rfl, h.2⟩
        · replace h := h.2 hc
          refine wp_aload_n dX6_readsLine_97 rfl ?_
          refine wq_VI0 lk6_262 rfl (tb_214 hT) (tk_214 hT) dX6_readsLine_98 h (rmQ_ok (by decide) (by decide)) ⟨Nat.le_refl _, Nat.le_refl _⟩ (Nat.le_of_ble_eq_true rfl) (fun r98 V98 h => ?_)
          refine wp_goto 121 dX6_readsLine_101 (by decide) ?_
          exact wp_iret dX6_readsLine_121 (by rcases h.1 with q9 | q9 <;> rw [q9] <;> rfl) ⟨_, rfl, rfl, rfl, rfl, h.2⟩
      · replace h := h.2 hc
        refine wp_aload_n dX6_readsLine_76 rfl ?_
        refine wq_VI0 lk6_259 rfl (tb_214 hT) (tk_214 hT) dX6_readsLine_77 h (rmQ_ok (by decide) (by decide)) ⟨Nat.le_refl _, Nat.le_refl _⟩ (Nat.le_of_ble_eq_true rfl) (fun r77 V77 h => ?_)
        exact wp_iret dX6_readsLine_80 (by rcases h.1 with q9 | q9 <;> rw [q9] <;> rfl) ⟨_, rfl, rfl, rfl, rfl, h.2⟩
    · replace h := h.2 hc
      refine wp_aload_n dX6_readsLine_49 rfl ?_
      refine wp_iconst (v := 4) dX6_readsLine_50 rfl ?_
      refine wp_aload_n dX6_readsLine_51 rfl ?_
      refine wp_geti dX6_readsLine_52 fk6_125 (tb_214 hT) (tk_214 hT) rfl ?_
      refine wq_VI2 lk6_138 rfl (tb_214 hT) (tk_214 hT) dX6_readsLine_55 h (rmQ_ok (by decide) (by decide)) ⟨Nat.le_refl _, Nat.le_refl _⟩ (Nat.le_of_ble_eq_true rfl) (fun r55 V55 h => ?_)
      exact wp_iret dX6_readsLine_58 (by rcases h.1 with q9 | q9 <;> rw [q9] <;> rfl) ⟨_, rfl, rfl, rfl, rfl, h.2⟩
  · replace h := h.2 hc
    refine wp_iload_n dX6_readsLine_12 rfl ?_
    refine wp_bipush (v := 42) dX6_readsLine_13 rfl ?_
    refine wp_icmp_eq 40 dX6_readsLine_15 (by decide) (fun hc => ?_) (fun hc => ?_)
    · replace h := h.1 hc
      refine wp_aload_n dX6_readsLine_40 rfl ?_
      refine wp_geti dX6_readsLine_41 fk6_256 (tb_214 hT) (tk_214 hT) rfl ?_
      refine wp_bipush (v := 16) dX6_readsLine_44 rfl ?_
      refine wp_icmp_ne 59 dX6_readsLine_46 (by decide) (fun hc => ?_) (fun hc => ?_)
      · replace h := h.1 hc
        refine wp_aload_n dX6_readsLine_59 rfl ?_
        refine wp_aload_n dX6_readsLine_60 rfl ?_
        refine wp_geti dX6_readsLine_61 fk6_256 (tb_214 hT) (tk_214 hT) rfl ?_
        refine wp_iconst (v := 1) dX6_readsLine_64 rfl ?_
        refine wp_iadd dX6_readsLine_65 ?_
        refine wp_puti dX6_readsLine_66 fp6_256 (tb_214 hT) (tk_214 hT) rfl ?_
        refine wp_aload_n dX6_readsLine_69 rfl ?_
        refine wq_VI0 lk6_144 rfl (tb_214 hT) (tk_214 hT) dX6_readsLine_70 h (rmQ_ok (by decide) (by decide)) ⟨Nat.le_refl _, Nat.le_refl _⟩ (Nat.le_of_ble_eq_true rfl) (fun r70' V70' h => ?_)
        refine wp_if_eq 81 dX6_readsLine_73 (by decide) (fun hc => ?_) (fun hc => ?_)
        · replace h := h.1 hc
          refine wp_aload_n dX6_readsLine_81 rfl ?_
          refine wp_aload_n dX6_readsLine_82 rfl ?_
          refine wp_geti dX6_readsLine_83 fk6_125 (tb_214 hT) (tk_214 hT) rfl ?_
          refine wp_iconst (v := 1) dX6_readsLine_86 rfl ?_
          refine wp_iadd dX6_readsLine_87 ?_
          refine wp_puti dX6_readsLine_88 fp6_125 (tb_214 hT) (tk_214 hT) rfl ?_
          refine wp_iload_n dX6_readsLine_91 rfl ?_
          refine wp_bipush (v := 42) dX6_readsLine_92 rfl ?_
          refine wp_icmp_ne 104 dX6_readsLine_94 (by decide) (fun hc => ?_) (fun hc => ?_)
          · replace h := h.1 hc
            refine wp_iload_n dX6_readsLine_104 rfl ?_
            refine wp_bipush (v := 126) dX6_readsLine_105 rfl ?_
            refine wp_icmp_ne 117 dX6_readsLine_107 (by decide) (fun hc => ?_) (fun hc => ?_)
            · replace h := h.1 hc
              refine wp_aload_n dX6_readsLine_117 rfl ?_
              refine wq_VI0 lk6_268 rfl (tb_214 hT) (tk_214 hT) dX6_readsLine_118 h (rmQ_ok (by decide) (by decide)) ⟨Nat.le_refl _, Nat.le_refl _⟩ (Nat.le_of_ble_eq_true rfl) (fun r118' V118' h => ?_)
              exact wp_iret dX6_readsLine_121 (by rcases h.1 with q9 | q9 <;> rw [q9] <;> rfl) ⟨_, rfl, rfl, rfl, rfl, h.2⟩
            · replace h := h.2 hc
              refine wp_aload_n dX6_readsLine_110 rfl ?_
              refine wq_VI0 lk6_265 rfl (tb_214 hT) (tk_214 hT) dX6_readsLine_111 h (rmQ_ok (by decide) (by decide)) ⟨Nat.le_refl _, Nat.le_refl _⟩ (Nat.le_of_ble_eq_true rfl) (fun r111' V111' h => ?_)
              refine wp_goto 121 dX6_readsLine_114 (by decide) ?_
              exact wp_iret dX6_readsLine_121 (by rcases h.1 with q9 | q9 <;> rw [q9] <;> rfl) ⟨_, rfl, rfl, rfl, rfl, h.2⟩
          · replace h := h.2 hc
            refine wp_aload_n dX6_readsLine_97 rfl ?_
            refine wq_VI0 lk6_262 rfl (tb_214 hT) (tk_214 hT) dX6_readsLine_98 h (rmQ_ok (by decide) (by decide)) ⟨Nat.le_refl _, Nat.le_refl _⟩ (Nat.le_of_ble_eq_true rfl) (fun r98' V98' h => ?_)
            refine wp_goto 121 dX6_readsLine_101 (by decide) ?_
            exact wp_iret dX6_readsLine_121 (by rcases h.1 with q9 | q9 <;> rw [q9] <;> rfl) ⟨_, rfl, rfl, rfl, rfl, h.2⟩
        · replace h := h.2 hc
          refine wp_aload_n dX6_readsLine_76 rfl ?_
          refine wq_VI0 lk6_259 rfl (tb_214 hT) (tk_214 hT) dX6_readsLine_77 h (rmQ_ok (by decide) (by decide)) ⟨Nat.le_refl _, Nat.le_refl _⟩ (Nat.le_of_ble_eq_true rfl) (fun r77' V77' h => ?_)
          exact wp_iret dX6_readsLine_80 (by rcases h.1 with q9 | q9 <;> rw [q9] <;> rfl) ⟨_, rfl, rfl, rfl, rfl, h.2⟩
      · replace h := h.2 hc
        refine wp_aload_n dX6_readsLine_49 rfl ?_
        refine wp_iconst (v := 4) dX6_readsLine_50 rfl ?_
        refine wp_aload_n dX6_readsLine_51 rfl ?_
        refine wp_geti dX6_readsLine_52 fk6_125 (tb_214 hT) (tk_214 hT) rfl ?_
        refine wq_VI2 lk6_138 rfl (tb_214 hT) (tk_214 hT) dX6_readsLine_55 h (rmQ_ok (by decide) (by decide)) ⟨Nat.le_refl _, Nat.le_refl _⟩ (Nat.le_of_ble_eq_true rfl) (fun r55' V55' h => ?_)
        exact wp_iret dX6_readsLine_58 (by rcases h.1 with q9 | q9 <;> rw [q9] <;> rfl) ⟨_, rfl, rfl, rfl, rfl, h.2⟩
    · replace h := h.2 hc
      refine wp_iload_n dX6_readsLine_18 rfl ?_
      refine wp_bipush (v := 126) dX6_readsLine_19 rfl ?_
      refine wp_icmp_eq 40 dX6_readsLine_21 (by decide) (fun hc => ?_) (fun hc => ?_)
      · replace h := h.1 hc
        refine wp_aload_n dX6_readsLine_40 rfl ?_
        refine wp_geti dX6_readsLine_41 fk6_256 (tb_214 hT) (tk_214 hT) rfl ?_
        refine wp_bipush (v := 16) dX6_readsLine_44 rfl ?_
        refine wp_icmp_ne 59 dX6_readsLine_46 (by decide) (fun hc => ?_) (fun hc => ?_)
        · replace h := h.1 hc
          refine wp_aload_n dX6_readsLine_59 rfl ?_
          refine wp_aload_n dX6_readsLine_60 rfl ?_
          refine wp_geti dX6_readsLine_61 fk6_256 (tb_214 hT) (tk_214 hT) rfl ?_
          refine wp_iconst (v := 1) dX6_readsLine_64 rfl ?_
          refine wp_iadd dX6_readsLine_65 ?_
          refine wp_puti dX6_readsLine_66 fp6_256 (tb_214 hT) (tk_214 hT) rfl ?_
          refine wp_aload_n dX6_readsLine_69 rfl ?_
          refine wq_VI0 lk6_144 rfl (tb_214 hT) (tk_214 hT) dX6_readsLine_70 h (rmQ_ok (by decide) (by decide)) ⟨Nat.le_refl _, Nat.le_refl _⟩ (Nat.le_of_ble_eq_true rfl) (fun r70'' V70'' h => ?_)
          refine wp_if_eq 81 dX6_readsLine_73 (by decide) (fun hc => ?_) (fun hc => ?_)
          · replace h := h.1 hc
            refine wp_aload_n dX6_readsLine_81 rfl ?_
            refine wp_aload_n dX6_readsLine_82 rfl ?_
            refine wp_geti dX6_readsLine_83 fk6_125 (tb_214 hT) (tk_214 hT) rfl ?_
            refine wp_iconst (v := 1) dX6_readsLine_86 rfl ?_
            refine wp_iadd dX6_readsLine_87 ?_
            refine wp_puti dX6_readsLine_88 fp6_125 (tb_214 hT) (tk_214 hT) rfl ?_
            refine wp_iload_n dX6_readsLine_91 rfl ?_
            refine wp_bipush (v := 42) dX6_readsLine_92 rfl ?_
            refine wp_icmp_ne 104 dX6_readsLine_94 (by decide) (fun hc => ?_) (fun hc => ?_)
            · replace h := h.1 hc
              refine wp_iload_n dX6_readsLine_104 rfl ?_
              refine wp_bipush (v := 126) dX6_readsLine_105 rfl ?_
              refine wp_icmp_ne 117 dX6_readsLine_107 (by decide) (fun hc => ?_) (fun hc => ?_)
              · replace h := h.1 hc
                refine wp_aload_n dX6_readsLine_117 rfl ?_
                refine wq_VI0 lk6_268 rfl (tb_214 hT) (tk_214 hT) dX6_readsLine_118 h (rmQ_ok (by decide) (by decide)) ⟨Nat.le_refl _, Nat.le_refl _⟩ (Nat.le_of_ble_eq_true rfl) (fun r118'' V118'' h => ?_)
                exact wp_iret dX6_readsLine_121 (by rcases h.1 with q9 | q9 <;> rw [q9] <;> rfl) ⟨_, rfl, rfl, rfl, rfl, h.2⟩
              · replace h := h.2 hc
                refine wp_aload_n dX6_readsLine_110 rfl ?_
                refine wq_VI0 lk6_265 rfl (tb_214 hT) (tk_214 hT) dX6_readsLine_111 h (rmQ_ok (by decide) (by decide)) ⟨Nat.le_refl _, Nat.le_refl _⟩ (Nat.le_of_ble_eq_true rfl) (fun r111'' V111'' h => ?_)
                refine wp_goto 121 dX6_readsLine_114 (by decide) ?_
                exact wp_iret dX6_readsLine_121 (by rcases h.1 with q9 | q9 <;> rw [q9] <;> rfl) ⟨_, rfl, rfl, rfl, rfl, h.2⟩
            · replace h := h.2 hc
              refine wp_aload_n dX6_readsLine_97 rfl ?_
              refine wq_VI0 lk6_262 rfl (tb_214 hT) (tk_214 hT) dX6_readsLine_98 h (rmQ_ok (by decide) (by decide)) ⟨Nat.le_refl _, Nat.le_refl _⟩ (Nat.le_of_ble_eq_true rfl) (fun r98'' V98'' h => ?_)
              refine wp_goto 121 dX6_readsLine_101 (by decide) ?_
              exact wp_iret dX6_readsLine_121 (by rcases h.1 with q9 | q9 <;> rw [q9] <;> rfl) ⟨_, rfl, rfl, rfl, rfl, h.2⟩
          · replace h := h.2 hc
            refine wp_aload_n dX6_readsLine_76 rfl ?_
            refine wq_VI0 lk6_259 rfl (tb_214 hT) (tk_214 hT) dX6_readsLine_77 h (rmQ_ok (by decide) (by decide)) ⟨Nat.le_refl _, Nat.le_refl _⟩ (Nat.le_of_ble_eq_true rfl) (fun r77'' V77'' h => ?_)
            exact wp_iret dX6_readsLine_80 (by rcases h.1 with q9 | q9 <;> rw [q9] <;> rfl) ⟨_, rfl, rfl, rfl, rfl, h.2⟩
        · replace h := h.2 hc
          refine wp_aload_n dX6_readsLine_49 rfl ?_
          refine wp_iconst (v := 4) dX6_readsLine_50 rfl ?_
          refine wp_aload_n dX6_readsLine_51 rfl ?_
          refine wp_geti dX6_readsLine_52 fk6_125 (tb_214 hT) (tk_214 hT) rfl ?_
          refine wq_VI2 lk6_138 rfl (tb_214 hT) (tk_214 hT) dX6_readsLine_55 h (rmQ_ok (by decide) (by decide)) ⟨Nat.le_refl _, Nat.le_refl _⟩ (Nat.le_of_ble_eq_true rfl) (fun r55'' V55'' h => ?_)
          exact wp_iret dX6_readsLine_58 (by rcases h.1 with q9 | q9 <;> rw [q9] <;> rfl) ⟨_, rfl, rfl, rfl, rfl, h.2⟩
      · replace h := h.2 hc
        refine wp_iload_n dX6_readsLine_24 rfl ?_
        refine wp_bipush (v := 33) dX6_readsLine_25 rfl ?_
        refine wp_icmp_eq 40 dX6_readsLine_27 (by decide) (fun hc => ?_) (fun hc => ?_)
        · replace h := h.1 hc
          refine wp_aload_n dX6_readsLine_40 rfl ?_
          refine wp_geti dX6_readsLine_41 fk6_256 (tb_214 hT) (tk_214 hT) rfl ?_
          refine wp_bipush (v := 16) dX6_readsLine_44 rfl ?_
          refine wp_icmp_ne 59 dX6_readsLine_46 (by decide) (fun hc => ?_) (fun hc => ?_)
          · replace h := h.1 hc
            refine wp_aload_n dX6_readsLine_59 rfl ?_
            refine wp_aload_n dX6_readsLine_60 rfl ?_
            refine wp_geti dX6_readsLine_61 fk6_256 (tb_214 hT) (tk_214 hT) rfl ?_
            refine wp_iconst (v := 1) dX6_readsLine_64 rfl ?_
            refine wp_iadd dX6_readsLine_65 ?_
            refine wp_puti dX6_readsLine_66 fp6_256 (tb_214 hT) (tk_214 hT) rfl ?_
            refine wp_aload_n dX6_readsLine_69 rfl ?_
            refine wq_VI0 lk6_144 rfl (tb_214 hT) (tk_214 hT) dX6_readsLine_70 h (rmQ_ok (by decide) (by decide)) ⟨Nat.le_refl _, Nat.le_refl _⟩ (Nat.le_of_ble_eq_true rfl) (fun r70''' V70''' h => ?_)
            refine wp_if_eq 81 dX6_readsLine_73 (by decide) (fun hc => ?_) (fun hc => ?_)
            · replace h := h.1 hc
              refine wp_aload_n dX6_readsLine_81 rfl ?_
              refine wp_aload_n dX6_readsLine_82 rfl ?_
              refine wp_geti dX6_readsLine_83 fk6_125 (tb_214 hT) (tk_214 hT) rfl ?_
              refine wp_iconst (v := 1) dX6_readsLine_86 rfl ?_
              refine wp_iadd dX6_readsLine_87 ?_
              refine wp_puti dX6_readsLine_88 fp6_125 (tb_214 hT) (tk_214 hT) rfl ?_
              refine wp_iload_n dX6_readsLine_91 rfl ?_
              refine wp_bipush (v := 42) dX6_readsLine_92 rfl ?_
              refine wp_icmp_ne 104 dX6_readsLine_94 (by decide) (fun hc => ?_) (fun hc => ?_)
              · replace h := h.1 hc
                refine wp_iload_n dX6_readsLine_104 rfl ?_
                refine wp_bipush (v := 126) dX6_readsLine_105 rfl ?_
                refine wp_icmp_ne 117 dX6_readsLine_107 (by decide) (fun hc => ?_) (fun hc => ?_)
                · replace h := h.1 hc
                  refine wp_aload_n dX6_readsLine_117 rfl ?_
                  refine wq_VI0 lk6_268 rfl (tb_214 hT) (tk_214 hT) dX6_readsLine_118 h (rmQ_ok (by decide) (by decide)) ⟨Nat.le_refl _, Nat.le_refl _⟩ (Nat.le_of_ble_eq_true rfl) (fun r118''' V118''' h => ?_)
                  exact wp_iret dX6_readsLine_121 (by rcases h.1 with q9 | q9 <;> rw [q9] <;> rfl) ⟨_, rfl, rfl, rfl, rfl, h.2⟩
                · replace h := h.2 hc
                  refine wp_aload_n dX6_readsLine_110 rfl ?_
                  refine wq_VI0 lk6_265 rfl (tb_214 hT) (tk_214 hT) dX6_readsLine_111 h (rmQ_ok (by decide) (by decide)) ⟨Nat.le_refl _, Nat.le_refl _⟩ (Nat.le_of_ble_eq_true rfl) (fun r111''' V111''' h => ?_)
                  refine wp_goto 121 dX6_readsLine_114 (by decide) ?_
                  exact wp_iret dX6_readsLine_121 (by rcases h.1 with q9 | q9 <;> rw [q9] <;> rfl) ⟨_, rfl, rfl, rfl, rfl, h.2⟩
              · replace h := h.2 hc
                refine wp_aload_n dX6_readsLine_97 rfl ?_
                refine wq_VI0 lk6_262 rfl (tb_214 hT) (tk_214 hT) dX6_readsLine_98 h (rmQ_ok (by decide) (by decide)) ⟨Nat.le_refl _, Nat.le_refl _⟩ (Nat.le_of_ble_eq_true rfl) (fun r98''' V98''' h => ?_)
                refine wp_goto 121 dX6_readsLine_101 (by decide) ?_
                exact wp_iret dX6_readsLine_121 (by rcases h.1 with q9 | q9 <;> rw [q9] <;> rfl) ⟨_, rfl, rfl, rfl, rfl, h.2⟩
            · replace h := h.2 hc
              refine wp_aload_n dX6_readsLine_76 rfl ?_
              refine wq_VI0 lk6_259 rfl (tb_214 hT) (tk_214 hT) dX6_readsLine_77 h (rmQ_ok (by decide) (by decide)) ⟨Nat.le_refl _, Nat.le_refl _⟩ (Nat.le_of_ble_eq_true rfl) (fun r77''' V77''' h => ?_)
              exact wp_iret dX6_readsLine_80 (by rcases h.1 with q9 | q9 <;> rw [q9] <;> rfl) ⟨_, rfl, rfl, rfl, rfl, h.2⟩
          · replace h := h.2 hc
            refine wp_aload_n dX6_readsLine_49 rfl ?_
            refine wp_iconst (v := 4) dX6_readsLine_50 rfl ?_
            refine wp_aload_n dX6_readsLine_51 rfl ?_
            refine wp_geti dX6_readsLine_52 fk6_125 (tb_214 hT) (tk_214 hT) rfl ?_
            refine wq_VI2 lk6_138 rfl (tb_214 hT) (tk_214 hT) dX6_readsLine_55 h (rmQ_ok (by decide) (by decide)) ⟨Nat.le_refl _, Nat.le_refl _⟩ (Nat.le_of_ble_eq_true rfl) (fun r55''' V55''' h => ?_)
            exact wp_iret dX6_readsLine_58 (by rcases h.1 with q9 | q9 <;> rw [q9] <;> rfl) ⟨_, rfl, rfl, rfl, rfl, h.2⟩
        · replace h := h.2 hc
          refine wp_aload_n dX6_readsLine_30 rfl ?_
          refine wp_iconst (v := 1) dX6_readsLine_31 rfl ?_
          refine wp_aload_n dX6_readsLine_32 rfl ?_
          refine wp_geti dX6_readsLine_33 fk6_125 (tb_214 hT) (tk_214 hT) rfl ?_
          refine wq_VI2 lk6_138 rfl (tb_214 hT) (tk_214 hT) dX6_readsLine_36 h (rmQ_ok (by decide) (by decide)) ⟨Nat.le_refl _, Nat.le_refl _⟩ (Nat.le_of_ble_eq_true rfl) (fun r36 V36 h => ?_)
          exact wp_iret dX6_readsLine_39 (by rcases h.1 with q9 | q9 <;> rw [q9] <;> rfl) ⟨_, rfl, rfl, rfl, rfl, h.2⟩
theorem n6_readsLine {E : eT} {Q : Int32 → vT → Prop} {V : vT} (h : w6_readsLine E Q 0 [some (vr 214), none] [] V) : c6_readsLine E V Q := MOk.enter [some (vr 214), none] pn_6 rfl rfl (Nat.le_of_ble_eq_true rfl) rfl h
theorem b6_readsThing_0 {E : eT} {Q : Int32 → vT → Prop} {V : vT} (hT : TW E) (h : c6_readsWithin E 23 V (fun r8 V8 => (¬ r8 = 0 → c6_here E V8 (fun r22 V22 => (r22 = 64 → (r22 = 64 → (¬ r22 = 64 → c6_readsWithin E 9999 (up2 V22 214 7 ((V22 214 7) + 1)) (fun r143 V143 => (¬ r143 = 0 → (¬ r22 = 61 → vp_in (264 + (V8 214 10)) 315 ∧ (Q 1 (up2 V143 215 ((264 + (V8 214 10)).toNatClampNeg) (V143 214 10)))) ∧ (r22 = 61 → vp_in (240 + (V8 214 10)) 315 ∧ (Q 1 (up2 V143 215 ((240 + (V8 214 10)).toNatClampNeg) (V143 214 10))))) ∧ (r143 = 0 → Q 0 V143))) ∧ (r22 = 64 → c6_readsSpot E (up2 V22 214 7 ((V22 214 7) + 1)) (fun r93 V93 => (¬ r93 = 0 → vp_in (192 + (V8 214 10)) 315 ∧ (vp_in (216 + (V8 214 10)) 315 ∧ (vp_in (288 + (V8 214 10)) 315 ∧ (Q 1 (up2 (up2 (up2 V93 215 ((192 + (V8 214 10)).toNatClampNeg) 1) 215 ((216 + (V8 214 10)).toNatClampNeg) ((up2 V93 215 ((192 + (V8 214 10)).toNatClampNeg) 1) 214 31)) 215 ((288 + (V8 214 10)).toNatClampNeg) 0))))) ∧ (r93 = 0 → Q 0 V93)))) ∧ (¬ r22 = 64 → c6_isThing E (V8 214 10) V22 (fun r62 V62 => (¬ r62 = 0 → (¬ r22 = 64 → c6_readsWithin E 9999 (up2 V62 214 7 ((V62 214 7) + 1)) (fun r143' V143' => (¬ r143' = 0 → (¬ r22 = 61 → vp_in (264 + (V8 214 10)) 315 ∧ (Q 1 (up2 V143' 215 ((264 + (V8 214 10)).toNatClampNeg) (V143' 214 10)))) ∧ (r22 = 61 → vp_in (240 + (V8 214 10)) 315 ∧ (Q 1 (up2 V143' 215 ((240 + (V8 214 10)).toNatClampNeg) (V143' 214 10))))) ∧ (r143' = 0 → Q 0 V143'))) ∧ (r22 = 64 → c6_readsSpot E (up2 V62 214 7 ((V62 214 7) + 1)) (fun r93' V93' => (¬ r93' = 0 → vp_in (192 + (V8 214 10)) 315 ∧ (vp_in (216 + (V8 214 10)) 315 ∧ (vp_in (288 + (V8 214 10)) 315 ∧ (Q 1 (up2 (up2 (up2 V93' 215 ((192 + (V8 214 10)).toNatClampNeg) 1) 215 ((216 + (V8 214 10)).toNatClampNeg) ((up2 V93' 215 ((192 + (V8 214 10)).toNatClampNeg) 1) 214 31)) 215 ((288 + (V8 214 10)).toNatClampNeg) 0))))) ∧ (r93' = 0 → Q 0 V93')))) ∧ (r62 = 0 → c6_wrongAt E 7 (V 214 7) V62 (fun r72 V72 => (r72 = 0 ∨ r72 = 1) ∧ Q r72 V72))))) ∧ (¬ r22 = 64 → (r22 = 61 → (r22 = 64 → (¬ r22 = 64 → c6_readsWithin E 9999 (up2 V22 214 7 ((V22 214 7) + 1)) (fun r143'' V143'' => (¬ r143'' = 0 → (¬ r22 = 61 → vp_in (264 + (V8 214 10)) 315 ∧ (Q 1 (up2 V143'' 215 ((264 + (V8 214 10)).toNatClampNeg) (V143'' 214 10)))) ∧ (r22 = 61 → vp_in (240 + (V8 214 10)) 315 ∧ (Q 1 (up2 V143'' 215 ((240 + (V8 214 10)).toNatClampNeg) (V143'' 214 10))))) ∧ (r143'' = 0 → Q 0 V143''))) ∧ (r22 = 64 → c6_readsSpot E (up2 V22 214 7 ((V22 214 7) + 1)) (fun r93'' V93'' => (¬ r93'' = 0 → vp_in (192 + (V8 214 10)) 315 ∧ (vp_in (216 + (V8 214 10)) 315 ∧ (vp_in (288 + (V8 214 10)) 315 ∧ (Q 1 (up2 (up2 (up2 V93'' 215 ((192 + (V8 214 10)).toNatClampNeg) 1) 215 ((216 + (V8 214 10)).toNatClampNeg) ((up2 V93'' 215 ((192 + (V8 214 10)).toNatClampNeg) 1) 214 31)) 215 ((288 + (V8 214 10)).toNatClampNeg) 0))))) ∧ (r93'' = 0 → Q 0 V93'')))) ∧ (¬ r22 = 64 → c6_isThing E (V8 214 10) V22 (fun r62' V62' => (¬ r62' = 0 → (¬ r22 = 64 → c6_readsWithin E 9999 (up2 V62' 214 7 ((V62' 214 7) + 1)) (fun r143''' V143''' => (¬ r143''' = 0 → (¬ r22 = 61 → vp_in (264 + (V8 214 10)) 315 ∧ (Q 1 (up2 V143''' 215 ((264 + (V8 214 10)).toNatClampNeg) (V143''' 214 10)))) ∧ (r22 = 61 → vp_in (240 + (V8 214 10)) 315 ∧ (Q 1 (up2 V143''' 215 ((240 + (V8 214 10)).toNatClampNeg) (V143''' 214 10))))) ∧ (r143''' = 0 → Q 0 V143'''))) ∧ (r22 = 64 → c6_readsSpot E (up2 V62' 214 7 ((V62' 214 7) + 1)) (fun r93''' V93''' => (¬ r93''' = 0 → vp_in (192 + (V8 214 10)) 315 ∧ (vp_in (216 + (V8 214 10)) 315 ∧ (vp_in (288 + (V8 214 10)) 315 ∧ (Q 1 (up2 (up2 (up2 V93''' 215 ((192 + (V8 214 10)).toNatClampNeg) 1) 215 ((216 + (V8 214 10)).toNatClampNeg) ((up2 V93''' 215 ((192 + (V8 214 10)).toNatClampNeg) 1) 214 31)) 215 ((288 + (V8 214 10)).toNatClampNeg) 0))))) ∧ (r93''' = 0 → Q 0 V93''')))) ∧ (r62' = 0 → c6_wrongAt E 7 (V 214 7) V62' (fun r72' V72' => (r72' = 0 ∨ r72' = 1) ∧ Q r72' V72'))))) ∧ (¬ r22 = 61 → (r22 = 43 → (r22 = 64 → (¬ r22 = 64 → c6_readsWithin E 9999 (up2 V22 214 7 ((V22 214 7) + 1)) (fun r143'''' V143'''' => (¬ r143'''' = 0 → (¬ r22 = 61 → vp_in (264 + (V8 214 10)) 315 ∧ (Q 1 (up2 V143'''' 215 ((264 + (V8 214 10)).toNatClampNeg) (V143'''' 214 10)))) ∧ (r22 = 61 → vp_in (240 + (V8 214 10)) 315 ∧ (Q 1 (up2 V143'''' 215 ((240 + (V8 214 10)).toNatClampNeg) (V143'''' 214 10))))) ∧ (r143'''' = 0 → Q 0 V143''''))) ∧ (r22 = 64 → c6_readsSpot E (up2 V22 214 7 ((V22 214 7) + 1)) (fun r93'''' V93'''' => (¬ r93'''' = 0 → vp_in (192 + (V8 214 10)) 315 ∧ (vp_in (216 + (V8 214 10)) 315 ∧ (vp_in (288 + (V8 214 10)) 315 ∧ (Q 1 (up2 (up2 (up2 V93'''' 215 ((192 + (V8 214 10)).toNatClampNeg) 1) 215 ((216 + (V8 214 10)).toNatClampNeg) ((up2 V93'''' 215 ((192 + (V8 214 10)).toNatClampNeg) 1) 214 31)) 215 ((288 + (V8 214 10)).toNatClampNeg) 0))))) ∧ (r93'''' = 0 → Q 0 V93'''')))) ∧ (¬ r22 = 64 → c6_isThing E (V8 214 10) V22 (fun r62'' V62'' => (¬ r62'' = 0 → (¬ r22 = 64 → c6_readsWithin E 9999 (up2 V62'' 214 7 ((V62'' 214 7) + 1)) (fun r143''''' V143''''' => (¬ r143''''' = 0 → (¬ r22 = 61 → vp_in (264 + (V8 214 10)) 315 ∧ (Q 1 (up2 V143''''' 215 ((264 + (V8 214 10)).toNatClampNeg) (V143''''' 214 10)))) ∧ (r22 = 61 → vp_in (240 + (V8 214 10)) 315 ∧ (Q 1 (up2 V143''''' 215 ((240 + (V8 214 10)).toNatClampNeg) (V143''''' 214 10))))) ∧ (r143''''' = 0 → Q 0 V143'''''))) ∧ (r22 = 64 → c6_readsSpot E (up2 V62'' 214 7 ((V62'' 214 7) + 1)) (fun r93''''' V93''''' => (¬ r93''''' = 0 → vp_in (192 + (V8 214 10)) 315 ∧ (vp_in (216 + (V8 214 10)) 315 ∧ (vp_in (288 + (V8 214 10)) 315 ∧ (Q 1 (up2 (up2 (up2 V93''''' 215 ((192 + (V8 214 10)).toNatClampNeg) 1) 215 ((216 + (V8 214 10)).toNatClampNeg) ((up2 V93''''' 215 ((192 + (V8 214 10)).toNatClampNeg) 1) 214 31)) 215 ((288 + (V8 214 10)).toNatClampNeg) 0))))) ∧ (r93''''' = 0 → Q 0 V93''''')))) ∧ (r62'' = 0 → c6_wrongAt E 7 (V 214 7) V62'' (fun r72'' V72'' => (r72'' = 0 ∨ r72'' = 1) ∧ Q r72'' V72''))))) ∧ (¬ r22 = 43 → c6_wrongAt E 1 (V22 214 7) V22 (fun r50 V50 => (r50 = 0 ∨ r50 = 1) ∧ Q r50 V50)))))) ∧ (r8 = 0 → Q 0 V8))) : w6_readsThing E Q 0 [some (vr 214), none, none, none] [] V := by
  refine wp_aload_n dX6_readsThing_0 rfl ?_
  refine wp_geti dX6_readsThing_1 fk6_125 (tb_214 hT) (tk_214 hT) rfl ?_
  refine wi4_1 dX6_readsThing_4 ?_
  refine wp_aload_n dX6_readsThing_5 rfl ?_
  refine wp_bipush (v := 23) dX6_readsThing_6 rfl ?_
  refine wq_VI1 lk6_247 rfl (tb_214 hT) (tk_214 hT) dX6_readsThing_8 h (rmQ_ok (by decide) (by decide)) ⟨Nat.le_refl _, Nat.le_refl _⟩ (Nat.le_of_ble_eq_true rfl) (fun r8 V8 h => ?_)
  refine wp_if_ne 16 dX6_readsThing_11 (by decide) (fun hc => ?_) (fun hc => ?_)
  · replace h := h.1 hc
    refine wp_aload_n dX6_readsThing_16 rfl ?_
    refine wp_geti dX6_readsThing_17 fk6_141 (tb_214 hT) (tk_214 hT) rfl ?_
    refine wi4_2 dX6_readsThing_20 ?_
    refine wp_aload_n dX6_readsThing_21 rfl ?_
    refine wq_VI0 lk6_131 rfl (tb_214 hT) (tk_214 hT) dX6_readsThing_22 h (rmQ_ok (by decide) (by decide)) ⟨Nat.le_refl _, Nat.le_refl _⟩ (Nat.le_of_ble_eq_true rfl) (fun r22 V22 h => ?_)
    refine wi4_3 dX6_readsThing_25 ?_
    refine wp_iload_n dX6_readsThing_26 rfl ?_
    refine wp_bipush (v := 64) dX6_readsThing_27 rfl ?_
    refine wp_icmp_eq 54 dX6_readsThing_29 (by decide) (fun hc => ?_) (fun hc => ?_)
    · replace h := h.1 hc
      refine wp_iload_n dX6_readsThing_54 rfl ?_
      refine wp_bipush (v := 64) dX6_readsThing_55 rfl ?_
      refine wp_icmp_eq 76 dX6_readsThing_57 (by decide) (fun hc => ?_) (fun hc => ?_)
      · replace h := h.1 hc
        refine wp_aload_n dX6_readsThing_76 rfl ?_
        refine wp_aload_n dX6_readsThing_77 rfl ?_
        refine wp_geti dX6_readsThing_78 fk6_125 (tb_214 hT) (tk_214 hT) rfl ?_
        refine wp_iconst (v := 1) dX6_readsThing_81 rfl ?_
        refine wp_iadd dX6_readsThing_82 ?_
        refine wp_puti dX6_readsThing_83 fp6_125 (tb_214 hT) (tk_214 hT) rfl ?_
        refine wp_iload_n dX6_readsThing_86 rfl ?_
        refine wp_bipush (v := 64) dX6_readsThing_87 rfl ?_
        refine wp_icmp_ne 139 dX6_readsThing_89 (by decide) (fun hc => ?_) (fun hc => ?_)
        · replace h := h.1 hc
          refine wp_aload_n dX6_readsThing_139 rfl ?_
          refine wp_sipush (v := 9999) dX6_readsThing_140 rfl ?_
          refine wq_VI1 lk6_247 rfl (tb_214 hT) (tk_214 hT) dX6_readsThing_143 h (rmQ_ok (by decide) (by decide)) ⟨Nat.le_refl _, Nat.le_refl _⟩ (Nat.le_of_ble_eq_true rfl) (fun r143 V143 h => ?_)
          refine wp_if_ne 151 dX6_readsThing_146 (by decide) (fun hc => ?_) (fun hc => ?_)
          · replace h := h.1 hc
            refine wp_aload_n dX6_readsThing_151 rfl ?_
            refine wp_getrs dX6_readsThing_152 fk6_7 (tb_214 hT) (tk_214 hT) rfl (tr_0 hT) ?_
            refine wp_iload_n dX6_readsThing_155 rfl ?_
            refine wp_bipush (v := 61) dX6_readsThing_156 rfl ?_
            refine wp_icmp_ne 167 dX6_readsThing_158 (by decide) (fun hc => ?_) (fun hc => ?_)
            · replace h := h.1 hc
              refine wp_sipush (v := 264) dX6_readsThing_167 rfl ?_
              refine wp_iload_n dX6_readsThing_170 rfl ?_
              refine wp_iadd dX6_readsThing_171 ?_
              refine wp_aload_n dX6_readsThing_172 rfl ?_
              refine wp_geti dX6_readsThing_173 fk6_141 (tb_214 hT) (tk_214 hT) rfl ?_
              refine wp_iast dX6_readsThing_176 (tb_215 hT) (tk_215 hT) h.1 ?_
              replace h := h.2
              refine wp_iconst (v := 1) dX6_readsThing_177 rfl ?_
              exact wp_iret dX6_readsThing_178 rfl ⟨_, rfl, rfl, rfl, rfl, h⟩
            · replace h := h.2 hc
              refine wp_sipush (v := 240) dX6_readsThing_161 rfl ?_
              refine wp_goto 170 dX6_readsThing_164 (by decide) ?_
              refine wp_iload_n dX6_readsThing_170 rfl ?_
              refine wp_iadd dX6_readsThing_171 ?_
              refine wp_aload_n dX6_readsThing_172 rfl ?_
              refine wp_geti dX6_readsThing_173 fk6_141 (tb_214 hT) (tk_214 hT) rfl ?_
              refine wp_iast dX6_readsThing_176 (tb_215 hT) (tk_215 hT) h.1 ?_
              replace h := h.2
              refine wp_iconst (v := 1) dX6_readsThing_177 rfl ?_
              exact wp_iret dX6_readsThing_178 rfl ⟨_, rfl, rfl, rfl, rfl, h⟩
          · replace h := h.2 hc
            refine wp_iconst (v := 0) dX6_readsThing_149 rfl ?_
            exact wp_iret dX6_readsThing_150 rfl ⟨_, rfl, rfl, rfl, rfl, h⟩
        · replace h := h.2 hc
          refine wp_aload_n dX6_readsThing_92 rfl ?_
          refine wq_VI0 lk6_253 rfl (tb_214 hT) (tk_214 hT) dX6_readsThing_93 h (rmQ_ok (by decide) (by decide)) ⟨Nat.le_refl _, Nat.le_refl _⟩ (Nat.le_of_ble_eq_true rfl) (fun r93 V93 h => ?_)
          refine wp_if_ne 101 dX6_readsThing_96 (by decide) (fun hc => ?_) (fun hc => ?_)
          · replace h := h.1 hc
            refine wp_aload_n dX6_readsThing_101 rfl ?_
            refine wp_getrs dX6_readsThing_102 fk6_7 (tb_214 hT) (tk_214 hT) rfl (tr_0 hT) ?_
            refine wp_sipush (v := 192) dX6_readsThing_105 rfl ?_
            refine wp_iload_n dX6_readsThing_108 rfl ?_
            refine wp_iadd dX6_readsThing_109 ?_
            refine wp_iconst (v := 1) dX6_readsThing_110 rfl ?_
            refine wp_iast dX6_readsThing_111 (tb_215 hT) (tk_215 hT) h.1 ?_
            replace h := h.2
            refine wp_aload_n dX6_readsThing_112 rfl ?_
            refine wp_getrs dX6_readsThing_113 fk6_7 (tb_214 hT) (tk_214 hT) rfl (tr_0 hT) ?_
            refine wp_sipush (v := 216) dX6_readsThing_116 rfl ?_
            refine wp_iload_n dX6_readsThing_119 rfl ?_
            refine wp_iadd dX6_readsThing_120 ?_
            refine wp_aload_n dX6_readsThing_121 rfl ?_
            refine wp_geti dX6_readsThing_122 fk6_250 (tb_214 hT) (tk_214 hT) rfl ?_
            refine wp_iast dX6_readsThing_125 (tb_215 hT) (tk_215 hT) h.1 ?_
            replace h := h.2
            refine wp_aload_n dX6_readsThing_126 rfl ?_
            refine wp_getrs dX6_readsThing_127 fk6_7 (tb_214 hT) (tk_214 hT) rfl (tr_0 hT) ?_
            refine wp_sipush (v := 288) dX6_readsThing_130 rfl ?_
            refine wp_iload_n dX6_readsThing_133 rfl ?_
            refine wp_iadd dX6_readsThing_134 ?_
            refine wp_iconst (v := 0) dX6_readsThing_135 rfl ?_
            refine wp_iast dX6_readsThing_136 (tb_215 hT) (tk_215 hT) h.1 ?_
            replace h := h.2
            refine wp_iconst (v := 1) dX6_readsThing_137 rfl ?_
            exact wp_iret dX6_readsThing_138 rfl ⟨_, rfl, rfl, rfl, rfl, h⟩
          · replace h := h.2 hc
            refine wp_iconst (v := 0) dX6_readsThing_99 rfl ?_
            exact wp_iret dX6_readsThing_100 rfl ⟨_, rfl, rfl, rfl, rfl, h⟩
      · replace h := h.2 hc
        refine wp_aload_n dX6_readsThing_60 rfl ?_
        refine wp_iload_n dX6_readsThing_61 rfl ?_
        refine wq_VI1 lk6_114 rfl (tb_214 hT) (tk_214 hT) dX6_readsThing_62 h (rmQ_ok (by decide) (by decide)) ⟨Nat.le_refl _, Nat.le_refl _⟩ (Nat.le_of_ble_eq_true rfl) (fun r62 V62 h => ?_)
        refine wp_if_ne 76 dX6_readsThing_65 (by decide) (fun hc => ?_) (fun hc => ?_)
        · replace h := h.1 hc
          refine wp_aload_n dX6_readsThing_76 rfl ?_
          refine wp_aload_n dX6_readsThing_77 rfl ?_
          refine wp_geti dX6_readsThing_78 fk6_125 (tb_214 hT) (tk_214 hT) rfl ?_
          refine wp_iconst (v := 1) dX6_readsThing_81 rfl ?_
          refine wp_iadd dX6_readsThing_82 ?_
          refine wp_puti dX6_readsThing_83 fp6_125 (tb_214 hT) (tk_214 hT) rfl ?_
          refine wp_iload_n dX6_readsThing_86 rfl ?_
          refine wp_bipush (v := 64) dX6_readsThing_87 rfl ?_
          refine wp_icmp_ne 139 dX6_readsThing_89 (by decide) (fun hc => ?_) (fun hc => ?_)
          · replace h := h.1 hc
            refine wp_aload_n dX6_readsThing_139 rfl ?_
            refine wp_sipush (v := 9999) dX6_readsThing_140 rfl ?_
            refine wq_VI1 lk6_247 rfl (tb_214 hT) (tk_214 hT) dX6_readsThing_143 h (rmQ_ok (by decide) (by decide)) ⟨Nat.le_refl _, Nat.le_refl _⟩ (Nat.le_of_ble_eq_true rfl) (fun r143' V143' h => ?_)
            refine wp_if_ne 151 dX6_readsThing_146 (by decide) (fun hc => ?_) (fun hc => ?_)
            · replace h := h.1 hc
              refine wp_aload_n dX6_readsThing_151 rfl ?_
              refine wp_getrs dX6_readsThing_152 fk6_7 (tb_214 hT) (tk_214 hT) rfl (tr_0 hT) ?_
              refine wp_iload_n dX6_readsThing_155 rfl ?_
              refine wp_bipush (v := 61) dX6_readsThing_156 rfl ?_
              refine wp_icmp_ne 167 dX6_readsThing_158 (by decide) (fun hc => ?_) (fun hc => ?_)
              · replace h := h.1 hc
                refine wp_sipush (v := 264) dX6_readsThing_167 rfl ?_
                refine wp_iload_n dX6_readsThing_170 rfl ?_
                refine wp_iadd dX6_readsThing_171 ?_
                refine wp_aload_n dX6_readsThing_172 rfl ?_
                refine wp_geti dX6_readsThing_173 fk6_141 (tb_214 hT) (tk_214 hT) rfl ?_
                refine wp_iast dX6_readsThing_176 (tb_215 hT) (tk_215 hT) h.1 ?_
                replace h := h.2
                refine wp_iconst (v := 1) dX6_readsThing_177 rfl ?_
                exact wp_iret dX6_readsThing_178 rfl ⟨_, rfl, rfl, rfl, rfl, h⟩
              · replace h := h.2 hc
                refine wp_sipush (v := 240) dX6_readsThing_161 rfl ?_
                refine wp_goto 170 dX6_readsThing_164 (by decide) ?_
                refine wp_iload_n dX6_readsThing_170 rfl ?_
                refine wp_iadd dX6_readsThing_171 ?_
                refine wp_aload_n dX6_readsThing_172 rfl ?_
                refine wp_geti dX6_readsThing_173 fk6_141 (tb_214 hT) (tk_214 hT) rfl ?_
                refine wp_iast dX6_readsThing_176 (tb_215 hT) (tk_215 hT) h.1 ?_
                replace h := h.2
                refine wp_iconst (v := 1) dX6_readsThing_177 rfl ?_
                exact wp_iret dX6_readsThing_178 rfl ⟨_, rfl, rfl, rfl, rfl, h⟩
            · replace h := h.2 hc
              refine wp_iconst (v := 0) dX6_readsThing_149 rfl ?_
              exact wp_iret dX6_readsThing_150 rfl ⟨_, rfl, rfl, rfl, rfl, h⟩
          · replace h := h.2 hc
            refine wp_aload_n dX6_readsThing_92 rfl ?_
            refine wq_VI0 lk6_253 rfl (tb_214 hT) (tk_214 hT) dX6_readsThing_93 h (rmQ_ok (by decide) (by decide)) ⟨Nat.le_refl _, Nat.le_refl _⟩ (Nat.le_of_ble_eq_true rfl) (fun r93' V93' h => ?_)
            refine wp_if_ne 101 dX6_readsThing_96 (by decide) (fun hc => ?_) (fun hc => ?_)
            · replace h := h.1 hc
              refine wp_aload_n dX6_readsThing_101 rfl ?_
              refine wp_getrs dX6_readsThing_102 fk6_7 (tb_214 hT) (tk_214 hT) rfl (tr_0 hT) ?_
              refine wp_sipush (v := 192) dX6_readsThing_105 rfl ?_
              refine wp_iload_n dX6_readsThing_108 rfl ?_
              refine wp_iadd dX6_readsThing_109 ?_
              refine wp_iconst (v := 1) dX6_readsThing_110 rfl ?_
              refine wp_iast dX6_readsThing_111 (tb_215 hT) (tk_215 hT) h.1 ?_
              replace h := h.2
              refine wp_aload_n dX6_readsThing_112 rfl ?_
              refine wp_getrs dX6_readsThing_113 fk6_7 (tb_214 hT) (tk_214 hT) rfl (tr_0 hT) ?_
              refine wp_sipush (v := 216) dX6_readsThing_116 rfl ?_
              refine wp_iload_n dX6_readsThing_119 rfl ?_
              refine wp_iadd dX6_readsThing_120 ?_
              refine wp_aload_n dX6_readsThing_121 rfl ?_
              refine wp_geti dX6_readsThing_122 fk6_250 (tb_214 hT) (tk_214 hT) rfl ?_
              refine wp_iast dX6_readsThing_125 (tb_215 hT) (tk_215 hT) h.1 ?_
              replace h := h.2
              refine wp_aload_n dX6_readsThing_126 rfl ?_
              refine wp_getrs dX6_readsThing_127 fk6_7 (tb_214 hT) (tk_214 hT) rfl (tr_0 hT) ?_
              refine wp_sipush (v := 288) dX6_readsThing_130 rfl ?_
              refine wp_iload_n dX6_readsThing_133 rfl ?_
              refine wp_iadd dX6_readsThing_134 ?_
              refine wp_iconst (v := 0) dX6_readsThing_135 rfl ?_
              refine wp_iast dX6_readsThing_136 (tb_215 hT) (tk_215 hT) h.1 ?_
              replace h := h.2
              refine wp_iconst (v := 1) dX6_readsThing_137 rfl ?_
              exact wp_iret dX6_readsThing_138 rfl ⟨_, rfl, rfl, rfl, rfl, h⟩
            · replace h := h.2 hc
              refine wp_iconst (v := 0) dX6_readsThing_99 rfl ?_
              exact wp_iret dX6_readsThing_100 rfl ⟨_, rfl, rfl, rfl, rfl, h⟩
        · replace h := h.2 hc
          refine wp_aload_n dX6_readsThing_68 rfl ?_
          refine wp_bipush (v := 7) dX6_readsThing_69 rfl ?_
          refine wp_iload_n dX6_readsThing_71 rfl ?_
          refine wq_VI2 lk6_138 rfl (tb_214 hT) (tk_214 hT) dX6_readsThing_72 h (rmQ_ok (by decide) (by decide)) ⟨Nat.le_refl _, Nat.le_refl _⟩ (Nat.le_of_ble_eq_true rfl) (fun r72 V72 h => ?_)
          exact wp_iret dX6_readsThing_75 (by rcases h.1 with q9 | q9 <;> rw [q9] <;> rfl) ⟨_, rfl, rfl, rfl, rfl, h.2⟩
    · replace h := h.2 hc
      refine wp_iload_n dX6_readsThing_32 rfl ?_
      refine wp_bipush (v := 61) dX6_readsThing_33 rfl ?_
      refine wp_icmp_eq 54 dX6_readsThing_35 (by decide) (fun hc => ?_) (fun hc => ?_)
      · replace h := h.1 hc
        refine wp_iload_n dX6_readsThing_54 rfl ?_
        refine wp_bipush (v := 64) dX6_readsThing_55 rfl ?_
        refine wp_icmp_eq 76 dX6_readsThing_57 (by decide) (fun hc => ?_) (fun hc => ?_)
        · replace h := h.1 hc
          refine wp_aload_n dX6_readsThing_76 rfl ?_
          refine wp_aload_n dX6_readsThing_77 rfl ?_
          refine wp_geti dX6_readsThing_78 fk6_125 (tb_214 hT) (tk_214 hT) rfl ?_
          refine wp_iconst (v := 1) dX6_readsThing_81 rfl ?_
          refine wp_iadd dX6_readsThing_82 ?_
          refine wp_puti dX6_readsThing_83 fp6_125 (tb_214 hT) (tk_214 hT) rfl ?_
          refine wp_iload_n dX6_readsThing_86 rfl ?_
          refine wp_bipush (v := 64) dX6_readsThing_87 rfl ?_
          refine wp_icmp_ne 139 dX6_readsThing_89 (by decide) (fun hc => ?_) (fun hc => ?_)
          · replace h := h.1 hc
            refine wp_aload_n dX6_readsThing_139 rfl ?_
            refine wp_sipush (v := 9999) dX6_readsThing_140 rfl ?_
            refine wq_VI1 lk6_247 rfl (tb_214 hT) (tk_214 hT) dX6_readsThing_143 h (rmQ_ok (by decide) (by decide)) ⟨Nat.le_refl _, Nat.le_refl _⟩ (Nat.le_of_ble_eq_true rfl) (fun r143'' V143'' h => ?_)
            refine wp_if_ne 151 dX6_readsThing_146 (by decide) (fun hc => ?_) (fun hc => ?_)
            · replace h := h.1 hc
              refine wp_aload_n dX6_readsThing_151 rfl ?_
              refine wp_getrs dX6_readsThing_152 fk6_7 (tb_214 hT) (tk_214 hT) rfl (tr_0 hT) ?_
              refine wp_iload_n dX6_readsThing_155 rfl ?_
              refine wp_bipush (v := 61) dX6_readsThing_156 rfl ?_
              refine wp_icmp_ne 167 dX6_readsThing_158 (by decide) (fun hc => ?_) (fun hc => ?_)
              · replace h := h.1 hc
                refine wp_sipush (v := 264) dX6_readsThing_167 rfl ?_
                refine wp_iload_n dX6_readsThing_170 rfl ?_
                refine wp_iadd dX6_readsThing_171 ?_
                refine wp_aload_n dX6_readsThing_172 rfl ?_
                refine wp_geti dX6_readsThing_173 fk6_141 (tb_214 hT) (tk_214 hT) rfl ?_
                refine wp_iast dX6_readsThing_176 (tb_215 hT) (tk_215 hT) h.1 ?_
                replace h := h.2
                refine wp_iconst (v := 1) dX6_readsThing_177 rfl ?_
                exact wp_iret dX6_readsThing_178 rfl ⟨_, rfl, rfl, rfl, rfl, h⟩
              · replace h := h.2 hc
                refine wp_sipush (v := 240) dX6_readsThing_161 rfl ?_
                refine wp_goto 170 dX6_readsThing_164 (by decide) ?_
                refine wp_iload_n dX6_readsThing_170 rfl ?_
                refine wp_iadd dX6_readsThing_171 ?_
                refine wp_aload_n dX6_readsThing_172 rfl ?_
                refine wp_geti dX6_readsThing_173 fk6_141 (tb_214 hT) (tk_214 hT) rfl ?_
                refine wp_iast dX6_readsThing_176 (tb_215 hT) (tk_215 hT) h.1 ?_
                replace h := h.2
                refine wp_iconst (v := 1) dX6_readsThing_177 rfl ?_
                exact wp_iret dX6_readsThing_178 rfl ⟨_, rfl, rfl, rfl, rfl, h⟩
            · replace h := h.2 hc
              refine wp_iconst (v := 0) dX6_readsThing_149 rfl ?_
              exact wp_iret dX6_readsThing_150 rfl ⟨_, rfl, rfl, rfl, rfl, h⟩
          · replace h := h.2 hc
            refine wp_aload_n dX6_readsThing_92 rfl ?_
            refine wq_VI0 lk6_253 rfl (tb_214 hT) (tk_214 hT) dX6_readsThing_93 h (rmQ_ok (by decide) (by decide)) ⟨Nat.le_refl _, Nat.le_refl _⟩ (Nat.le_of_ble_eq_true rfl) (fun r93'' V93'' h => ?_)
            refine wp_if_ne 101 dX6_readsThing_96 (by decide) (fun hc => ?_) (fun hc => ?_)
            · replace h := h.1 hc
              refine wp_aload_n dX6_readsThing_101 rfl ?_
              refine wp_getrs dX6_readsThing_102 fk6_7 (tb_214 hT) (tk_214 hT) rfl (tr_0 hT) ?_
              refine wp_sipush (v := 192) dX6_readsThing_105 rfl ?_
              refine wp_iload_n dX6_readsThing_108 rfl ?_
              refine wp_iadd dX6_readsThing_109 ?_
              refine wp_iconst (v := 1) dX6_readsThing_110 rfl ?_
              refine wp_iast dX6_readsThing_111 (tb_215 hT) (tk_215 hT) h.1 ?_
              replace h := h.2
              refine wp_aload_n dX6_readsThing_112 rfl ?_
              refine wp_getrs dX6_readsThing_113 fk6_7 (tb_214 hT) (tk_214 hT) rfl (tr_0 hT) ?_
              refine wp_sipush (v := 216) dX6_readsThing_116 rfl ?_
              refine wp_iload_n dX6_readsThing_119 rfl ?_
              refine wp_iadd dX6_readsThing_120 ?_
              refine wp_aload_n dX6_readsThing_121 rfl ?_
              refine wp_geti dX6_readsThing_122 fk6_250 (tb_214 hT) (tk_214 hT) rfl ?_
              refine wp_iast dX6_readsThing_125 (tb_215 hT) (tk_215 hT) h.1 ?_
              replace h := h.2
              refine wp_aload_n dX6_readsThing_126 rfl ?_
              refine wp_getrs dX6_readsThing_127 fk6_7 (tb_214 hT) (tk_214 hT) rfl (tr_0 hT) ?_
              refine wp_sipush (v := 288) dX6_readsThing_130 rfl ?_
              refine wp_iload_n dX6_readsThing_133 rfl ?_
              refine wp_iadd dX6_readsThing_134 ?_
              refine wp_iconst (v := 0) dX6_readsThing_135 rfl ?_
              refine wp_iast dX6_readsThing_136 (tb_215 hT) (tk_215 hT) h.1 ?_
              replace h := h.2
              refine wp_iconst (v := 1) dX6_readsThing_137 rfl ?_
              exact wp_iret dX6_readsThing_138 rfl ⟨_, rfl, rfl, rfl, rfl, h⟩
            · replace h := h.2 hc
              refine wp_iconst (v := 0) dX6_readsThing_99 rfl ?_
              exact wp_iret dX6_readsThing_100 rfl ⟨_, rfl, rfl, rfl, rfl, h⟩
        · replace h := h.2 hc
          refine wp_aload_n dX6_readsThing_60 rfl ?_
          refine wp_iload_n dX6_readsThing_61 rfl ?_
          refine wq_VI1 lk6_114 rfl (tb_214 hT) (tk_214 hT) dX6_readsThing_62 h (rmQ_ok (by decide) (by decide)) ⟨Nat.le_refl _, Nat.le_refl _⟩ (Nat.le_of_ble_eq_true rfl) (fun r62' V62' h => ?_)
          refine wp_if_ne 76 dX6_readsThing_65 (by decide) (fun hc => ?_) (fun hc => ?_)
          · replace h := h.1 hc
            refine wp_aload_n dX6_readsThing_76 rfl ?_
            refine wp_aload_n dX6_readsThing_77 rfl ?_
            refine wp_geti dX6_readsThing_78 fk6_125 (tb_214 hT) (tk_214 hT) rfl ?_
            refine wp_iconst (v := 1) dX6_readsThing_81 rfl ?_
            refine wp_iadd dX6_readsThing_82 ?_
            refine wp_puti dX6_readsThing_83 fp6_125 (tb_214 hT) (tk_214 hT) rfl ?_
            refine wp_iload_n dX6_readsThing_86 rfl ?_
            refine wp_bipush (v := 64) dX6_readsThing_87 rfl ?_
            refine wp_icmp_ne 139 dX6_readsThing_89 (by decide) (fun hc => ?_) (fun hc => ?_)
            · replace h := h.1 hc
              refine wp_aload_n dX6_readsThing_139 rfl ?_
              refine wp_sipush (v := 9999) dX6_readsThing_140 rfl ?_
              refine wq_VI1 lk6_247 rfl (tb_214 hT) (tk_214 hT) dX6_readsThing_143 h (rmQ_ok (by decide) (by decide)) ⟨Nat.le_refl _, Nat.le_refl _⟩ (Nat.le_of_ble_eq_true rfl) (fun r143''' V143''' h => ?_)
              refine wp_if_ne 151 dX6_readsThing_146 (by decide) (fun hc => ?_) (fun hc => ?_)
              · replace h := h.1 hc
                refine wp_aload_n dX6_readsThing_151 rfl ?_
                refine wp_getrs dX6_readsThing_152 fk6_7 (tb_214 hT) (tk_214 hT) rfl (tr_0 hT) ?_
                refine wp_iload_n dX6_readsThing_155 rfl ?_
                refine wp_bipush (v := 61) dX6_readsThing_156 rfl ?_
                refine wp_icmp_ne 167 dX6_readsThing_158 (by decide) (fun hc => ?_) (fun hc => ?_)
                · replace h := h.1 hc
                  refine wp_sipush (v := 264) dX6_readsThing_167 rfl ?_
                  refine wp_iload_n dX6_readsThing_170 rfl ?_
                  refine wp_iadd dX6_readsThing_171 ?_
                  refine wp_aload_n dX6_readsThing_172 rfl ?_
                  refine wp_geti dX6_readsThing_173 fk6_141 (tb_214 hT) (tk_214 hT) rfl ?_
                  refine wp_iast dX6_readsThing_176 (tb_215 hT) (tk_215 hT) h.1 ?_
                  replace h := h.2
                  refine wp_iconst (v := 1) dX6_readsThing_177 rfl ?_
                  exact wp_iret dX6_readsThing_178 rfl ⟨_, rfl, rfl, rfl, rfl, h⟩
                · replace h := h.2 hc
                  refine wp_sipush (v := 240) dX6_readsThing_161 rfl ?_
                  refine wp_goto 170 dX6_readsThing_164 (by decide) ?_
                  refine wp_iload_n dX6_readsThing_170 rfl ?_
                  refine wp_iadd dX6_readsThing_171 ?_
                  refine wp_aload_n dX6_readsThing_172 rfl ?_
                  refine wp_geti dX6_readsThing_173 fk6_141 (tb_214 hT) (tk_214 hT) rfl ?_
                  refine wp_iast dX6_readsThing_176 (tb_215 hT) (tk_215 hT) h.1 ?_
                  replace h := h.2
                  refine wp_iconst (v := 1) dX6_readsThing_177 rfl ?_
                  exact wp_iret dX6_readsThing_178 rfl ⟨_, rfl, rfl, rfl, rfl, h⟩
              · replace h := h.2 hc
                refine wp_iconst (v := 0) dX6_readsThing_149 rfl ?_
                exact wp_iret dX6_readsThing_150 rfl ⟨_, rfl, rfl, rfl, rfl, h⟩
            · replace h := h.2 hc
              refine wp_aload_n dX6_readsThing_92 rfl ?_
              refine wq_VI0 lk6_253 rfl (tb_214 hT) (tk_214 hT) dX6_readsThing_93 h (rmQ_ok (by decide) (by decide)) ⟨Nat.le_refl _, Nat.le_refl _⟩ (Nat.le_of_ble_eq_true rfl) (fun r93''' V93''' h => ?_)
              refine wp_if_ne 101 dX6_readsThing_96 (by decide) (fun hc => ?_) (fun hc => ?_)
              · replace h := h.1 hc
                refine wp_aload_n dX6_readsThing_101 rfl ?_
                refine wp_getrs dX6_readsThing_102 fk6_7 (tb_214 hT) (tk_214 hT) rfl (tr_0 hT) ?_
                refine wp_sipush (v := 192) dX6_readsThing_105 rfl ?_
                refine wp_iload_n dX6_readsThing_108 rfl ?_
                refine wp_iadd dX6_readsThing_109 ?_
                refine wp_iconst (v := 1) dX6_readsThing_110 rfl ?_
                refine wp_iast dX6_readsThing_111 (tb_215 hT) (tk_215 hT) h.1 ?_
                replace h := h.2
                refine wp_aload_n dX6_readsThing_112 rfl ?_
                refine wp_getrs dX6_readsThing_113 fk6_7 (tb_214 hT) (tk_214 hT) rfl (tr_0 hT) ?_
                refine wp_sipush (v := 216) dX6_readsThing_116 rfl ?_
                refine wp_iload_n dX6_readsThing_119 rfl ?_
                refine wp_iadd dX6_readsThing_120 ?_
                refine wp_aload_n dX6_readsThing_121 rfl ?_
                refine wp_geti dX6_readsThing_122 fk6_250 (tb_214 hT) (tk_214 hT) rfl ?_
                refine wp_iast dX6_readsThing_125 (tb_215 hT) (tk_215 hT) h.1 ?_
                replace h := h.2
                refine wp_aload_n dX6_readsThing_126 rfl ?_
                refine wp_getrs dX6_readsThing_127 fk6_7 (tb_214 hT) (tk_214 hT) rfl (tr_0 hT) ?_
                refine wp_sipush (v := 288) dX6_readsThing_130 rfl ?_
                refine wp_iload_n dX6_readsThing_133 rfl ?_
                refine wp_iadd dX6_readsThing_134 ?_
                refine wp_iconst (v := 0) dX6_readsThing_135 rfl ?_
                refine wp_iast dX6_readsThing_136 (tb_215 hT) (tk_215 hT) h.1 ?_
                replace h := h.2
                refine wp_iconst (v := 1) dX6_readsThing_137 rfl ?_
                exact wp_iret dX6_readsThing_138 rfl ⟨_, rfl, rfl, rfl, rfl, h⟩
              · replace h := h.2 hc
                refine wp_iconst (v := 0) dX6_readsThing_99 rfl ?_
                exact wp_iret dX6_readsThing_100 rfl ⟨_, rfl, rfl, rfl, rfl, h⟩
          · replace h := h.2 hc
            refine wp_aload_n dX6_readsThing_68 rfl ?_
            refine wp_bipush (v := 7) dX6_readsThing_69 rfl ?_
            refine wp_iload_n dX6_readsThing_71 rfl ?_
            refine wq_VI2 lk6_138 rfl (tb_214 hT) (tk_214 hT) dX6_readsThing_72 h (rmQ_ok (by decide) (by decide)) ⟨Nat.le_refl _, Nat.le_refl _⟩ (Nat.le_of_ble_eq_true rfl) (fun r72' V72' h => ?_)
            exact wp_iret dX6_readsThing_75 (by rcases h.1 with q9 | q9 <;> rw [q9] <;> rfl) ⟨_, rfl, rfl, rfl, rfl, h.2⟩
      · replace h := h.2 hc
        refine wp_iload_n dX6_readsThing_38 rfl ?_
        refine wp_bipush (v := 43) dX6_readsThing_39 rfl ?_
        refine wp_icmp_eq 54 dX6_readsThing_41 (by decide) (fun hc => ?_) (fun hc => ?_)
        · replace h := h.1 hc
          refine wp_iload_n dX6_readsThing_54 rfl ?_
          refine wp_bipush (v := 64) dX6_readsThing_55 rfl ?_
          refine wp_icmp_eq 76 dX6_readsThing_57 (by decide) (fun hc => ?_) (fun hc => ?_)
          · replace h := h.1 hc
            refine wp_aload_n dX6_readsThing_76 rfl ?_
            refine wp_aload_n dX6_readsThing_77 rfl ?_
            refine wp_geti dX6_readsThing_78 fk6_125 (tb_214 hT) (tk_214 hT) rfl ?_
            refine wp_iconst (v := 1) dX6_readsThing_81 rfl ?_
            refine wp_iadd dX6_readsThing_82 ?_
            refine wp_puti dX6_readsThing_83 fp6_125 (tb_214 hT) (tk_214 hT) rfl ?_
            refine wp_iload_n dX6_readsThing_86 rfl ?_
            refine wp_bipush (v := 64) dX6_readsThing_87 rfl ?_
            refine wp_icmp_ne 139 dX6_readsThing_89 (by decide) (fun hc => ?_) (fun hc => ?_)
            · replace h := h.1 hc
              refine wp_aload_n dX6_readsThing_139 rfl ?_
              refine wp_sipush (v := 9999) dX6_readsThing_140 rfl ?_
              refine wq_VI1 lk6_247 rfl (tb_214 hT) (tk_214 hT) dX6_readsThing_143 h (rmQ_ok (by decide) (by decide)) ⟨Nat.le_refl _, Nat.le_refl _⟩ (Nat.le_of_ble_eq_true rfl) (fun r143'''' V143'''' h => ?_)
              refine wp_if_ne 151 dX6_readsThing_146 (by decide) (fun hc => ?_) (fun hc => ?_)
              · replace h := h.1 hc
                refine wp_aload_n dX6_readsThing_151 rfl ?_
                refine wp_getrs dX6_readsThing_152 fk6_7 (tb_214 hT) (tk_214 hT) rfl (tr_0 hT) ?_
                refine wp_iload_n dX6_readsThing_155 rfl ?_
                refine wp_bipush (v := 61) dX6_readsThing_156 rfl ?_
                refine wp_icmp_ne 167 dX6_readsThing_158 (by decide) (fun hc => ?_) (fun hc => ?_)
                · replace h := h.1 hc
                  refine wp_sipush (v := 264) dX6_readsThing_167 rfl ?_
                  refine wp_iload_n dX6_readsThing_170 rfl ?_
                  refine wp_iadd dX6_readsThing_171 ?_
                  refine wp_aload_n dX6_readsThing_172 rfl ?_
                  refine wp_geti dX6_readsThing_173 fk6_141 (tb_214 hT) (tk_214 hT) rfl ?_
                  refine wp_iast dX6_readsThing_176 (tb_215 hT) (tk_215 hT) h.1 ?_
                  replace h := h.2
                  refine wp_iconst (v := 1) dX6_readsThing_177 rfl ?_
                  exact wp_iret dX6_readsThing_178 rfl ⟨_, rfl, rfl, rfl, rfl, h⟩
                · replace h := h.2 hc
                  refine wp_sipush (v := 240) dX6_readsThing_161 rfl ?_
                  refine wp_goto 170 dX6_readsThing_164 (by decide) ?_
                  refine wp_iload_n dX6_readsThing_170 rfl ?_
                  refine wp_iadd dX6_readsThing_171 ?_
                  refine wp_aload_n dX6_readsThing_172 rfl ?_
                  refine wp_geti dX6_readsThing_173 fk6_141 (tb_214 hT) (tk_214 hT) rfl ?_
                  refine wp_iast dX6_readsThing_176 (tb_215 hT) (tk_215 hT) h.1 ?_
                  replace h := h.2
                  refine wp_iconst (v := 1) dX6_readsThing_177 rfl ?_
                  exact wp_iret dX6_readsThing_178 rfl ⟨_, rfl, rfl, rfl, rfl, h⟩
              · replace h := h.2 hc
                refine wp_iconst (v := 0) dX6_readsThing_149 rfl ?_
                exact wp_iret dX6_readsThing_150 rfl ⟨_, rfl, rfl, rfl, rfl, h⟩
            · replace h := h.2 hc
              refine wp_aload_n dX6_readsThing_92 rfl ?_
              refine wq_VI0 lk6_253 rfl (tb_214 hT) (tk_214 hT) dX6_readsThing_93 h (rmQ_ok (by decide) (by decide)) ⟨Nat.le_refl _, Nat.le_refl _⟩ (Nat.le_of_ble_eq_true rfl) (fun r93'''' V93'''' h => ?_)
              refine wp_if_ne 101 dX6_readsThing_96 (by decide) (fun hc => ?_) (fun hc => ?_)
              · replace h := h.1 hc
                refine wp_aload_n dX6_readsThing_101 rfl ?_
                refine wp_getrs dX6_readsThing_102 fk6_7 (tb_214 hT) (tk_214 hT) rfl (tr_0 hT) ?_
                refine wp_sipush (v := 192) dX6_readsThing_105 rfl ?_
                refine wp_iload_n dX6_readsThing_108 rfl ?_
                refine wp_iadd dX6_readsThing_109 ?_
                refine wp_iconst (v := 1) dX6_readsThing_110 rfl ?_
                refine wp_iast dX6_readsThing_111 (tb_215 hT) (tk_215 hT) h.1 ?_
                replace h := h.2
                refine wp_aload_n dX6_readsThing_112 rfl ?_
                refine wp_getrs dX6_readsThing_113 fk6_7 (tb_214 hT) (tk_214 hT) rfl (tr_0 hT) ?_
                refine wp_sipush (v := 216) dX6_readsThing_116 rfl ?_
                refine wp_iload_n dX6_readsThing_119 rfl ?_
                refine wp_iadd dX6_readsThing_120 ?_
                refine wp_aload_n dX6_readsThing_121 rfl ?_
                refine wp_geti dX6_readsThing_122 fk6_250 (tb_214 hT) (tk_214 hT) rfl ?_
                refine wp_iast dX6_readsThing_125 (tb_215 hT) (tk_215 hT) h.1 ?_
                replace h := h.2
                refine wp_aload_n dX6_readsThing_126 rfl ?_
                refine wp_getrs dX6_readsThing_127 fk6_7 (tb_214 hT) (tk_214 hT) rfl (tr_0 hT) ?_
                refine wp_sipush (v := 288) dX6_readsThing_130 rfl ?_
                refine wp_iload_n dX6_readsThing_133 rfl ?_
                refine wp_iadd dX6_readsThing_134 ?_
                refine wp_iconst (v := 0) dX6_readsThing_135 rfl ?_
                refine wp_iast dX6_readsThing_136 (tb_215 hT) (tk_215 hT) h.1 ?_
                replace h := h.2
                refine wp_iconst (v := 1) dX6_readsThing_137 rfl ?_
                exact wp_iret dX6_readsThing_138 rfl ⟨_, rfl, rfl, rfl, rfl, h⟩
              · replace h := h.2 hc
                refine wp_iconst (v := 0) dX6_readsThing_99 rfl ?_
                exact wp_iret dX6_readsThing_100 rfl ⟨_, rfl, rfl, rfl, rfl, h⟩
          · replace h := h.2 hc
            refine wp_aload_n dX6_readsThing_60 rfl ?_
            refine wp_iload_n dX6_readsThing_61 rfl ?_
            refine wq_VI1 lk6_114 rfl (tb_214 hT) (tk_214 hT) dX6_readsThing_62 h (rmQ_ok (by decide) (by decide)) ⟨Nat.le_refl _, Nat.le_refl _⟩ (Nat.le_of_ble_eq_true rfl) (fun r62'' V62'' h => ?_)
            refine wp_if_ne 76 dX6_readsThing_65 (by decide) (fun hc => ?_) (fun hc => ?_)
            · replace h := h.1 hc
              refine wp_aload_n dX6_readsThing_76 rfl ?_
              refine wp_aload_n dX6_readsThing_77 rfl ?_
              refine wp_geti dX6_readsThing_78 fk6_125 (tb_214 hT) (tk_214 hT) rfl ?_
              refine wp_iconst (v := 1) dX6_readsThing_81 rfl ?_
              refine wp_iadd dX6_readsThing_82 ?_
              refine wp_puti dX6_readsThing_83 fp6_125 (tb_214 hT) (tk_214 hT) rfl ?_
              refine wp_iload_n dX6_readsThing_86 rfl ?_
              refine wp_bipush (v := 64) dX6_readsThing_87 rfl ?_
              refine wp_icmp_ne 139 dX6_readsThing_89 (by decide) (fun hc => ?_) (fun hc => ?_)
              · replace h := h.1 hc
                refine wp_aload_n dX6_readsThing_139 rfl ?_
                refine wp_sipush (v := 9999) dX6_readsThing_140 rfl ?_
                refine wq_VI1 lk6_247 rfl (tb_214 hT) (tk_214 hT) dX6_readsThing_143 h (rmQ_ok (by decide) (by decide)) ⟨Nat.le_refl _, Nat.le_refl _⟩ (Nat.le_of_ble_eq_true rfl) (fun r143''''' V143''''' h => ?_)
                refine wp_if_ne 151 dX6_readsThing_146 (by decide) (fun hc => ?_) (fun hc => ?_)
                · replace h := h.1 hc
                  refine wp_aload_n dX6_readsThing_151 rfl ?_
                  refine wp_getrs dX6_readsThing_152 fk6_7 (tb_214 hT) (tk_214 hT) rfl (tr_0 hT) ?_
                  refine wp_iload_n dX6_readsThing_155 rfl ?_
                  refine wp_bipush (v := 61) dX6_readsThing_156 rfl ?_
                  refine wp_icmp_ne 167 dX6_readsThing_158 (by decide) (fun hc => ?_) (fun hc => ?_)
                  · replace h := h.1 hc
                    refine wp_sipush (v := 264) dX6_readsThing_167 rfl ?_
                    refine wp_iload_n dX6_readsThing_170 rfl ?_
                    refine wp_iadd dX6_readsThing_171 ?_
                    refine wp_aload_n dX6_readsThing_172 rfl ?_
                    refine wp_geti dX6_readsThing_173 fk6_141 (tb_214 hT) (tk_214 hT) rfl ?_
                    refine wp_iast dX6_readsThing_176 (tb_215 hT) (tk_215 hT) h.1 ?_
                    replace h := h.2
                    refine wp_iconst (v := 1) dX6_readsThing_177 rfl ?_
                    exact wp_iret dX6_readsThing_178 rfl ⟨_, rfl, rfl, rfl, rfl, h⟩
                  · replace h := h.2 hc
                    refine wp_sipush (v := 240) dX6_readsThing_161 rfl ?_
                    refine wp_goto 170 dX6_readsThing_164 (by decide) ?_
                    refine wp_iload_n dX6_readsThing_170 rfl ?_
                    refine wp_iadd dX6_readsThing_171 ?_
                    refine wp_aload_n dX6_readsThing_172 rfl ?_
                    refine wp_geti dX6_readsThing_173 fk6_141 (tb_214 hT) (tk_214 hT) rfl ?_
                    refine wp_iast dX6_readsThing_176 (tb_215 hT) (tk_215 hT) h.1 ?_
                    replace h := h.2
                    refine wp_iconst (v := 1) dX6_readsThing_177 rfl ?_
                    exact wp_iret dX6_readsThing_178 rfl ⟨_, rfl, rfl, rfl, rfl, h⟩
                · replace h := h.2 hc
                  refine wp_iconst (v := 0) dX6_readsThing_149 rfl ?_
                  exact wp_iret dX6_readsThing_150 rfl ⟨_, rfl, rfl, rfl, rfl, h⟩
              · replace h := h.2 hc
                refine wp_aload_n dX6_readsThing_92 rfl ?_
                refine wq_VI0 lk6_253 rfl (tb_214 hT) (tk_214 hT) dX6_readsThing_93 h (rmQ_ok (by decide) (by decide)) ⟨Nat.le_refl _, Nat.le_refl _⟩ (Nat.le_of_ble_eq_true rfl) (fun r93''''' V93''''' h => ?_)
                refine wp_if_ne 101 dX6_readsThing_96 (by decide) (fun hc => ?_) (fun hc => ?_)
                · replace h := h.1 hc
                  refine wp_aload_n dX6_readsThing_101 rfl ?_
                  refine wp_getrs dX6_readsThing_102 fk6_7 (tb_214 hT) (tk_214 hT) rfl (tr_0 hT) ?_
                  refine wp_sipush (v := 192) dX6_readsThing_105 rfl ?_
                  refine wp_iload_n dX6_readsThing_108 rfl ?_
                  refine wp_iadd dX6_readsThing_109 ?_
                  refine wp_iconst (v := 1) dX6_readsThing_110 rfl ?_
                  refine wp_iast dX6_readsThing_111 (tb_215 hT) (tk_215 hT) h.1 ?_
                  replace h := h.2
                  refine wp_aload_n dX6_readsThing_112 rfl ?_
                  refine wp_getrs dX6_readsThing_113 fk6_7 (tb_214 hT) (tk_214 hT) rfl (tr_0 hT) ?_
                  refine wp_sipush (v := 216) dX6_readsThing_116 rfl ?_
                  refine wp_iload_n dX6_readsThing_119 rfl ?_
                  refine wp_iadd dX6_readsThing_120 ?_
                  refine wp_aload_n dX6_readsThing_121 rfl ?_
                  refine wp_geti dX6_readsThing_122 fk6_250 (tb_214 hT) (tk_214 hT) rfl ?_
                  refine wp_iast dX6_readsThing_125 (tb_215 hT) (tk_215 hT) h.1 ?_
                  replace h := h.2
                  refine wp_aload_n dX6_readsThing_126 rfl ?_
                  refine wp_getrs dX6_readsThing_127 fk6_7 (tb_214 hT) (tk_214 hT) rfl (tr_0 hT) ?_
                  refine wp_sipush (v := 288) dX6_readsThing_130 rfl ?_
                  refine wp_iload_n dX6_readsThing_133 rfl ?_
                  refine wp_iadd dX6_readsThing_134 ?_
                  refine wp_iconst (v := 0) dX6_readsThing_135 rfl ?_
                  refine wp_iast dX6_readsThing_136 (tb_215 hT) (tk_215 hT) h.1 ?_
                  replace h := h.2
                  refine wp_iconst (v := 1) dX6_readsThing_137 rfl ?_
                  exact wp_iret dX6_readsThing_138 rfl ⟨_, rfl, rfl, rfl, rfl, h⟩
                · replace h := h.2 hc
                  refine wp_iconst (v := 0) dX6_readsThing_99 rfl ?_
                  exact wp_iret dX6_readsThing_100 rfl ⟨_, rfl, rfl, rfl, rfl, h⟩
            · replace h := h.2 hc
              refine wp_aload_n dX6_readsThing_68 rfl ?_
              refine wp_bipush (v := 7) dX6_readsThing_69 rfl ?_
              refine wp_iload_n dX6_readsThing_71 rfl ?_
              refine wq_VI2 lk6_138 rfl (tb_214 hT) (tk_214 hT) dX6_readsThing_72 h (rmQ_ok (by decide) (by decide)) ⟨Nat.le_refl _, Nat.le_refl _⟩ (Nat.le_of_ble_eq_true rfl) (fun r72'' V72'' h => ?_)
              exact wp_iret dX6_readsThing_75 (by rcases h.1 with q9 | q9 <;> rw [q9] <;> rfl) ⟨_, rfl, rfl, rfl, rfl, h.2⟩
        · replace h := h.2 hc
          refine wp_aload_n dX6_readsThing_44 rfl ?_
          refine wp_iconst (v := 1) dX6_readsThing_45 rfl ?_
          refine wp_aload_n dX6_readsThing_46 rfl ?_
          refine wp_geti dX6_readsThing_47 fk6_125 (tb_214 hT) (tk_214 hT) rfl ?_
          refine wq_VI2 lk6_138 rfl (tb_214 hT) (tk_214 hT) dX6_readsThing_50 h (rmQ_ok (by decide) (by decide)) ⟨Nat.le_refl _, Nat.le_refl _⟩ (Nat.le_of_ble_eq_true rfl) (fun r50 V50 h => ?_)
          exact wp_iret dX6_readsThing_53 (by rcases h.1 with q9 | q9 <;> rw [q9] <;> rfl) ⟨_, rfl, rfl, rfl, rfl, h.2⟩
  · replace h := h.2 hc
    refine wp_iconst (v := 0) dX6_readsThing_14 rfl ?_
    exact wp_iret dX6_readsThing_15 rfl ⟨_, rfl, rfl, rfl, rfl, h⟩
theorem n6_readsThing {E : eT} {Q : Int32 → vT → Prop} {V : vT} (h : w6_readsThing E Q 0 [some (vr 214), none, none, none] [] V) : c6_readsThing E V Q := MOk.enter [some (vr 214), none, none, none] pn_6 rfl rfl (Nat.le_of_ble_eq_true rfl) rfl h
theorem b6_readsWithin_0 {E : eT} {Q : Int32 → vT → Prop} {V : vT} {x1 : Int32} (hT : TW E) (h : c6_isDigit E V (fun r6 V6 => (¬ r6 = 0 → w6_readsWithin E Q 27 [some (vr 214), some (vi x1), some (vi (V 214 7))] [] (up2 V6 214 10 0)) ∧ (r6 = 0 → c6_wrongAt E 1 (V6 214 7) V6 (fun r18 V18 => (r18 = 0 ∨ r18 = 1) ∧ Q r18 V18)))) : w6_readsWithin E Q 0 [some (vr 214), some (vi x1), none] [] V := by
  refine wp_aload_n dX6_readsWithin_0 rfl ?_
  refine wp_geti dX6_readsWithin_1 fk6_125 (tb_214 hT) (tk_214 hT) rfl ?_
  refine wi3_2 dX6_readsWithin_4 ?_
  refine wp_aload_n dX6_readsWithin_5 rfl ?_
  refine wq_VI0 lk6_144 rfl (tb_214 hT) (tk_214 hT) dX6_readsWithin_6 h (rmQ_ok (by decide) (by decide)) ⟨Nat.le_refl _, Nat.le_refl _⟩ (Nat.le_of_ble_eq_true rfl) (fun r6 V6 h => ?_)
  refine wp_if_ne 22 dX6_readsWithin_9 (by decide) (fun hc => ?_) (fun hc => ?_)
  · replace h := h.1 hc
    refine wp_aload_n dX6_readsWithin_22 rfl ?_
    refine wp_iconst (v := 0) dX6_readsWithin_23 rfl ?_
    refine wp_puti dX6_readsWithin_24 fp6_141 (tb_214 hT) (tk_214 hT) rfl ?_
    exact h
  · replace h := h.2 hc
    refine wp_aload_n dX6_readsWithin_12 rfl ?_
    refine wp_iconst (v := 1) dX6_readsWithin_13 rfl ?_
    refine wp_aload_n dX6_readsWithin_14 rfl ?_
    refine wp_geti dX6_readsWithin_15 fk6_125 (tb_214 hT) (tk_214 hT) rfl ?_
    refine wq_VI2 lk6_138 rfl (tb_214 hT) (tk_214 hT) dX6_readsWithin_18 h (rmQ_ok (by decide) (by decide)) ⟨Nat.le_refl _, Nat.le_refl _⟩ (Nat.le_of_ble_eq_true rfl) (fun r18 V18 h => ?_)
    exact wp_iret dX6_readsWithin_21 (by rcases h.1 with q9 | q9 <;> rw [q9] <;> rfl) ⟨_, rfl, rfl, rfl, rfl, h.2⟩
theorem b6_readsWithin_27 {E : eT} {Q : Int32 → vT → Prop} {V : vT} {x1 x2 : Int32} (hT : TW E) (h : c6_isDigit E V (fun r28 V28 => (r28 = 0 → ((V28 214 10) ≤ x1 → Q 1 V28) ∧ (x1 < (V28 214 10) → c6_wrongAt E 3 x2 V28 (fun r97 V97 => (r97 = 0 → Q 0 V97) ∧ (¬ r97 = 0 → Q 1 V97)))) ∧ (¬ r28 = 0 → (¬ (V28 214 7) = (x2 + 4) → c6_here E V28 (fun r63 V63 => w6_readsWithin E Q 27 [some (vr 214), some (vi x1), some (vi x2)] [] (up2 (up2 V63 214 10 (((10 * (V28 214 10)) + r63) - 48)) 214 7 (((up2 V63 214 10 (((10 * (V28 214 10)) + r63) - 48)) 214 7) + 1)))) ∧ ((V28 214 7) = (x2 + 4) → c6_wrongAt E 2 (V28 214 7) V28 (fun r50 V50 => (r50 = 0 ∨ r50 = 1) ∧ Q r50 V50))))) : w6_readsWithin E Q 27 [some (vr 214), some (vi x1), some (vi x2)] [] V := by
  refine wp_aload_n dX6_readsWithin_27 rfl ?_
  refine wq_VI0 lk6_144 rfl (tb_214 hT) (tk_214 hT) dX6_readsWithin_28 h (rmQ_ok (by decide) (by decide)) ⟨Nat.le_refl _, Nat.le_refl _⟩ (Nat.le_of_ble_eq_true rfl) (fun r28 V28 h => ?_)
  refine wp_if_eq 86 dX6_readsWithin_31 (by decide) (fun hc => ?_) (fun hc => ?_)
  · replace h := h.1 hc
    refine wp_aload_n dX6_readsWithin_86 rfl ?_
    refine wp_geti dX6_readsWithin_87 fk6_141 (tb_214 hT) (tk_214 hT) rfl ?_
    refine wp_iload_n dX6_readsWithin_90 rfl ?_
    refine wp_icmp_le 103 dX6_readsWithin_91 (by decide) (fun hc => ?_) (fun hc => ?_)
    · replace h := h.1 hc
      refine wp_iconst (v := 1) dX6_readsWithin_103 rfl ?_
      refine wp_goto 108 dX6_readsWithin_104 (by decide) ?_
      exact wp_iret dX6_readsWithin_108 rfl ⟨_, rfl, rfl, rfl, rfl, h⟩
    · replace h := h.2 (Int32.not_le.mp hc)
      refine wp_aload_n dX6_readsWithin_94 rfl ?_
      refine wp_iconst (v := 3) dX6_readsWithin_95 rfl ?_
      refine wp_iload_n dX6_readsWithin_96 rfl ?_
      refine wq_VI2 lk6_138 rfl (tb_214 hT) (tk_214 hT) dX6_readsWithin_97 h (rmQ_ok (by decide) (by decide)) ⟨Nat.le_refl _, Nat.le_refl _⟩ (Nat.le_of_ble_eq_true rfl) (fun r97 V97 h => ?_)
      refine wp_if_eq 107 dX6_readsWithin_100 (by decide) (fun hc => ?_) (fun hc => ?_)
      · replace h := h.1 hc
        refine wp_iconst (v := 0) dX6_readsWithin_107 rfl ?_
        exact wp_iret dX6_readsWithin_108 rfl ⟨_, rfl, rfl, rfl, rfl, h⟩
      · replace h := h.2 hc
        refine wp_iconst (v := 1) dX6_readsWithin_103 rfl ?_
        refine wp_goto 108 dX6_readsWithin_104 (by decide) ?_
        exact wp_iret dX6_readsWithin_108 rfl ⟨_, rfl, rfl, rfl, rfl, h⟩
  · replace h := h.2 hc
    refine wp_aload_n dX6_readsWithin_34 rfl ?_
    refine wp_geti dX6_readsWithin_35 fk6_125 (tb_214 hT) (tk_214 hT) rfl ?_
    refine wp_iload_n dX6_readsWithin_38 rfl ?_
    refine wp_iconst (v := 4) dX6_readsWithin_39 rfl ?_
    refine wp_iadd dX6_readsWithin_40 ?_
    refine wp_icmp_ne 54 dX6_readsWithin_41 (by decide) (fun hc => ?_) (fun hc => ?_)
    · replace h := h.1 hc
      refine wp_aload_n dX6_readsWithin_54 rfl ?_
      refine wp_bipush (v := 10) dX6_readsWithin_55 rfl ?_
      refine wp_aload_n dX6_readsWithin_57 rfl ?_
      refine wp_geti dX6_readsWithin_58 fk6_141 (tb_214 hT) (tk_214 hT) rfl ?_
      refine wp_imul dX6_readsWithin_61 ?_
      refine wp_aload_n dX6_readsWithin_62 rfl ?_
      refine wq_VI0 lk6_131 rfl (tb_214 hT) (tk_214 hT) dX6_readsWithin_63 h (rmQ_ok (by decide) (by decide)) ⟨Nat.le_refl _, Nat.le_refl _⟩ (Nat.le_of_ble_eq_true rfl) (fun r63 V63 h => ?_)
      refine wp_iadd dX6_readsWithin_66 ?_
      refine wp_bipush (v := 48) dX6_readsWithin_67 rfl ?_
      refine wp_isub dX6_readsWithin_69 ?_
      refine wp_puti dX6_readsWithin_70 fp6_141 (tb_214 hT) (tk_214 hT) rfl ?_
      refine wp_aload_n dX6_readsWithin_73 rfl ?_
      refine wp_aload_n dX6_readsWithin_74 rfl ?_
      refine wp_geti dX6_readsWithin_75 fk6_125 (tb_214 hT) (tk_214 hT) rfl ?_
      refine wp_iconst (v := 1) dX6_readsWithin_78 rfl ?_
      refine wp_iadd dX6_readsWithin_79 ?_
      refine wp_puti dX6_readsWithin_80 fp6_125 (tb_214 hT) (tk_214 hT) rfl ?_
      refine wp_goto 27 dX6_readsWithin_83 (by decide) ?_
      exact h
    · replace h := h.2 hc
      refine wp_aload_n dX6_readsWithin_44 rfl ?_
      refine wp_iconst (v := 2) dX6_readsWithin_45 rfl ?_
      refine wp_aload_n dX6_readsWithin_46 rfl ?_
      refine wp_geti dX6_readsWithin_47 fk6_125 (tb_214 hT) (tk_214 hT) rfl ?_
      refine wq_VI2 lk6_138 rfl (tb_214 hT) (tk_214 hT) dX6_readsWithin_50 h (rmQ_ok (by decide) (by decide)) ⟨Nat.le_refl _, Nat.le_refl _⟩ (Nat.le_of_ble_eq_true rfl) (fun r50 V50 h => ?_)
      exact wp_iret dX6_readsWithin_53 (by rcases h.1 with q9 | q9 <;> rw [q9] <;> rfl) ⟨_, rfl, rfl, rfl, rfl, h.2⟩
theorem n6_readsWithin {E : eT} {Q : Int32 → vT → Prop} {V : vT} {x1 : Int32} (h : w6_readsWithin E Q 0 [some (vr 214), some (vi x1), none] [] V) : c6_readsWithin E x1 V Q := MOk.enter [some (vr 214), some (vi x1), none] pn_6 rfl rfl (Nat.le_of_ble_eq_true rfl) rfl h
theorem b6_isThing_0 {E : eT} {Q : Int32 → vT → Prop} {V : vT} {x1 : Int32} (hT : TW E) (h : c6_in E x1 0 23 V (fun r4 V4 => (r4 = 0 → Q 0 V4) ∧ (¬ r4 = 0 → vp_in (192 + x1) 315 ∧ ((¬ (V4 215 ((192 + x1).toNatClampNeg)) = 1 → Q 0 V4) ∧ ((V4 215 ((192 + x1).toNatClampNeg)) = 1 → Q 1 V4))))) : w6_isThing E Q 0 [some (vr 214), some (vi x1)] [] V := by
  refine wp_iload_n dX6_isThing_0 rfl ?_
  refine wp_iconst (v := 0) dX6_isThing_1 rfl ?_
  refine wp_bipush (v := 23) dX6_isThing_2 rfl ?_
  refine wq_SI3 lk6_102 dX6_isThing_4 h (rmQ_ok (by decide) (by decide)) ⟨Nat.le_refl _, Nat.le_refl _⟩ (Nat.le_of_ble_eq_true rfl) (fun r4 V4 h => ?_)
  refine wp_if_eq 28 dX6_isThing_7 (by decide) (fun hc => ?_) (fun hc => ?_)
  · replace h := h.1 hc
    refine wp_iconst (v := 0) dX6_isThing_28 rfl ?_
    exact wp_iret dX6_isThing_29 rfl ⟨_, rfl, rfl, rfl, rfl, h⟩
  · replace h := h.2 hc
    refine wp_aload_n dX6_isThing_10 rfl ?_
    refine wp_getrs dX6_isThing_11 fk6_7 (tb_214 hT) (tk_214 hT) rfl (tr_0 hT) ?_
    refine wp_sipush (v := 192) dX6_isThing_14 rfl ?_
    refine wp_iload_n dX6_isThing_17 rfl ?_
    refine wp_iadd dX6_isThing_18 ?_
    refine wp_iald dX6_isThing_19 (tb_215 hT).2 (tk_215 hT) h.1 ?_
    replace h := h.2
    refine wp_iconst (v := 1) dX6_isThing_20 rfl ?_
    refine wp_icmp_ne 28 dX6_isThing_21 (by decide) (fun hc => ?_) (fun hc => ?_)
    · replace h := h.1 hc
      refine wp_iconst (v := 0) dX6_isThing_28 rfl ?_
      exact wp_iret dX6_isThing_29 rfl ⟨_, rfl, rfl, rfl, rfl, h⟩
    · replace h := h.2 hc
      refine wp_iconst (v := 1) dX6_isThing_24 rfl ?_
      refine wp_goto 29 dX6_isThing_25 (by decide) ?_
      exact wp_iret dX6_isThing_29 rfl ⟨_, rfl, rfl, rfl, rfl, h⟩
theorem n6_isThing {E : eT} {Q : Int32 → vT → Prop} {V : vT} {x1 : Int32} (h : w6_isThing E Q 0 [some (vr 214), some (vi x1)] [] V) : c6_isThing E x1 V Q := MOk.enter [some (vr 214), some (vi x1)] pn_6 rfl rfl (Nat.le_of_ble_eq_true rfl) rfl h
theorem b6_readsSpot_0 {E : eT} {Q : Int32 → vT → Prop} {V : vT} (hT : TW E) (h : c6_readsWithin E 11 (up2 V 214 32 (V 214 7)) (fun r11 V11 => (¬ r11 = 0 → c6_takes E 44 V11 (fun r27 V27 => (r27 = 0 → Q 0 V27) ∧ (¬ r27 = 0 → c6_readsWithin E 7 V27 (fun r36 V36 => (¬ r36 = 0 → Q 1 (up2 V36 214 31 ((12 * (V36 214 10)) + (V11 214 10)))) ∧ (r36 = 0 → Q 0 V36))))) ∧ (r11 = 0 → Q 0 V11))) : w6_readsSpot E Q 0 [some (vr 214), none] [] V := by
  refine wp_aload_n dX6_readsSpot_0 rfl ?_
  refine wp_aload_n dX6_readsSpot_1 rfl ?_
  refine wp_geti dX6_readsSpot_2 fk6_125 (tb_214 hT) (tk_214 hT) rfl ?_
  refine wp_puti dX6_readsSpot_5 fp6_244 (tb_214 hT) (tk_214 hT) rfl ?_
  refine wp_aload_n dX6_readsSpot_8 rfl ?_
  refine wp_bipush (v := 11) dX6_readsSpot_9 rfl ?_
  refine wq_VI1 lk6_247 rfl (tb_214 hT) (tk_214 hT) dX6_readsSpot_11 h (rmQ_ok (by decide) (by decide)) ⟨Nat.le_refl _, Nat.le_refl _⟩ (Nat.le_of_ble_eq_true rfl) (fun r11 V11 h => ?_)
  refine wp_if_ne 19 dX6_readsSpot_14 (by decide) (fun hc => ?_) (fun hc => ?_)
  · replace h := h.1 hc
    refine wp_aload_n dX6_readsSpot_19 rfl ?_
    refine wp_geti dX6_readsSpot_20 fk6_141 (tb_214 hT) (tk_214 hT) rfl ?_
    refine wi2_1 dX6_readsSpot_23 ?_
    refine wp_aload_n dX6_readsSpot_24 rfl ?_
    refine wp_bipush (v := 44) dX6_readsSpot_25 rfl ?_
    refine wq_VI1 lk6_215 rfl (tb_214 hT) (tk_214 hT) dX6_readsSpot_27 h (rmQ_ok (by decide) (by decide)) ⟨Nat.le_refl _, Nat.le_refl _⟩ (Nat.le_of_ble_eq_true rfl) (fun r27 V27 h => ?_)
    refine wp_if_eq 42 dX6_readsSpot_30 (by decide) (fun hc => ?_) (fun hc => ?_)
    · replace h := h.1 hc
      refine wp_iconst (v := 0) dX6_readsSpot_42 rfl ?_
      exact wp_iret dX6_readsSpot_43 rfl ⟨_, rfl, rfl, rfl, rfl, h⟩
    · replace h := h.2 hc
      refine wp_aload_n dX6_readsSpot_33 rfl ?_
      refine wp_bipush (v := 7) dX6_readsSpot_34 rfl ?_
      refine wq_VI1 lk6_247 rfl (tb_214 hT) (tk_214 hT) dX6_readsSpot_36 h (rmQ_ok (by decide) (by decide)) ⟨Nat.le_refl _, Nat.le_refl _⟩ (Nat.le_of_ble_eq_true rfl) (fun r36 V36 h => ?_)
      refine wp_if_ne 44 dX6_readsSpot_39 (by decide) (fun hc => ?_) (fun hc => ?_)
      · replace h := h.1 hc
        refine wp_aload_n dX6_readsSpot_44 rfl ?_
        refine wp_bipush (v := 12) dX6_readsSpot_45 rfl ?_
        refine wp_aload_n dX6_readsSpot_47 rfl ?_
        refine wp_geti dX6_readsSpot_48 fk6_141 (tb_214 hT) (tk_214 hT) rfl ?_
        refine wp_imul dX6_readsSpot_51 ?_
        refine wp_iload_n dX6_readsSpot_52 rfl ?_
        refine wp_iadd dX6_readsSpot_53 ?_
        refine wp_puti dX6_readsSpot_54 fp6_250 (tb_214 hT) (tk_214 hT) rfl ?_
        refine wp_iconst (v := 1) dX6_readsSpot_57 rfl ?_
        exact wp_iret dX6_readsSpot_58 rfl ⟨_, rfl, rfl, rfl, rfl, h⟩
      · replace h := h.2 hc
        refine wp_iconst (v := 0) dX6_readsSpot_42 rfl ?_
        exact wp_iret dX6_readsSpot_43 rfl ⟨_, rfl, rfl, rfl, rfl, h⟩
  · replace h := h.2 hc
    refine wp_iconst (v := 0) dX6_readsSpot_17 rfl ?_
    exact wp_iret dX6_readsSpot_18 rfl ⟨_, rfl, rfl, rfl, rfl, h⟩
theorem n6_readsSpot {E : eT} {Q : Int32 → vT → Prop} {V : vT} (h : w6_readsSpot E Q 0 [some (vr 214), none] [] V) : c6_readsSpot E V Q := MOk.enter [some (vr 214), none] pn_6 rfl rfl (Nat.le_of_ble_eq_true rfl) rfl h
theorem b6_readsFire_0 {E : eT} {Q : Int32 → vT → Prop} {V : vT} (hT : TW E) (h : c6_readsSpot E V (fun r1 V1 => (¬ r1 = 0 → c6_isWood E (V1 214 31) V1 (fun r14 V14 => (r14 = 0 → c6_wrongAt E 8 (V14 214 32) V14 (fun r41 V41 => (r41 = 0 ∨ r41 = 1) ∧ Q r41 V41)) ∧ (¬ r14 = 0 → vp_in (0 + (V14 214 31)) 315 ∧ (((V14 215 ((0 + (V14 214 31)).toNatClampNeg)) = 0 → vp_in (0 + (V14 214 31)) 315 ∧ (vp_in (96 + ((up2 V14 215 ((0 + (V14 214 31)).toNatClampNeg) 1) 214 31)) 315 ∧ (Q 1 (up2 (up2 V14 215 ((0 + (V14 214 31)).toNatClampNeg) 1) 215 ((96 + ((up2 V14 215 ((0 + (V14 214 31)).toNatClampNeg) 1) 214 31)).toNatClampNeg) 3)))) ∧ (¬ (V14 215 ((0 + (V14 214 31)).toNatClampNeg)) = 0 → c6_wrongAt E 8 (V14 214 32) V14 (fun r41' V41' => (r41' = 0 ∨ r41' = 1) ∧ Q r41' V41')))))) ∧ (r1 = 0 → Q 0 V1))) : w6_readsFire E Q 0 [some (vr 214)] [] V := by
  refine wp_aload_n dX6_readsFire_0 rfl ?_
  refine wq_VI0 lk6_253 rfl (tb_214 hT) (tk_214 hT) dX6_readsFire_1 h (rmQ_ok (by decide) (by decide)) ⟨Nat.le_refl _, Nat.le_refl _⟩ (Nat.le_of_ble_eq_true rfl) (fun r1 V1 h => ?_)
  refine wp_if_ne 9 dX6_readsFire_4 (by decide) (fun hc => ?_) (fun hc => ?_)
  · replace h := h.1 hc
    refine wp_aload_n dX6_readsFire_9 rfl ?_
    refine wp_aload_n dX6_readsFire_10 rfl ?_
    refine wp_geti dX6_readsFire_11 fk6_250 (tb_214 hT) (tk_214 hT) rfl ?_
    refine wq_VI1 lk6_241 rfl (tb_214 hT) (tk_214 hT) dX6_readsFire_14 h (rmQ_ok (by decide) (by decide)) ⟨Nat.le_refl _, Nat.le_refl _⟩ (Nat.le_of_ble_eq_true rfl) (fun r14 V14 h => ?_)
    refine wp_if_eq 34 dX6_readsFire_17 (by decide) (fun hc => ?_) (fun hc => ?_)
    · replace h := h.1 hc
      refine wp_aload_n dX6_readsFire_34 rfl ?_
      refine wp_bipush (v := 8) dX6_readsFire_35 rfl ?_
      refine wp_aload_n dX6_readsFire_37 rfl ?_
      refine wp_geti dX6_readsFire_38 fk6_244 (tb_214 hT) (tk_214 hT) rfl ?_
      refine wq_VI2 lk6_138 rfl (tb_214 hT) (tk_214 hT) dX6_readsFire_41 h (rmQ_ok (by decide) (by decide)) ⟨Nat.le_refl _, Nat.le_refl _⟩ (Nat.le_of_ble_eq_true rfl) (fun r41 V41 h => ?_)
      exact wp_iret dX6_readsFire_44 (by rcases h.1 with q9 | q9 <;> rw [q9] <;> rfl) ⟨_, rfl, rfl, rfl, rfl, h.2⟩
    · replace h := h.2 hc
      refine wp_aload_n dX6_readsFire_20 rfl ?_
      refine wp_getrs dX6_readsFire_21 fk6_7 (tb_214 hT) (tk_214 hT) rfl (tr_0 hT) ?_
      refine wp_iconst (v := 0) dX6_readsFire_24 rfl ?_
      refine wp_aload_n dX6_readsFire_25 rfl ?_
      refine wp_geti dX6_readsFire_26 fk6_250 (tb_214 hT) (tk_214 hT) rfl ?_
      refine wp_iadd dX6_readsFire_29 ?_
      refine wp_iald dX6_readsFire_30 (tb_215 hT).2 (tk_215 hT) h.1 ?_
      replace h := h.2
      refine wp_if_eq 45 dX6_readsFire_31 (by decide) (fun hc => ?_) (fun hc => ?_)
      · replace h := h.1 hc
        refine wp_aload_n dX6_readsFire_45 rfl ?_
        refine wp_getrs dX6_readsFire_46 fk6_7 (tb_214 hT) (tk_214 hT) rfl (tr_0 hT) ?_
        refine wp_iconst (v := 0) dX6_readsFire_49 rfl ?_
        refine wp_aload_n dX6_readsFire_50 rfl ?_
        refine wp_geti dX6_readsFire_51 fk6_250 (tb_214 hT) (tk_214 hT) rfl ?_
        refine wp_iadd dX6_readsFire_54 ?_
        refine wp_iconst (v := 1) dX6_readsFire_55 rfl ?_
        refine wp_iast dX6_readsFire_56 (tb_215 hT) (tk_215 hT) h.1 ?_
        replace h := h.2
        refine wp_aload_n dX6_readsFire_57 rfl ?_
        refine wp_getrs dX6_readsFire_58 fk6_7 (tb_214 hT) (tk_214 hT) rfl (tr_0 hT) ?_
        refine wp_bipush (v := 96) dX6_readsFire_61 rfl ?_
        refine wp_aload_n dX6_readsFire_63 rfl ?_
        refine wp_geti dX6_readsFire_64 fk6_250 (tb_214 hT) (tk_214 hT) rfl ?_
        refine wp_iadd dX6_readsFire_67 ?_
        refine wp_iconst (v := 3) dX6_readsFire_68 rfl ?_
        refine wp_iast dX6_readsFire_69 (tb_215 hT) (tk_215 hT) h.1 ?_
        replace h := h.2
        refine wp_iconst (v := 1) dX6_readsFire_70 rfl ?_
        exact wp_iret dX6_readsFire_71 rfl ⟨_, rfl, rfl, rfl, rfl, h⟩
      · replace h := h.2 hc
        refine wp_aload_n dX6_readsFire_34 rfl ?_
        refine wp_bipush (v := 8) dX6_readsFire_35 rfl ?_
        refine wp_aload_n dX6_readsFire_37 rfl ?_
        refine wp_geti dX6_readsFire_38 fk6_244 (tb_214 hT) (tk_214 hT) rfl ?_
        refine wq_VI2 lk6_138 rfl (tb_214 hT) (tk_214 hT) dX6_readsFire_41 h (rmQ_ok (by decide) (by decide)) ⟨Nat.le_refl _, Nat.le_refl _⟩ (Nat.le_of_ble_eq_true rfl) (fun r41' V41' h => ?_)
        exact wp_iret dX6_readsFire_44 (by rcases h.1 with q9 | q9 <;> rw [q9] <;> rfl) ⟨_, rfl, rfl, rfl, rfl, h.2⟩
  · replace h := h.2 hc
    refine wp_iconst (v := 0) dX6_readsFire_7 rfl ?_
    exact wp_iret dX6_readsFire_8 rfl ⟨_, rfl, rfl, rfl, rfl, h⟩
theorem n6_readsFire {E : eT} {Q : Int32 → vT → Prop} {V : vT} (h : w6_readsFire E Q 0 [some (vr 214)] [] V) : c6_readsFire E V Q := MOk.enter [some (vr 214)] pn_6 rfl rfl (Nat.le_of_ble_eq_true rfl) rfl h
theorem b6_readsWater_0 {E : eT} {Q : Int32 → vT → Prop} {V : vT} (hT : TW E) (h : c6_readsSpot E V (fun r1 V1 => (¬ r1 = 0 → vp_in (V1 214 31) 96 ∧ (c6_becomesWhole E ((up2 V1 218 ((V1 214 31).toNatClampNeg) 3) 214 31) (up2 V1 218 ((V1 214 31).toNatClampNeg) 3) (fun V24 => Q 1 V24))) ∧ (r1 = 0 → Q 0 V1))) : w6_readsWater E Q 0 [some (vr 214)] [] V := by
  refine wp_aload_n dX6_readsWater_0 rfl ?_
  refine wq_VI0 lk6_253 rfl (tb_214 hT) (tk_214 hT) dX6_readsWater_1 h (rmQ_ok (by decide) (by decide)) ⟨Nat.le_refl _, Nat.le_refl _⟩ (Nat.le_of_ble_eq_true rfl) (fun r1 V1 h => ?_)
  refine wp_if_ne 9 dX6_readsWater_4 (by decide) (fun hc => ?_) (fun hc => ?_)
  · replace h := h.1 hc
    refine wp_aload_n dX6_readsWater_9 rfl ?_
    refine wp_getrs dX6_readsWater_10 fk6_19 (tb_214 hT) (tk_214 hT) rfl (tr_3 hT) ?_
    refine wp_aload_n dX6_readsWater_13 rfl ?_
    refine wp_geti dX6_readsWater_14 fk6_250 (tb_214 hT) (tk_214 hT) rfl ?_
    refine wp_iconst (v := 3) dX6_readsWater_17 rfl ?_
    refine wp_iast dX6_readsWater_18 (tb_218 hT) (tk_218 hT) h.1 ?_
    replace h := h.2
    refine wp_aload_n dX6_readsWater_19 rfl ?_
    refine wp_aload_n dX6_readsWater_20 rfl ?_
    refine wp_geti dX6_readsWater_21 fk6_250 (tb_214 hT) (tk_214 hT) rfl ?_
    refine wq_VV1 lk6_238 rfl (tb_214 hT) (tk_214 hT) dX6_readsWater_24 h (rmQ_ok (by decide) (by decide)) ⟨Nat.le_refl _, Nat.le_refl _⟩ (Nat.le_of_ble_eq_true rfl) (fun V24 h => ?_)
    refine wp_iconst (v := 1) dX6_readsWater_27 rfl ?_
    exact wp_iret dX6_readsWater_28 rfl ⟨_, rfl, rfl, rfl, rfl, h⟩
  · replace h := h.2 hc
    refine wp_iconst (v := 0) dX6_readsWater_7 rfl ?_
    exact wp_iret dX6_readsWater_8 rfl ⟨_, rfl, rfl, rfl, rfl, h⟩
theorem n6_readsWater {E : eT} {Q : Int32 → vT → Prop} {V : vT} (h : w6_readsWater E Q 0 [some (vr 214)] [] V) : c6_readsWater E V Q := MOk.enter [some (vr 214)] pn_6 rfl rfl (Nat.le_of_ble_eq_true rfl) rfl h
theorem b6_readsWind_0 {E : eT} {Q : Int32 → vT → Prop} {V : vT} (hT : TW E) (h : c6_here E V (fun r1 V1 => c6_in E r1 48 51 V1 (fun r8 V8 => (¬ r8 = 0 → c6_here E V8 (fun r32 V32 => Q 1 (up2 (up2 V32 215 312 (r32 - 48)) 214 7 (((up2 V32 215 312 (r32 - 48)) 214 7) + 1)))) ∧ (r8 = 0 → c6_wrongAt E 1 (V8 214 7) V8 (fun r20 V20 => (r20 = 0 ∨ r20 = 1) ∧ Q r20 V20))))) : w6_readsWind E Q 0 [some (vr 214)] [] V := by
  refine wp_aload_n dX6_readsWind_0 rfl ?_
  refine wq_VI0 lk6_131 rfl (tb_214 hT) (tk_214 hT) dX6_readsWind_1 h (rmQ_ok (by decide) (by decide)) ⟨Nat.le_refl _, Nat.le_refl _⟩ (Nat.le_of_ble_eq_true rfl) (fun r1 V1 h => ?_)
  refine wp_bipush (v := 48) dX6_readsWind_4 rfl ?_
  refine wp_bipush (v := 51) dX6_readsWind_6 rfl ?_
  refine wq_SI3 lk6_102 dX6_readsWind_8 h (rmQ_ok (by decide) (by decide)) ⟨Nat.le_refl _, Nat.le_refl _⟩ (Nat.le_of_ble_eq_true rfl) (fun r8 V8 h => ?_)
  refine wp_if_ne 24 dX6_readsWind_11 (by decide) (fun hc => ?_) (fun hc => ?_)
  · replace h := h.1 hc
    refine wp_aload_n dX6_readsWind_24 rfl ?_
    refine wp_getrs dX6_readsWind_25 fk6_7 (tb_214 hT) (tk_214 hT) rfl (tr_0 hT) ?_
    refine wp_sipush (v := 312) dX6_readsWind_28 rfl ?_
    refine wp_aload_n dX6_readsWind_31 rfl ?_
    refine wq_VI0 lk6_131 rfl (tb_214 hT) (tk_214 hT) dX6_readsWind_32 h (rmQ_ok (by decide) (by decide)) ⟨Nat.le_refl _, Nat.le_refl _⟩ (Nat.le_of_ble_eq_true rfl) (fun r32 V32 h => ?_)
    refine wp_bipush (v := 48) dX6_readsWind_35 rfl ?_
    refine wp_isub dX6_readsWind_37 ?_
    refine wp_iast_k 312 dX6_readsWind_38 (tb_215 hT) (tk_215 hT) rfl (by decide) (by decide) ?_
    refine wp_aload_n dX6_readsWind_39 rfl ?_
    refine wp_aload_n dX6_readsWind_40 rfl ?_
    refine wp_geti dX6_readsWind_41 fk6_125 (tb_214 hT) (tk_214 hT) rfl ?_
    refine wp_iconst (v := 1) dX6_readsWind_44 rfl ?_
    refine wp_iadd dX6_readsWind_45 ?_
    refine wp_puti dX6_readsWind_46 fp6_125 (tb_214 hT) (tk_214 hT) rfl ?_
    refine wp_iconst (v := 1) dX6_readsWind_49 rfl ?_
    exact wp_iret dX6_readsWind_50 rfl ⟨_, rfl, rfl, rfl, rfl, h⟩
  · replace h := h.2 hc
    refine wp_aload_n dX6_readsWind_14 rfl ?_
    refine wp_iconst (v := 1) dX6_readsWind_15 rfl ?_
    refine wp_aload_n dX6_readsWind_16 rfl ?_
    refine wp_geti dX6_readsWind_17 fk6_125 (tb_214 hT) (tk_214 hT) rfl ?_
    refine wq_VI2 lk6_138 rfl (tb_214 hT) (tk_214 hT) dX6_readsWind_20 h (rmQ_ok (by decide) (by decide)) ⟨Nat.le_refl _, Nat.le_refl _⟩ (Nat.le_of_ble_eq_true rfl) (fun r20 V20 h => ?_)
    exact wp_iret dX6_readsWind_23 (by rcases h.1 with q9 | q9 <;> rw [q9] <;> rfl) ⟨_, rfl, rfl, rfl, rfl, h.2⟩
theorem n6_readsWind {E : eT} {Q : Int32 → vT → Prop} {V : vT} (h : w6_readsWind E Q 0 [some (vr 214)] [] V) : c6_readsWind E V Q := MOk.enter [some (vr 214)] pn_6 rfl rfl (Nat.le_of_ble_eq_true rfl) rfl h
theorem b6_minutes_0 {E : eT} {Q : Int32 → vT → Prop} {V : vT} {x1 : Int32} (hT : TW E) (h : c6_in E x1 1 100 V (fun r4 V4 => (¬ r4 = 0 → c6_minutesGo E x1 V4 (fun V14 => c6_faring E 1 V14 (fun r19 V19 => Q r19 V19))) ∧ (r4 = 0 → Q (-1) V4))) : w6_minutes E Q 0 [some (vr 214), some (vi x1)] [] V := by
  refine wp_iload_n dX6_minutes_0 rfl ?_
  refine wp_iconst (v := 1) dX6_minutes_1 rfl ?_
  refine wp_bipush (v := 100) dX6_minutes_2 rfl ?_
  refine wq_SI3 lk6_102 dX6_minutes_4 h (rmQ_ok (by decide) (by decide)) ⟨Nat.le_refl _, Nat.le_refl _⟩ (Nat.le_of_ble_eq_true rfl) (fun r4 V4 h => ?_)
  refine wp_if_ne 12 dX6_minutes_7 (by decide) (fun hc => ?_) (fun hc => ?_)
  · replace h := h.1 hc
    refine wp_aload_n dX6_minutes_12 rfl ?_
    refine wp_iload_n dX6_minutes_13 rfl ?_
    refine wq_VV1 lk6_322 rfl (tb_214 hT) (tk_214 hT) dX6_minutes_14 h (rmQ_ok (by decide) (by decide)) ⟨Nat.le_refl _, Nat.le_refl _⟩ (Nat.le_of_ble_eq_true rfl) (fun V14 h => ?_)
    refine wp_aload_n dX6_minutes_17 rfl ?_
    refine wp_iconst (v := 1) dX6_minutes_18 rfl ?_
    refine wq_VI1 lk6_325 rfl (tb_214 hT) (tk_214 hT) dX6_minutes_19 h (rmQ_ok (by decide) (by decide)) ⟨Nat.le_refl _, Nat.le_refl _⟩ (Nat.le_of_ble_eq_true rfl) (fun r19 V19 h => ?_)
    exact wp_iret dX6_minutes_22 rfl ⟨_, rfl, rfl, rfl, rfl, h⟩
  · replace h := h.2 hc
    refine wp_iconst (v := (-1)) dX6_minutes_10 rfl ?_
    exact wp_iret dX6_minutes_11 rfl ⟨_, rfl, rfl, rfl, rfl, h⟩
theorem n6_minutes {E : eT} {Q : Int32 → vT → Prop} {V : vT} {x1 : Int32} (h : w6_minutes E Q 0 [some (vr 214), some (vi x1)] [] V) : c6_minutes E x1 V Q := MOk.enter [some (vr 214), some (vi x1)] pn_6 rfl rfl (Nat.le_of_ble_eq_true rfl) rfl h
theorem b6_minutesGo_0 {E : eT} {Q : vT → Prop} {V : vT} {x1 : Int32} (hT : TW E) (h : w6_minutesGo E Q 7 [some (vr 214), some (vi x1), some (vi 0)] [] (up2 V 214 34 0)) : w6_minutesGo E Q 0 [some (vr 214), some (vi x1), none] [] V := by
  refine wp_aload_n dX6_minutesGo_0 rfl ?_
  refine wp_iconst (v := 0) dX6_minutesGo_1 rfl ?_
  refine wp_puti dX6_minutesGo_2 fp6_294 (tb_214 hT) (tk_214 hT) rfl ?_
  refine wp_iconst (v := 0) dX6_minutesGo_5 rfl ?_
  refine wi3_2 dX6_minutesGo_6 ?_
  exact h
theorem b6_minutesGo_7 {E : eT} {Q : vT → Prop} {V : vT} {x1 x2 : Int32} (hT : TW E) (h : (x1 ≤ x2 → Q V) ∧ (x2 < x1 → (9999 ≤ (V 215 313) → Q V) ∧ ((V 215 313) < 9999 → c6_minuteGoes E V (fun V27 => w6_minutesGo E Q 7 [some (vr 214), some (vi x1), some (vi (x2 + 1))] [] V27)))) : w6_minutesGo E Q 7 [some (vr 214), some (vi x1), some (vi x2)] [] V := by
  refine wp_iload_n dX6_minutesGo_7 rfl ?_
  refine wp_iload_n dX6_minutesGo_8 rfl ?_
  refine wp_icmp_ge 36 dX6_minutesGo_9 (by decide) (fun hc => ?_) (fun hc => ?_)
  · replace h := h.1 hc
    exact wp_vret dX6_minutesGo_36 ⟨rfl, rfl, rfl, rfl, h⟩
  · replace h := h.2 (Int32.not_le.mp hc)
    refine wp_aload_n dX6_minutesGo_12 rfl ?_
    refine wp_getrs dX6_minutesGo_13 fk6_7 (tb_214 hT) (tk_214 hT) rfl (tr_0 hT) ?_
    refine wp_sipush (v := 313) dX6_minutesGo_16 rfl ?_
    refine wp_iald_k 313 dX6_minutesGo_19 (tb_215 hT).2 (tk_215 hT) rfl (by decide) (by decide) ?_
    refine wp_sipush (v := 9999) dX6_minutesGo_20 rfl ?_
    refine wp_icmp_ge 36 dX6_minutesGo_23 (by decide) (fun hc => ?_) (fun hc => ?_)
    · replace h := h.1 hc
      exact wp_vret dX6_minutesGo_36 ⟨rfl, rfl, rfl, rfl, h⟩
    · replace h := h.2 (Int32.not_le.mp hc)
      refine wp_aload_n dX6_minutesGo_26 rfl ?_
      refine wq_VV0 lk6_319 rfl (tb_214 hT) (tk_214 hT) dX6_minutesGo_27 h (rmQ_ok (by decide) (by decide)) ⟨Nat.le_refl _, Nat.le_refl _⟩ (Nat.le_of_ble_eq_true rfl) (fun V27 h => ?_)
      refine wc3_2 1 dX6_minutesGo_30 rfl ?_
      refine wp_goto 7 dX6_minutesGo_33 (by decide) ?_
      exact h
theorem n6_minutesGo {E : eT} {Q : vT → Prop} {V : vT} {x1 : Int32} (h : w6_minutesGo E Q 0 [some (vr 214), some (vi x1), none] [] V) : c6_minutesGo E x1 V Q := MOk.enter [some (vr 214), some (vi x1), none] pn_6 rfl rfl (Nat.le_of_ble_eq_true rfl) rfl h
theorem b6_minuteGoes_0 {E : eT} {Q : vT → Prop} {V : vT} (hT : TW E) (h : w6_minuteGoes E Q 2 [some (vr 214), some (vi 0)] [] V) : w6_minuteGoes E Q 0 [some (vr 214), none] [] V := by
  refine wp_iconst (v := 0) dX6_minuteGoes_0 rfl ?_
  refine wi2_1 dX6_minuteGoes_1 ?_
  exact h
theorem b6_minuteGoes_2 {E : eT} {Q : vT → Prop} {V : vT} {x1 : Int32} (hT : TW E) (h : (96 ≤ x1 → w6_minuteGoes E Q 39 [some (vr 214), some (vi 0)] [] V) ∧ (x1 < 96 → vp_in (0 + x1) 315 ∧ ((¬ (V 215 ((0 + x1).toNatClampNeg)) = 1 → vp_in x1 96 ∧ (w6_minuteGoes E Q 2 [some (vr 214), some (vi (x1 + 1))] [] (up2 V 235 (x1.toNatClampNeg) 0))) ∧ ((V 215 ((0 + x1).toNatClampNeg)) = 1 → vp_in x1 96 ∧ (w6_minuteGoes E Q 2 [some (vr 214), some (vi (x1 + 1))] [] (up2 V 235 (x1.toNatClampNeg) 1)))))) : w6_minuteGoes E Q 2 [some (vr 214), some (vi x1)] [] V := by
  refine wp_iload_n dX6_minuteGoes_2 rfl ?_
  refine wp_bipush (v := 96) dX6_minuteGoes_3 rfl ?_
  refine wp_icmp_ge 37 dX6_minuteGoes_5 (by decide) (fun hc => ?_) (fun hc => ?_)
  · replace h := h.1 hc
    refine wp_iconst (v := 0) dX6_minuteGoes_37 rfl ?_
    refine wi2_1 dX6_minuteGoes_38 ?_
    exact h
  · replace h := h.2 (Int32.not_le.mp hc)
    refine wp_aload_n dX6_minuteGoes_8 rfl ?_
    refine wp_getrs dX6_minuteGoes_9 fk6_71 (tb_214 hT) (tk_214 hT) rfl (tr_33 hT) ?_
    refine wp_iload_n dX6_minuteGoes_12 rfl ?_
    refine wp_aload_n dX6_minuteGoes_13 rfl ?_
    refine wp_getrs dX6_minuteGoes_14 fk6_7 (tb_214 hT) (tk_214 hT) rfl (tr_0 hT) ?_
    refine wp_iconst (v := 0) dX6_minuteGoes_17 rfl ?_
    refine wp_iload_n dX6_minuteGoes_18 rfl ?_
    refine wp_iadd dX6_minuteGoes_19 ?_
    refine wp_iald dX6_minuteGoes_20 (tb_215 hT).2 (tk_215 hT) h.1 ?_
    replace h := h.2
    refine wp_iconst (v := 1) dX6_minuteGoes_21 rfl ?_
    refine wp_icmp_ne 29 dX6_minuteGoes_22 (by decide) (fun hc => ?_) (fun hc => ?_)
    · replace h := h.1 hc
      refine wp_iconst (v := 0) dX6_minuteGoes_29 rfl ?_
      refine wp_zast dX6_minuteGoes_30 (tb_235 hT) (tk_235 hT) (by decide) h.1 ?_
      replace h := h.2
      refine wc2_1 1 dX6_minuteGoes_31 rfl ?_
      refine wp_goto 2 dX6_minuteGoes_34 (by decide) ?_
      exact h
    · replace h := h.2 hc
      refine wp_iconst (v := 1) dX6_minuteGoes_25 rfl ?_
      refine wp_goto 30 dX6_minuteGoes_26 (by decide) ?_
      refine wp_zast dX6_minuteGoes_30 (tb_235 hT) (tk_235 hT) (by decide) h.1 ?_
      replace h := h.2
      refine wc2_1 1 dX6_minuteGoes_31 rfl ?_
      refine wp_goto 2 dX6_minuteGoes_34 (by decide) ?_
      exact h
theorem b6_minuteGoes_39 {E : eT} {Q : vT → Prop} {V : vT} {x1 : Int32} (hT : TW E) (h : (96 ≤ x1 → Q (up2 V 215 313 ((V 215 313) + 1))) ∧ (x1 < 96 → vp_in x1 96 ∧ (((V 235 ((x1).toNatClampNeg)) = 0 → w6_minuteGoes E Q 39 [some (vr 214), some (vi (x1 + 1))] [] V) ∧ (¬ (V 235 ((x1).toNatClampNeg)) = 0 → c6_turnOf E x1 V (fun V56 => w6_minuteGoes E Q 39 [some (vr 214), some (vi (x1 + 1))] [] V56))))) : w6_minuteGoes E Q 39 [some (vr 214), some (vi x1)] [] V := by
  refine wp_iload_n dX6_minuteGoes_39 rfl ?_
  refine wp_bipush (v := 96) dX6_minuteGoes_40 rfl ?_
  refine wp_icmp_ge 65 dX6_minuteGoes_42 (by decide) (fun hc => ?_) (fun hc => ?_)
  · replace h := h.1 hc
    refine wp_aload_n dX6_minuteGoes_65 rfl ?_
    refine wp_getrs dX6_minuteGoes_66 fk6_7 (tb_214 hT) (tk_214 hT) rfl (tr_0 hT) ?_
    refine wp_sipush (v := 313) dX6_minuteGoes_69 rfl ?_
    refine wp_aload_n dX6_minuteGoes_72 rfl ?_
    refine wp_getrs dX6_minuteGoes_73 fk6_7 (tb_214 hT) (tk_214 hT) rfl (tr_0 hT) ?_
    refine wp_sipush (v := 313) dX6_minuteGoes_76 rfl ?_
    refine wp_iald_k 313 dX6_minuteGoes_79 (tb_215 hT).2 (tk_215 hT) rfl (by decide) (by decide) ?_
    refine wp_iconst (v := 1) dX6_minuteGoes_80 rfl ?_
    refine wp_iadd dX6_minuteGoes_81 ?_
    refine wp_iast_k 313 dX6_minuteGoes_82 (tb_215 hT) (tk_215 hT) rfl (by decide) (by decide) ?_
    exact wp_vret dX6_minuteGoes_83 ⟨rfl, rfl, rfl, rfl, h⟩
  · replace h := h.2 (Int32.not_le.mp hc)
    refine wp_aload_n dX6_minuteGoes_45 rfl ?_
    refine wp_getrs dX6_minuteGoes_46 fk6_71 (tb_214 hT) (tk_214 hT) rfl (tr_33 hT) ?_
    refine wp_iload_n dX6_minuteGoes_49 rfl ?_
    refine wp_zald dX6_minuteGoes_50 (tb_235 hT).2 (tk_235 hT) h.1 ?_
    replace h := h.2
    refine wp_if_eq 59 dX6_minuteGoes_51 (by decide) (fun hc => ?_) (fun hc => ?_)
    · replace h := h.1 hc
      refine wc2_1 1 dX6_minuteGoes_59 rfl ?_
      refine wp_goto 39 dX6_minuteGoes_62 (by decide) ?_
      exact h
    · replace h := h.2 hc
      refine wp_aload_n dX6_minuteGoes_54 rfl ?_
      refine wp_iload_n dX6_minuteGoes_55 rfl ?_
      refine wq_VV1 lk6_316 rfl (tb_214 hT) (tk_214 hT) dX6_minuteGoes_56 h (rmQ_ok (by decide) (by decide)) ⟨Nat.le_refl _, Nat.le_refl _⟩ (Nat.le_of_ble_eq_true rfl) (fun V56 h => ?_)
      refine wc2_1 1 dX6_minuteGoes_59 rfl ?_
      refine wp_goto 39 dX6_minuteGoes_62 (by decide) ?_
      exact h
theorem n6_minuteGoes {E : eT} {Q : vT → Prop} {V : vT} (h : w6_minuteGoes E Q 0 [some (vr 214), none] [] V) : c6_minuteGoes E V Q := MOk.enter [some (vr 214), none] pn_6 rfl rfl (Nat.le_of_ble_eq_true rfl) rfl h
theorem b6_turnOf_0 {E : eT} {Q : vT → Prop} {V : vT} {x1 : Int32} (hT : TW E) (h : c6_takesThings E x1 V (fun V2 => w6_turnOf E Q 7 [some (vr 214), some (vi x1), some (vi 0)] [] V2)) : w6_turnOf E Q 0 [some (vr 214), some (vi x1), none] [] V := by
  refine wp_aload_n dX6_turnOf_0 rfl ?_
  refine wp_iload_n dX6_turnOf_1 rfl ?_
  refine wq_VV1 lk6_307 rfl (tb_214 hT) (tk_214 hT) dX6_turnOf_2 h (rmQ_ok (by decide) (by decide)) ⟨Nat.le_refl _, Nat.le_refl _⟩ (Nat.le_of_ble_eq_true rfl) (fun V2 h => ?_)
  refine wp_iconst (v := 0) dX6_turnOf_5 rfl ?_
  refine wi3_2 dX6_turnOf_6 ?_
  exact h
theorem b6_turnOf_7 {E : eT} {Q : vT → Prop} {V : vT} {x1 x2 : Int32} (hT : TW E) (h : (4 ≤ x2 → vp_in (96 + x1) 315 ∧ (c6_draws E V (fun r37 V37 => c6_feels E x1 (V 215 ((96 + x1).toNatClampNeg)) 0 r37 V37 (fun V40 => c6_holdsAny E 120 V40 (fun r46 V46 => (r46 = 0 → vp_in (96 + x1) 315 ∧ (vp_in (96 + x1) 315 ∧ (vp_in (96 + x1) 315 ∧ ((¬ ((up2 V46 215 ((96 + x1).toNatClampNeg) ((V46 215 ((96 + x1).toNatClampNeg)) - 1)) 215 ((96 + x1).toNatClampNeg)) = 0 → Q (up2 V46 215 ((96 + x1).toNatClampNeg) ((V46 215 ((96 + x1).toNatClampNeg)) - 1))) ∧ (((up2 V46 215 ((96 + x1).toNatClampNeg) ((V46 215 ((96 + x1).toNatClampNeg)) - 1)) 215 ((96 + x1).toNatClampNeg)) = 0 → vp_in (0 + x1) 315 ∧ (Q (up2 (up2 V46 215 ((96 + x1).toNatClampNeg) ((V46 215 ((96 + x1).toNatClampNeg)) - 1)) 215 ((0 + x1).toNatClampNeg) 2))))))) ∧ (¬ r46 = 0 → vp_in (96 + x1) 315 ∧ (vp_in (96 + x1) 315 ∧ ((¬ ((up2 V46 215 ((96 + x1).toNatClampNeg) 0) 215 ((96 + x1).toNatClampNeg)) = 0 → Q (up2 V46 215 ((96 + x1).toNatClampNeg) 0)) ∧ (((up2 V46 215 ((96 + x1).toNatClampNeg) 0) 215 ((96 + x1).toNatClampNeg)) = 0 → vp_in (0 + x1) 315 ∧ (Q (up2 (up2 V46 215 ((96 + x1).toNatClampNeg) 0) 215 ((0 + x1).toNatClampNeg) 2))))))))))) ∧ (x2 < 4 → c6_goesOver E x1 x2 V (fun V15 => w6_turnOf E Q 7 [some (vr 214), some (vi x1), some (vi (x2 + 1))] [] V15))) : w6_turnOf E Q 7 [some (vr 214), some (vi x1), some (vi x2)] [] V := by
  refine wp_iload_n dX6_turnOf_7 rfl ?_
  refine wp_iconst (v := 4) dX6_turnOf_8 rfl ?_
  refine wp_icmp_ge 24 dX6_turnOf_9 (by decide) (fun hc => ?_) (fun hc => ?_)
  · replace h := h.1 hc
    refine wp_aload_n dX6_turnOf_24 rfl ?_
    refine wp_iload_n dX6_turnOf_25 rfl ?_
    refine wp_aload_n dX6_turnOf_26 rfl ?_
    refine wp_getrs dX6_turnOf_27 fk6_7 (tb_214 hT) (tk_214 hT) rfl (tr_0 hT) ?_
    refine wp_bipush (v := 96) dX6_turnOf_30 rfl ?_
    refine wp_iload_n dX6_turnOf_32 rfl ?_
    refine wp_iadd dX6_turnOf_33 ?_
    refine wp_iald dX6_turnOf_34 (tb_215 hT).2 (tk_215 hT) h.1 ?_
    replace h := h.2
    refine wp_iconst (v := 0) dX6_turnOf_35 rfl ?_
    refine wp_aload_n dX6_turnOf_36 rfl ?_
    refine wq_VI0 lk6_304 rfl (tb_214 hT) (tk_214 hT) dX6_turnOf_37 h (rmQ_ok (by decide) (by decide)) ⟨Nat.le_refl _, Nat.le_refl _⟩ (Nat.le_of_ble_eq_true rfl) (fun r37 V37 h => ?_)
    refine wq_VV4 lk6_297 rfl (tb_214 hT) (tk_214 hT) dX6_turnOf_40 h (rmQ_ok (by decide) (by decide)) ⟨Nat.le_refl _, Nat.le_refl _⟩ (Nat.le_of_ble_eq_true rfl) (fun V40 h => ?_)
    refine wp_aload_n dX6_turnOf_43 rfl ?_
    refine wp_bipush (v := 120) dX6_turnOf_44 rfl ?_
    refine wq_VI1 lk6_313 rfl (tb_214 hT) (tk_214 hT) dX6_turnOf_46 h (rmQ_ok (by decide) (by decide)) ⟨Nat.le_refl _, Nat.le_refl _⟩ (Nat.le_of_ble_eq_true rfl) (fun r46 V46 h => ?_)
    refine wi3_2 dX6_turnOf_49 ?_
    refine wp_aload_n dX6_turnOf_50 rfl ?_
    refine wp_getrs dX6_turnOf_51 fk6_7 (tb_214 hT) (tk_214 hT) rfl (tr_0 hT) ?_
    refine wp_bipush (v := 96) dX6_turnOf_54 rfl ?_
    refine wp_iload_n dX6_turnOf_56 rfl ?_
    refine wp_iadd dX6_turnOf_57 ?_
    refine wp_iload_n dX6_turnOf_58 rfl ?_
    refine wp_if_eq 66 dX6_turnOf_59 (by decide) (fun hc => ?_) (fun hc => ?_)
    · replace h := h.1 hc
      refine wp_aload_n dX6_turnOf_66 rfl ?_
      refine wp_getrs dX6_turnOf_67 fk6_7 (tb_214 hT) (tk_214 hT) rfl (tr_0 hT) ?_
      refine wp_bipush (v := 96) dX6_turnOf_70 rfl ?_
      refine wp_iload_n dX6_turnOf_72 rfl ?_
      refine wp_iadd dX6_turnOf_73 ?_
      refine wp_iald dX6_turnOf_74 (tb_215 hT).2 (tk_215 hT) h.1 ?_
      replace h := h.2
      refine wp_iconst (v := 1) dX6_turnOf_75 rfl ?_
      refine wp_isub dX6_turnOf_76 ?_
      refine wp_iast dX6_turnOf_77 (tb_215 hT) (tk_215 hT) h.1 ?_
      replace h := h.2
      refine wp_aload_n dX6_turnOf_78 rfl ?_
      refine wp_getrs dX6_turnOf_79 fk6_7 (tb_214 hT) (tk_214 hT) rfl (tr_0 hT) ?_
      refine wp_bipush (v := 96) dX6_turnOf_82 rfl ?_
      refine wp_iload_n dX6_turnOf_84 rfl ?_
      refine wp_iadd dX6_turnOf_85 ?_
      refine wp_iald dX6_turnOf_86 (tb_215 hT).2 (tk_215 hT) h.1 ?_
      replace h := h.2
      refine wp_if_ne 99 dX6_turnOf_87 (by decide) (fun hc => ?_) (fun hc => ?_)
      · replace h := h.1 hc
        exact wp_vret dX6_turnOf_99 ⟨rfl, rfl, rfl, rfl, h⟩
      · replace h := h.2 hc
        refine wp_aload_n dX6_turnOf_90 rfl ?_
        refine wp_getrs dX6_turnOf_91 fk6_7 (tb_214 hT) (tk_214 hT) rfl (tr_0 hT) ?_
        refine wp_iconst (v := 0) dX6_turnOf_94 rfl ?_
        refine wp_iload_n dX6_turnOf_95 rfl ?_
        refine wp_iadd dX6_turnOf_96 ?_
        refine wp_iconst (v := 2) dX6_turnOf_97 rfl ?_
        refine wp_iast dX6_turnOf_98 (tb_215 hT) (tk_215 hT) h.1 ?_
        replace h := h.2
        exact wp_vret dX6_turnOf_99 ⟨rfl, rfl, rfl, rfl, h⟩
    · replace h := h.2 hc
      refine wp_iconst (v := 0) dX6_turnOf_62 rfl ?_
      refine wp_goto 77 dX6_turnOf_63 (by decide) ?_
      refine wp_iast dX6_turnOf_77 (tb_215 hT) (tk_215 hT) h.1 ?_
      replace h := h.2
      refine wp_aload_n dX6_turnOf_78 rfl ?_
      refine wp_getrs dX6_turnOf_79 fk6_7 (tb_214 hT) (tk_214 hT) rfl (tr_0 hT) ?_
      refine wp_bipush (v := 96) dX6_turnOf_82 rfl ?_
      refine wp_iload_n dX6_turnOf_84 rfl ?_
      refine wp_iadd dX6_turnOf_85 ?_
      refine wp_iald dX6_turnOf_86 (tb_215 hT).2 (tk_215 hT) h.1 ?_
      replace h := h.2
      refine wp_if_ne 99 dX6_turnOf_87 (by decide) (fun hc => ?_) (fun hc => ?_)
      · replace h := h.1 hc
        exact wp_vret dX6_turnOf_99 ⟨rfl, rfl, rfl, rfl, h⟩
      · replace h := h.2 hc
        refine wp_aload_n dX6_turnOf_90 rfl ?_
        refine wp_getrs dX6_turnOf_91 fk6_7 (tb_214 hT) (tk_214 hT) rfl (tr_0 hT) ?_
        refine wp_iconst (v := 0) dX6_turnOf_94 rfl ?_
        refine wp_iload_n dX6_turnOf_95 rfl ?_
        refine wp_iadd dX6_turnOf_96 ?_
        refine wp_iconst (v := 2) dX6_turnOf_97 rfl ?_
        refine wp_iast dX6_turnOf_98 (tb_215 hT) (tk_215 hT) h.1 ?_
        replace h := h.2
        exact wp_vret dX6_turnOf_99 ⟨rfl, rfl, rfl, rfl, h⟩
  · replace h := h.2 (Int32.not_le.mp hc)
    refine wp_aload_n dX6_turnOf_12 rfl ?_
    refine wp_iload_n dX6_turnOf_13 rfl ?_
    refine wp_iload_n dX6_turnOf_14 rfl ?_
    refine wq_VV2 lk6_310 rfl (tb_214 hT) (tk_214 hT) dX6_turnOf_15 h (rmQ_ok (by decide) (by decide)) ⟨Nat.le_refl _, Nat.le_refl _⟩ (Nat.le_of_ble_eq_true rfl) (fun V15 h => ?_)
    refine wc3_2 1 dX6_turnOf_18 rfl ?_
    refine wp_goto 7 dX6_turnOf_21 (by decide) ?_
    exact h
theorem n6_turnOf {E : eT} {Q : vT → Prop} {V : vT} {x1 : Int32} (h : w6_turnOf E Q 0 [some (vr 214), some (vi x1), none] [] V) : c6_turnOf E x1 V Q := MOk.enter [some (vr 214), some (vi x1), none] pn_6 rfl rfl (Nat.le_of_ble_eq_true rfl) rfl h
theorem b6_takesThings_0 {E : eT} {Q : vT → Prop} {V : vT} {x1 : Int32} (hT : TW E) (h : w6_takesThings E Q 2 [some (vr 214), some (vi x1), some (vi 0)] [] V) : w6_takesThings E Q 0 [some (vr 214), some (vi x1), none] [] V := by
  refine wp_iconst (v := 0) dX6_takesThings_0 rfl ?_
  refine wi3_2 dX6_takesThings_1 ?_
  exact h
theorem b6_takesThings_2 {E : eT} {Q : vT → Prop} {V : vT} {x1 x2 : Int32} (hT : TW E) (h : (24 ≤ x2 → Q V) ∧ (x2 < 24 → c6_liesAt E x2 x1 V (fun r11 V11 => (r11 = 0 → w6_takesThings E Q 2 [some (vr 214), some (vi x1), some (vi (x2 + 1))] [] V11) ∧ (¬ r11 = 0 → vp_in (264 + x2) 315 ∧ (((V11 215 ((264 + x2).toNatClampNeg)) = 0 → vp_in (288 + x2) 315 ∧ (vp_in (240 + x2) 315 ∧ (w6_takesThings E Q 2 [some (vr 214), some (vi x1), some (vi (x2 + 1))] [] (up2 (up2 V11 215 ((288 + x2).toNatClampNeg) 1) 214 34 (((up2 V11 215 ((288 + x2).toNatClampNeg) 1) 214 34) + ((up2 V11 215 ((288 + x2).toNatClampNeg) 1) 215 ((240 + x2).toNatClampNeg))))))) ∧ (¬ (V11 215 ((264 + x2).toNatClampNeg)) = 0 → w6_takesThings E Q 2 [some (vr 214), some (vi x1), some (vi (x2 + 1))] [] V11)))))) : w6_takesThings E Q 2 [some (vr 214), some (vi x1), some (vi x2)] [] V := by
  refine wp_iload_n dX6_takesThings_2 rfl ?_
  refine wp_bipush (v := 24) dX6_takesThings_3 rfl ?_
  refine wp_icmp_ge 69 dX6_takesThings_5 (by decide) (fun hc => ?_) (fun hc => ?_)
  · replace h := h.1 hc
    exact wp_vret dX6_takesThings_69 ⟨rfl, rfl, rfl, rfl, h⟩
  · replace h := h.2 (Int32.not_le.mp hc)
    refine wp_aload_n dX6_takesThings_8 rfl ?_
    refine wp_iload_n dX6_takesThings_9 rfl ?_
    refine wp_iload_n dX6_takesThings_10 rfl ?_
    refine wq_VI2 lk6_278 rfl (tb_214 hT) (tk_214 hT) dX6_takesThings_11 h (rmQ_ok (by decide) (by decide)) ⟨Nat.le_refl _, Nat.le_refl _⟩ (Nat.le_of_ble_eq_true rfl) (fun r11 V11 h => ?_)
    refine wp_if_eq 63 dX6_takesThings_14 (by decide) (fun hc => ?_) (fun hc => ?_)
    · replace h := h.1 hc
      refine wc3_2 1 dX6_takesThings_63 rfl ?_
      refine wp_goto 2 dX6_takesThings_66 (by decide) ?_
      exact h
    · replace h := h.2 hc
      refine wp_aload_n dX6_takesThings_17 rfl ?_
      refine wp_getrs dX6_takesThings_18 fk6_7 (tb_214 hT) (tk_214 hT) rfl (tr_0 hT) ?_
      refine wp_sipush (v := 264) dX6_takesThings_21 rfl ?_
      refine wp_iload_n dX6_takesThings_24 rfl ?_
      refine wp_iadd dX6_takesThings_25 ?_
      refine wp_iald dX6_takesThings_26 (tb_215 hT).2 (tk_215 hT) h.1 ?_
      replace h := h.2
      refine wp_if_eq 33 dX6_takesThings_27 (by decide) (fun hc => ?_) (fun hc => ?_)
      · replace h := h.1 hc
        refine wp_aload_n dX6_takesThings_33 rfl ?_
        refine wp_getrs dX6_takesThings_34 fk6_7 (tb_214 hT) (tk_214 hT) rfl (tr_0 hT) ?_
        refine wp_sipush (v := 288) dX6_takesThings_37 rfl ?_
        refine wp_iload_n dX6_takesThings_40 rfl ?_
        refine wp_iadd dX6_takesThings_41 ?_
        refine wp_iconst (v := 1) dX6_takesThings_42 rfl ?_
        refine wp_iast dX6_takesThings_43 (tb_215 hT) (tk_215 hT) h.1 ?_
        replace h := h.2
        refine wp_aload_n dX6_takesThings_44 rfl ?_
        refine wp_aload_n dX6_takesThings_45 rfl ?_
        refine wp_geti dX6_takesThings_46 fk6_294 (tb_214 hT) (tk_214 hT) rfl ?_
        refine wp_aload_n dX6_takesThings_49 rfl ?_
        refine wp_getrs dX6_takesThings_50 fk6_7 (tb_214 hT) (tk_214 hT) rfl (tr_0 hT) ?_
        refine wp_sipush (v := 240) dX6_takesThings_53 rfl ?_
        refine wp_iload_n dX6_takesThings_56 rfl ?_
        refine wp_iadd dX6_takesThings_57 ?_
        refine wp_iald dX6_takesThings_58 (tb_215 hT).2 (tk_215 hT) h.1 ?_
        replace h := h.2
        refine wp_iadd dX6_takesThings_59 ?_
        refine wp_puti dX6_takesThings_60 fp6_294 (tb_214 hT) (tk_214 hT) rfl ?_
        refine wc3_2 1 dX6_takesThings_63 rfl ?_
        refine wp_goto 2 dX6_takesThings_66 (by decide) ?_
        exact h
      · replace h := h.2 hc
        refine wp_goto 63 dX6_takesThings_30 (by decide) ?_
        refine wc3_2 1 dX6_takesThings_63 rfl ?_
        refine wp_goto 2 dX6_takesThings_66 (by decide) ?_
        exact h
theorem n6_takesThings {E : eT} {Q : vT → Prop} {V : vT} {x1 : Int32} (h : w6_takesThings E Q 0 [some (vr 214), some (vi x1), none] [] V) : c6_takesThings E x1 V Q := MOk.enter [some (vr 214), some (vi x1), none] pn_6 rfl rfl (Nat.le_of_ble_eq_true rfl) rfl h
theorem b6_liesAt_0 {E : eT} {Q : Int32 → vT → Prop} {V : vT} {x1 x2 : Int32} (hT : TW E) (h : c6_isThing E x1 V (fun r2 V2 => (r2 = 0 → Q 0 V2) ∧ (¬ r2 = 0 → vp_in (288 + x1) 315 ∧ ((¬ (V2 215 ((288 + x1).toNatClampNeg)) = 0 → Q 0 V2) ∧ ((V2 215 ((288 + x1).toNatClampNeg)) = 0 → vp_in (216 + x1) 315 ∧ ((¬ (V2 215 ((216 + x1).toNatClampNeg)) = x2 → Q 0 V2) ∧ ((V2 215 ((216 + x1).toNatClampNeg)) = x2 → Q 1 V2))))))) : w6_liesAt E Q 0 [some (vr 214), some (vi x1), some (vi x2)] [] V := by
  refine wp_aload_n dX6_liesAt_0 rfl ?_
  refine wp_iload_n dX6_liesAt_1 rfl ?_
  refine wq_VI1 lk6_114 rfl (tb_214 hT) (tk_214 hT) dX6_liesAt_2 h (rmQ_ok (by decide) (by decide)) ⟨Nat.le_refl _, Nat.le_refl _⟩ (Nat.le_of_ble_eq_true rfl) (fun r2 V2 h => ?_)
  refine wp_if_eq 39 dX6_liesAt_5 (by decide) (fun hc => ?_) (fun hc => ?_)
  · replace h := h.1 hc
    refine wp_iconst (v := 0) dX6_liesAt_39 rfl ?_
    exact wp_iret dX6_liesAt_40 rfl ⟨_, rfl, rfl, rfl, rfl, h⟩
  · replace h := h.2 hc
    refine wp_aload_n dX6_liesAt_8 rfl ?_
    refine wp_getrs dX6_liesAt_9 fk6_7 (tb_214 hT) (tk_214 hT) rfl (tr_0 hT) ?_
    refine wp_sipush (v := 288) dX6_liesAt_12 rfl ?_
    refine wp_iload_n dX6_liesAt_15 rfl ?_
    refine wp_iadd dX6_liesAt_16 ?_
    refine wp_iald dX6_liesAt_17 (tb_215 hT).2 (tk_215 hT) h.1 ?_
    replace h := h.2
    refine wp_if_ne 39 dX6_liesAt_18 (by decide) (fun hc => ?_) (fun hc => ?_)
    · replace h := h.1 hc
      refine wp_iconst (v := 0) dX6_liesAt_39 rfl ?_
      exact wp_iret dX6_liesAt_40 rfl ⟨_, rfl, rfl, rfl, rfl, h⟩
    · replace h := h.2 hc
      refine wp_aload_n dX6_liesAt_21 rfl ?_
      refine wp_getrs dX6_liesAt_22 fk6_7 (tb_214 hT) (tk_214 hT) rfl (tr_0 hT) ?_
      refine wp_sipush (v := 216) dX6_liesAt_25 rfl ?_
      refine wp_iload_n dX6_liesAt_28 rfl ?_
      refine wp_iadd dX6_liesAt_29 ?_
      refine wp_iald dX6_liesAt_30 (tb_215 hT).2 (tk_215 hT) h.1 ?_
      replace h := h.2
      refine wp_iload_n dX6_liesAt_31 rfl ?_
      refine wp_icmp_ne 39 dX6_liesAt_32 (by decide) (fun hc => ?_) (fun hc => ?_)
      · replace h := h.1 hc
        refine wp_iconst (v := 0) dX6_liesAt_39 rfl ?_
        exact wp_iret dX6_liesAt_40 rfl ⟨_, rfl, rfl, rfl, rfl, h⟩
      · replace h := h.2 hc
        refine wp_iconst (v := 1) dX6_liesAt_35 rfl ?_
        refine wp_goto 40 dX6_liesAt_36 (by decide) ?_
        exact wp_iret dX6_liesAt_40 rfl ⟨_, rfl, rfl, rfl, rfl, h⟩
theorem n6_liesAt {E : eT} {Q : Int32 → vT → Prop} {V : vT} {x1 x2 : Int32} (h : w6_liesAt E Q 0 [some (vr 214), some (vi x1), some (vi x2)] [] V) : c6_liesAt E x1 x2 V Q := MOk.enter [some (vr 214), some (vi x1), some (vi x2)] pn_6 rfl rfl (Nat.le_of_ble_eq_true rfl) rfl h
theorem b6_goesOver_0 {E : eT} {Q : vT → Prop} {V : vT} {x1 x2 : Int32} (hT : TW E) (h : c6_beside E x1 x2 V (fun r2 V2 => c6_isWood E r2 V2 (fun r8 V8 => (r8 = 0 → Q V8) ∧ (¬ r8 = 0 → vp_in (0 + r2) 315 ∧ (((V8 215 ((0 + r2).toNatClampNeg)) = 0 → vp_in (96 + x1) 315 ∧ (c6_feels E r2 (V8 215 ((96 + x1).toNatClampNeg)) x2 0 V8 (fun V39 => c6_byLaw E 115 0 10 V39 (fun r48 V48 => c6_draws E V48 (fun r54 V54 => (r54 < r48 → c6_feels E r2 0 0 0 V54 (fun V68 => c6_byLaw E 98 1 9 V68 (fun r85 V85 => vp_in (96 + r2) 315 ∧ (vp_in (0 + r2) 315 ∧ (Q (up2 (up2 V85 215 ((96 + r2).toNatClampNeg) r85) 215 ((0 + r2).toNatClampNeg) 1)))))) ∧ (r48 ≤ r54 → Q V54)))))) ∧ (¬ (V8 215 ((0 + r2).toNatClampNeg)) = 0 → Q V8)))))) : w6_goesOver E Q 0 [some (vr 214), some (vi x1), some (vi x2), none, none] [] V := by
  refine wp_iload_n dX6_goesOver_0 rfl ?_
  refine wp_iload_n dX6_goesOver_1 rfl ?_
  refine wq_SI2 lk6_281 dX6_goesOver_2 h (rmQ_ok (by decide) (by decide)) ⟨Nat.le_refl _, Nat.le_refl _⟩ (Nat.le_of_ble_eq_true rfl) (fun r2 V2 h => ?_)
  refine wi5_3 dX6_goesOver_5 ?_
  refine wp_aload_n dX6_goesOver_6 rfl ?_
  refine wp_iload_n dX6_goesOver_7 rfl ?_
  refine wq_VI1 lk6_241 rfl (tb_214 hT) (tk_214 hT) dX6_goesOver_8 h (rmQ_ok (by decide) (by decide)) ⟨Nat.le_refl _, Nat.le_refl _⟩ (Nat.le_of_ble_eq_true rfl) (fun r8 V8 h => ?_)
  refine wp_if_eq 25 dX6_goesOver_11 (by decide) (fun hc => ?_) (fun hc => ?_)
  · replace h := h.1 hc
    exact wp_vret dX6_goesOver_25 ⟨rfl, rfl, rfl, rfl, h⟩
  · replace h := h.2 hc
    refine wp_aload_n dX6_goesOver_14 rfl ?_
    refine wp_getrs dX6_goesOver_15 fk6_7 (tb_214 hT) (tk_214 hT) rfl (tr_0 hT) ?_
    refine wp_iconst (v := 0) dX6_goesOver_18 rfl ?_
    refine wp_iload_n dX6_goesOver_19 rfl ?_
    refine wp_iadd dX6_goesOver_20 ?_
    refine wp_iald dX6_goesOver_21 (tb_215 hT).2 (tk_215 hT) h.1 ?_
    replace h := h.2
    refine wp_if_eq 26 dX6_goesOver_22 (by decide) (fun hc => ?_) (fun hc => ?_)
    · replace h := h.1 hc
      refine wp_aload_n dX6_goesOver_26 rfl ?_
      refine wp_iload_n dX6_goesOver_27 rfl ?_
      refine wp_aload_n dX6_goesOver_28 rfl ?_
      refine wp_getrs dX6_goesOver_29 fk6_7 (tb_214 hT) (tk_214 hT) rfl (tr_0 hT) ?_
      refine wp_bipush (v := 96) dX6_goesOver_32 rfl ?_
      refine wp_iload_n dX6_goesOver_34 rfl ?_
      refine wp_iadd dX6_goesOver_35 ?_
      refine wp_iald dX6_goesOver_36 (tb_215 hT).2 (tk_215 hT) h.1 ?_
      replace h := h.2
      refine wp_iload_n dX6_goesOver_37 rfl ?_
      refine wp_iconst (v := 0) dX6_goesOver_38 rfl ?_
      refine wq_VV4 lk6_297 rfl (tb_214 hT) (tk_214 hT) dX6_goesOver_39 h (rmQ_ok (by decide) (by decide)) ⟨Nat.le_refl _, Nat.le_refl _⟩ (Nat.le_of_ble_eq_true rfl) (fun V39 h => ?_)
      refine wp_aload_n dX6_goesOver_42 rfl ?_
      refine wp_bipush (v := 115) dX6_goesOver_43 rfl ?_
      refine wp_iconst (v := 0) dX6_goesOver_45 rfl ?_
      refine wp_bipush (v := 10) dX6_goesOver_46 rfl ?_
      refine wq_VI3 lk6_301 rfl (tb_214 hT) (tk_214 hT) dX6_goesOver_48 h (rmQ_ok (by decide) (by decide)) ⟨Nat.le_refl _, Nat.le_refl _⟩ (Nat.le_of_ble_eq_true rfl) (fun r48 V48 h => ?_)
      refine wi5_4 dX6_goesOver_51 ?_
      refine wp_aload_n dX6_goesOver_53 rfl ?_
      refine wq_VI0 lk6_304 rfl (tb_214 hT) (tk_214 hT) dX6_goesOver_54 h (rmQ_ok (by decide) (by decide)) ⟨Nat.le_refl _, Nat.le_refl _⟩ (Nat.le_of_ble_eq_true rfl) (fun r54 V54 h => ?_)
      refine wp_iload dX6_goesOver_57 rfl ?_
      refine wp_icmp_lt 63 dX6_goesOver_59 (by decide) (fun hc => ?_) (fun hc => ?_)
      · replace h := h.1 hc
        refine wp_aload_n dX6_goesOver_63 rfl ?_
        refine wp_iload_n dX6_goesOver_64 rfl ?_
        refine wp_iconst (v := 0) dX6_goesOver_65 rfl ?_
        refine wp_iconst (v := 0) dX6_goesOver_66 rfl ?_
        refine wp_iconst (v := 0) dX6_goesOver_67 rfl ?_
        refine wq_VV4 lk6_297 rfl (tb_214 hT) (tk_214 hT) dX6_goesOver_68 h (rmQ_ok (by decide) (by decide)) ⟨Nat.le_refl _, Nat.le_refl _⟩ (Nat.le_of_ble_eq_true rfl) (fun V68 h => ?_)
        refine wp_aload_n dX6_goesOver_71 rfl ?_
        refine wp_getrs dX6_goesOver_72 fk6_7 (tb_214 hT) (tk_214 hT) rfl (tr_0 hT) ?_
        refine wp_bipush (v := 96) dX6_goesOver_75 rfl ?_
        refine wp_iload_n dX6_goesOver_77 rfl ?_
        refine wp_iadd dX6_goesOver_78 ?_
        refine wp_aload_n dX6_goesOver_79 rfl ?_
        refine wp_bipush (v := 98) dX6_goesOver_80 rfl ?_
        refine wp_iconst (v := 1) dX6_goesOver_82 rfl ?_
        refine wp_bipush (v := 9) dX6_goesOver_83 rfl ?_
        refine wq_VI3 lk6_301 rfl (tb_214 hT) (tk_214 hT) dX6_goesOver_85 h (rmQ_ok (by decide) (by decide)) ⟨Nat.le_refl _, Nat.le_refl _⟩ (Nat.le_of_ble_eq_true rfl) (fun r85 V85 h => ?_)
        refine wp_iast dX6_goesOver_88 (tb_215 hT) (tk_215 hT) h.1 ?_
        replace h := h.2
        refine wp_aload_n dX6_goesOver_89 rfl ?_
        refine wp_getrs dX6_goesOver_90 fk6_7 (tb_214 hT) (tk_214 hT) rfl (tr_0 hT) ?_
        refine wp_iconst (v := 0) dX6_goesOver_93 rfl ?_
        refine wp_iload_n dX6_goesOver_94 rfl ?_
        refine wp_iadd dX6_goesOver_95 ?_
        refine wp_iconst (v := 1) dX6_goesOver_96 rfl ?_
        refine wp_iast dX6_goesOver_97 (tb_215 hT) (tk_215 hT) h.1 ?_
        replace h := h.2
        exact wp_vret dX6_goesOver_98 ⟨rfl, rfl, rfl, rfl, h⟩
      · replace h := h.2 (Int32.not_lt.mp hc)
        exact wp_vret dX6_goesOver_62 ⟨rfl, rfl, rfl, rfl, h⟩
    · replace h := h.2 hc
      exact wp_vret dX6_goesOver_25 ⟨rfl, rfl, rfl, rfl, h⟩
theorem n6_goesOver {E : eT} {Q : vT → Prop} {V : vT} {x1 x2 : Int32} (h : w6_goesOver E Q 0 [some (vr 214), some (vi x1), some (vi x2), none, none] [] V) : c6_goesOver E x1 x2 V Q := MOk.enter [some (vr 214), some (vi x1), some (vi x2), none, none] pn_6 rfl rfl (Nat.le_of_ble_eq_true rfl) rfl h
theorem b6_beside_0 {E : eT} {Q : Int32 → vT → Prop} {V : vT} {x1 x2 : Int32} (hT : TW E) (h : (¬ x2 = 1 → (¬ x2 = 3 → (¬ x2 = 2 → (¬ x2 = 0 → c6_isSpot E ((rmd x1 12) + 0) ((x1 / 12) + 0) V (fun r51 V51 => (r51 = 0 → Q (-1) V51) ∧ (¬ r51 = 0 → Q ((12 * ((x1 / 12) + 0)) + ((rmd x1 12) + 0)) V51))) ∧ (x2 = 0 → c6_isSpot E ((rmd x1 12) + 0) ((x1 / 12) + (-1)) V (fun r51' V51' => (r51' = 0 → Q (-1) V51') ∧ (¬ r51' = 0 → Q ((12 * ((x1 / 12) + (-1))) + ((rmd x1 12) + 0)) V51')))) ∧ (x2 = 2 → c6_isSpot E ((rmd x1 12) + 0) ((x1 / 12) + 1) V (fun r51'' V51'' => (r51'' = 0 → Q (-1) V51'') ∧ (¬ r51'' = 0 → Q ((12 * ((x1 / 12) + 1)) + ((rmd x1 12) + 0)) V51'')))) ∧ (x2 = 3 → (¬ x2 = 2 → (¬ x2 = 0 → c6_isSpot E ((rmd x1 12) + (-1)) ((x1 / 12) + 0) V (fun r51''' V51''' => (r51''' = 0 → Q (-1) V51''') ∧ (¬ r51''' = 0 → Q ((12 * ((x1 / 12) + 0)) + ((rmd x1 12) + (-1))) V51'''))) ∧ (x2 = 0 → c6_isSpot E ((rmd x1 12) + (-1)) ((x1 / 12) + (-1)) V (fun r51'''' V51'''' => (r51'''' = 0 → Q (-1) V51'''') ∧ (¬ r51'''' = 0 → Q ((12 * ((x1 / 12) + (-1))) + ((rmd x1 12) + (-1))) V51'''')))) ∧ (x2 = 2 → c6_isSpot E ((rmd x1 12) + (-1)) ((x1 / 12) + 1) V (fun r51''''' V51''''' => (r51''''' = 0 → Q (-1) V51''''') ∧ (¬ r51''''' = 0 → Q ((12 * ((x1 / 12) + 1)) + ((rmd x1 12) + (-1))) V51'''''))))) ∧ (x2 = 1 → (¬ x2 = 2 → (¬ x2 = 0 → c6_isSpot E ((rmd x1 12) + 1) ((x1 / 12) + 0) V (fun r51'''''' V51'''''' => (r51'''''' = 0 → Q (-1) V51'''''') ∧ (¬ r51'''''' = 0 → Q ((12 * ((x1 / 12) + 0)) + ((rmd x1 12) + 1)) V51''''''))) ∧ (x2 = 0 → c6_isSpot E ((rmd x1 12) + 1) ((x1 / 12) + (-1)) V (fun r51''''''' V51''''''' => (r51''''''' = 0 → Q (-1) V51''''''') ∧ (¬ r51''''''' = 0 → Q ((12 * ((x1 / 12) + (-1))) + ((rmd x1 12) + 1)) V51''''''')))) ∧ (x2 = 2 → c6_isSpot E ((rmd x1 12) + 1) ((x1 / 12) + 1) V (fun r51'''''''' V51'''''''' => (r51'''''''' = 0 → Q (-1) V51'''''''') ∧ (¬ r51'''''''' = 0 → Q ((12 * ((x1 / 12) + 1)) + ((rmd x1 12) + 1)) V51''''''''))))) : w6_beside E Q 0 [some (vi x1), some (vi x2), none, none] [] V := by
  refine wp_iload_n dX6_beside_0 rfl ?_
  refine wp_bipush (v := 12) dX6_beside_1 rfl ?_
  refine wp_irm dX6_beside_3 (by decide) ?_
  refine wp_iload_n dX6_beside_4 rfl ?_
  refine wp_iconst (v := 1) dX6_beside_5 rfl ?_
  refine wp_icmp_ne 13 dX6_beside_6 (by decide) (fun hc => ?_) (fun hc => ?_)
  · replace h := h.1 hc
    refine wp_iload_n dX6_beside_13 rfl ?_
    refine wp_iconst (v := 3) dX6_beside_14 rfl ?_
    refine wp_icmp_ne 22 dX6_beside_15 (by decide) (fun hc => ?_) (fun hc => ?_)
    · replace h := h.1 hc
      refine wp_iconst (v := 0) dX6_beside_22 rfl ?_
      refine wp_iadd dX6_beside_23 ?_
      refine wi4_2 dX6_beside_24 ?_
      refine wp_iload_n dX6_beside_25 rfl ?_
      refine wp_bipush (v := 12) dX6_beside_26 rfl ?_
      refine wp_idiv dX6_beside_28 (by decide) ?_
      refine wp_iload_n dX6_beside_29 rfl ?_
      refine wp_iconst (v := 2) dX6_beside_30 rfl ?_
      refine wp_icmp_ne 38 dX6_beside_31 (by decide) (fun hc => ?_) (fun hc => ?_)
      · replace h := h.1 hc
        refine wp_iload_n dX6_beside_38 rfl ?_
        refine wp_if_ne 46 dX6_beside_39 (by decide) (fun hc => ?_) (fun hc => ?_)
        · replace h := h.1 hc
          refine wp_iconst (v := 0) dX6_beside_46 rfl ?_
          refine wp_iadd dX6_beside_47 ?_
          refine wi4_3 dX6_beside_48 ?_
          refine wp_iload_n dX6_beside_49 rfl ?_
          refine wp_iload_n dX6_beside_50 rfl ?_
          refine wq_SI2 lk6_106 dX6_beside_51 h (rmQ_ok (by decide) (by decide)) ⟨Nat.le_refl _, Nat.le_refl _⟩ (Nat.le_of_ble_eq_true rfl) (fun r51 V51 h => ?_)
          refine wp_if_eq 66 dX6_beside_54 (by decide) (fun hc => ?_) (fun hc => ?_)
          · replace h := h.1 hc
            refine wp_iconst (v := (-1)) dX6_beside_66 rfl ?_
            exact wp_iret dX6_beside_67 rfl ⟨_, rfl, rfl, rfl, rfl, h⟩
          · replace h := h.2 hc
            refine wp_bipush (v := 12) dX6_beside_57 rfl ?_
            refine wp_iload_n dX6_beside_59 rfl ?_
            refine wp_imul dX6_beside_60 ?_
            refine wp_iload_n dX6_beside_61 rfl ?_
            refine wp_iadd dX6_beside_62 ?_
            refine wp_goto 67 dX6_beside_63 (by decide) ?_
            exact wp_iret dX6_beside_67 rfl ⟨_, rfl, rfl, rfl, rfl, h⟩
        · replace h := h.2 hc
          refine wp_iconst (v := (-1)) dX6_beside_42 rfl ?_
          refine wp_goto 47 dX6_beside_43 (by decide) ?_
          refine wp_iadd dX6_beside_47 ?_
          refine wi4_3 dX6_beside_48 ?_
          refine wp_iload_n dX6_beside_49 rfl ?_
          refine wp_iload_n dX6_beside_50 rfl ?_
          refine wq_SI2 lk6_106 dX6_beside_51 h (rmQ_ok (by decide) (by decide)) ⟨Nat.le_refl _, Nat.le_refl _⟩ (Nat.le_of_ble_eq_true rfl) (fun r51' V51' h => ?_)
          refine wp_if_eq 66 dX6_beside_54 (by decide) (fun hc => ?_) (fun hc => ?_)
          · replace h := h.1 hc
            refine wp_iconst (v := (-1)) dX6_beside_66 rfl ?_
            exact wp_iret dX6_beside_67 rfl ⟨_, rfl, rfl, rfl, rfl, h⟩
          · replace h := h.2 hc
            refine wp_bipush (v := 12) dX6_beside_57 rfl ?_
            refine wp_iload_n dX6_beside_59 rfl ?_
            refine wp_imul dX6_beside_60 ?_
            refine wp_iload_n dX6_beside_61 rfl ?_
            refine wp_iadd dX6_beside_62 ?_
            refine wp_goto 67 dX6_beside_63 (by decide) ?_
            exact wp_iret dX6_beside_67 rfl ⟨_, rfl, rfl, rfl, rfl, h⟩
      · replace h := h.2 hc
        refine wp_iconst (v := 1) dX6_beside_34 rfl ?_
        refine wp_goto 47 dX6_beside_35 (by decide) ?_
        refine wp_iadd dX6_beside_47 ?_
        refine wi4_3 dX6_beside_48 ?_
        refine wp_iload_n dX6_beside_49 rfl ?_
        refine wp_iload_n dX6_beside_50 rfl ?_
        refine wq_SI2 lk6_106 dX6_beside_51 h (rmQ_ok (by decide) (by decide)) ⟨Nat.le_refl _, Nat.le_refl _⟩ (Nat.le_of_ble_eq_true rfl) (fun r51'' V51'' h => ?_)
        refine wp_if_eq 66 dX6_beside_54 (by decide) (fun hc => ?_) (fun hc => ?_)
        · replace h := h.1 hc
          refine wp_iconst (v := (-1)) dX6_beside_66 rfl ?_
          exact wp_iret dX6_beside_67 rfl ⟨_, rfl, rfl, rfl, rfl, h⟩
        · replace h := h.2 hc
          refine wp_bipush (v := 12) dX6_beside_57 rfl ?_
          refine wp_iload_n dX6_beside_59 rfl ?_
          refine wp_imul dX6_beside_60 ?_
          refine wp_iload_n dX6_beside_61 rfl ?_
          refine wp_iadd dX6_beside_62 ?_
          refine wp_goto 67 dX6_beside_63 (by decide) ?_
          exact wp_iret dX6_beside_67 rfl ⟨_, rfl, rfl, rfl, rfl, h⟩
    · replace h := h.2 hc
      refine wp_iconst (v := (-1)) dX6_beside_18 rfl ?_
      refine wp_goto 23 dX6_beside_19 (by decide) ?_
      refine wp_iadd dX6_beside_23 ?_
      refine wi4_2 dX6_beside_24 ?_
      refine wp_iload_n dX6_beside_25 rfl ?_
      refine wp_bipush (v := 12) dX6_beside_26 rfl ?_
      refine wp_idiv dX6_beside_28 (by decide) ?_
      refine wp_iload_n dX6_beside_29 rfl ?_
      refine wp_iconst (v := 2) dX6_beside_30 rfl ?_
      refine wp_icmp_ne 38 dX6_beside_31 (by decide) (fun hc => ?_) (fun hc => ?_)
      · replace h := h.1 hc
        refine wp_iload_n dX6_beside_38 rfl ?_
        refine wp_if_ne 46 dX6_beside_39 (by decide) (fun hc => ?_) (fun hc => ?_)
        · replace h := h.1 hc
          refine wp_iconst (v := 0) dX6_beside_46 rfl ?_
          refine wp_iadd dX6_beside_47 ?_
          refine wi4_3 dX6_beside_48 ?_
          refine wp_iload_n dX6_beside_49 rfl ?_
          refine wp_iload_n dX6_beside_50 rfl ?_
          refine wq_SI2 lk6_106 dX6_beside_51 h (rmQ_ok (by decide) (by decide)) ⟨Nat.le_refl _, Nat.le_refl _⟩ (Nat.le_of_ble_eq_true rfl) (fun r51''' V51''' h => ?_)
          refine wp_if_eq 66 dX6_beside_54 (by decide) (fun hc => ?_) (fun hc => ?_)
          · replace h := h.1 hc
            refine wp_iconst (v := (-1)) dX6_beside_66 rfl ?_
            exact wp_iret dX6_beside_67 rfl ⟨_, rfl, rfl, rfl, rfl, h⟩
          · replace h := h.2 hc
            refine wp_bipush (v := 12) dX6_beside_57 rfl ?_
            refine wp_iload_n dX6_beside_59 rfl ?_
            refine wp_imul dX6_beside_60 ?_
            refine wp_iload_n dX6_beside_61 rfl ?_
            refine wp_iadd dX6_beside_62 ?_
            refine wp_goto 67 dX6_beside_63 (by decide) ?_
            exact wp_iret dX6_beside_67 rfl ⟨_, rfl, rfl, rfl, rfl, h⟩
        · replace h := h.2 hc
          refine wp_iconst (v := (-1)) dX6_beside_42 rfl ?_
          refine wp_goto 47 dX6_beside_43 (by decide) ?_
          refine wp_iadd dX6_beside_47 ?_
          refine wi4_3 dX6_beside_48 ?_
          refine wp_iload_n dX6_beside_49 rfl ?_
          refine wp_iload_n dX6_beside_50 rfl ?_
          refine wq_SI2 lk6_106 dX6_beside_51 h (rmQ_ok (by decide) (by decide)) ⟨Nat.le_refl _, Nat.le_refl _⟩ (Nat.le_of_ble_eq_true rfl) (fun r51'''' V51'''' h => ?_)
          refine wp_if_eq 66 dX6_beside_54 (by decide) (fun hc => ?_) (fun hc => ?_)
          · replace h := h.1 hc
            refine wp_iconst (v := (-1)) dX6_beside_66 rfl ?_
            exact wp_iret dX6_beside_67 rfl ⟨_, rfl, rfl, rfl, rfl, h⟩
          · replace h := h.2 hc
            refine wp_bipush (v := 12) dX6_beside_57 rfl ?_
            refine wp_iload_n dX6_beside_59 rfl ?_
            refine wp_imul dX6_beside_60 ?_
            refine wp_iload_n dX6_beside_61 rfl ?_
            refine wp_iadd dX6_beside_62 ?_
            refine wp_goto 67 dX6_beside_63 (by decide) ?_
            exact wp_iret dX6_beside_67 rfl ⟨_, rfl, rfl, rfl, rfl, h⟩
      · replace h := h.2 hc
        refine wp_iconst (v := 1) dX6_beside_34 rfl ?_
        refine wp_goto 47 dX6_beside_35 (by decide) ?_
        refine wp_iadd dX6_beside_47 ?_
        refine wi4_3 dX6_beside_48 ?_
        refine wp_iload_n dX6_beside_49 rfl ?_
        refine wp_iload_n dX6_beside_50 rfl ?_
        refine wq_SI2 lk6_106 dX6_beside_51 h (rmQ_ok (by decide) (by decide)) ⟨Nat.le_refl _, Nat.le_refl _⟩ (Nat.le_of_ble_eq_true rfl) (fun r51''''' V51''''' h => ?_)
        refine wp_if_eq 66 dX6_beside_54 (by decide) (fun hc => ?_) (fun hc => ?_)
        · replace h := h.1 hc
          refine wp_iconst (v := (-1)) dX6_beside_66 rfl ?_
          exact wp_iret dX6_beside_67 rfl ⟨_, rfl, rfl, rfl, rfl, h⟩
        · replace h := h.2 hc
          refine wp_bipush (v := 12) dX6_beside_57 rfl ?_
          refine wp_iload_n dX6_beside_59 rfl ?_
          refine wp_imul dX6_beside_60 ?_
          refine wp_iload_n dX6_beside_61 rfl ?_
          refine wp_iadd dX6_beside_62 ?_
          refine wp_goto 67 dX6_beside_63 (by decide) ?_
          exact wp_iret dX6_beside_67 rfl ⟨_, rfl, rfl, rfl, rfl, h⟩
  · replace h := h.2 hc
    refine wp_iconst (v := 1) dX6_beside_9 rfl ?_
    refine wp_goto 23 dX6_beside_10 (by decide) ?_
    refine wp_iadd dX6_beside_23 ?_
    refine wi4_2 dX6_beside_24 ?_
    refine wp_iload_n dX6_beside_25 rfl ?_
    refine wp_bipush (v := 12) dX6_beside_26 rfl ?_
    refine wp_idiv dX6_beside_28 (by decide) ?_
    refine wp_iload_n dX6_beside_29 rfl ?_
    refine wp_iconst (v := 2) dX6_beside_30 rfl ?_
    refine wp_icmp_ne 38 dX6_beside_31 (by decide) (fun hc => ?_) (fun hc => ?_)
    · replace h := h.1 hc
      refine wp_iload_n dX6_beside_38 rfl ?_
      refine wp_if_ne 46 dX6_beside_39 (by decide) (fun hc => ?_) (fun hc => ?_)
      · replace h := h.1 hc
        refine wp_iconst (v := 0) dX6_beside_46 rfl ?_
        refine wp_iadd dX6_beside_47 ?_
        refine wi4_3 dX6_beside_48 ?_
        refine wp_iload_n dX6_beside_49 rfl ?_
        refine wp_iload_n dX6_beside_50 rfl ?_
        refine wq_SI2 lk6_106 dX6_beside_51 h (rmQ_ok (by decide) (by decide)) ⟨Nat.le_refl _, Nat.le_refl _⟩ (Nat.le_of_ble_eq_true rfl) (fun r51'''''' V51'''''' h => ?_)
        refine wp_if_eq 66 dX6_beside_54 (by decide) (fun hc => ?_) (fun hc => ?_)
        · replace h := h.1 hc
          refine wp_iconst (v := (-1)) dX6_beside_66 rfl ?_
          exact wp_iret dX6_beside_67 rfl ⟨_, rfl, rfl, rfl, rfl, h⟩
        · replace h := h.2 hc
          refine wp_bipush (v := 12) dX6_beside_57 rfl ?_
          refine wp_iload_n dX6_beside_59 rfl ?_
          refine wp_imul dX6_beside_60 ?_
          refine wp_iload_n dX6_beside_61 rfl ?_
          refine wp_iadd dX6_beside_62 ?_
          refine wp_goto 67 dX6_beside_63 (by decide) ?_
          exact wp_iret dX6_beside_67 rfl ⟨_, rfl, rfl, rfl, rfl, h⟩
      · replace h := h.2 hc
        refine wp_iconst (v := (-1)) dX6_beside_42 rfl ?_
        refine wp_goto 47 dX6_beside_43 (by decide) ?_
        refine wp_iadd dX6_beside_47 ?_
        refine wi4_3 dX6_beside_48 ?_
        refine wp_iload_n dX6_beside_49 rfl ?_
        refine wp_iload_n dX6_beside_50 rfl ?_
        refine wq_SI2 lk6_106 dX6_beside_51 h (rmQ_ok (by decide) (by decide)) ⟨Nat.le_refl _, Nat.le_refl _⟩ (Nat.le_of_ble_eq_true rfl) (fun r51''''''' V51''''''' h => ?_)
        refine wp_if_eq 66 dX6_beside_54 (by decide) (fun hc => ?_) (fun hc => ?_)
        · replace h := h.1 hc
          refine wp_iconst (v := (-1)) dX6_beside_66 rfl ?_
          exact wp_iret dX6_beside_67 rfl ⟨_, rfl, rfl, rfl, rfl, h⟩
        · replace h := h.2 hc
          refine wp_bipush (v := 12) dX6_beside_57 rfl ?_
          refine wp_iload_n dX6_beside_59 rfl ?_
          refine wp_imul dX6_beside_60 ?_
          refine wp_iload_n dX6_beside_61 rfl ?_
          refine wp_iadd dX6_beside_62 ?_
          refine wp_goto 67 dX6_beside_63 (by decide) ?_
          exact wp_iret dX6_beside_67 rfl ⟨_, rfl, rfl, rfl, rfl, h⟩
    · replace h := h.2 hc
      refine wp_iconst (v := 1) dX6_beside_34 rfl ?_
      refine wp_goto 47 dX6_beside_35 (by decide) ?_
      refine wp_iadd dX6_beside_47 ?_
      refine wi4_3 dX6_beside_48 ?_
      refine wp_iload_n dX6_beside_49 rfl ?_
      refine wp_iload_n dX6_beside_50 rfl ?_
      refine wq_SI2 lk6_106 dX6_beside_51 h (rmQ_ok (by decide) (by decide)) ⟨Nat.le_refl _, Nat.le_refl _⟩ (Nat.le_of_ble_eq_true rfl) (fun r51'''''''' V51'''''''' h => ?_)
      refine wp_if_eq 66 dX6_beside_54 (by decide) (fun hc => ?_) (fun hc => ?_)
      · replace h := h.1 hc
        refine wp_iconst (v := (-1)) dX6_beside_66 rfl ?_
        exact wp_iret dX6_beside_67 rfl ⟨_, rfl, rfl, rfl, rfl, h⟩
      · replace h := h.2 hc
        refine wp_bipush (v := 12) dX6_beside_57 rfl ?_
        refine wp_iload_n dX6_beside_59 rfl ?_
        refine wp_imul dX6_beside_60 ?_
        refine wp_iload_n dX6_beside_61 rfl ?_
        refine wp_iadd dX6_beside_62 ?_
        refine wp_goto 67 dX6_beside_63 (by decide) ?_
        exact wp_iret dX6_beside_67 rfl ⟨_, rfl, rfl, rfl, rfl, h⟩
theorem n6_beside {E : eT} {Q : Int32 → vT → Prop} {V : vT} {x1 x2 : Int32} (h : w6_beside E Q 0 [some (vi x1), some (vi x2), none, none] [] V) : c6_beside E x1 x2 V Q := MOk.enter [some (vi x1), some (vi x2), none, none] pn_6 rfl rfl (Nat.le_of_ble_eq_true rfl) rfl h
theorem b6_isSpot_0 {E : eT} {Q : Int32 → vT → Prop} {V : vT} {x1 x2 : Int32} (hT : TW E) (h : c6_in E x1 0 11 V (fun r4 V4 => (r4 = 0 → Q 0 V4) ∧ (¬ r4 = 0 → c6_in E x2 0 7 V4 (fun r14 V14 => (r14 = 0 → Q 0 V14) ∧ (¬ r14 = 0 → Q 1 V14))))) : w6_isSpot E Q 0 [some (vi x1), some (vi x2)] [] V := by
  refine wp_iload_n dX6_isSpot_0 rfl ?_
  refine wp_iconst (v := 0) dX6_isSpot_1 rfl ?_
  refine wp_bipush (v := 11) dX6_isSpot_2 rfl ?_
  refine wq_SI3 lk6_102 dX6_isSpot_4 h (rmQ_ok (by decide) (by decide)) ⟨Nat.le_refl _, Nat.le_refl _⟩ (Nat.le_of_ble_eq_true rfl) (fun r4 V4 h => ?_)
  refine wp_if_eq 24 dX6_isSpot_7 (by decide) (fun hc => ?_) (fun hc => ?_)
  · replace h := h.1 hc
    refine wp_iconst (v := 0) dX6_isSpot_24 rfl ?_
    exact wp_iret dX6_isSpot_25 rfl ⟨_, rfl, rfl, rfl, rfl, h⟩
  · replace h := h.2 hc
    refine wp_iload_n dX6_isSpot_10 rfl ?_
    refine wp_iconst (v := 0) dX6_isSpot_11 rfl ?_
    refine wp_bipush (v := 7) dX6_isSpot_12 rfl ?_
    refine wq_SI3 lk6_102 dX6_isSpot_14 h (rmQ_ok (by decide) (by decide)) ⟨Nat.le_refl _, Nat.le_refl _⟩ (Nat.le_of_ble_eq_true rfl) (fun r14 V14 h => ?_)
    refine wp_if_eq 24 dX6_isSpot_17 (by decide) (fun hc => ?_) (fun hc => ?_)
    · replace h := h.1 hc
      refine wp_iconst (v := 0) dX6_isSpot_24 rfl ?_
      exact wp_iret dX6_isSpot_25 rfl ⟨_, rfl, rfl, rfl, rfl, h⟩
    · replace h := h.2 hc
      refine wp_iconst (v := 1) dX6_isSpot_20 rfl ?_
      refine wp_goto 25 dX6_isSpot_21 (by decide) ?_
      exact wp_iret dX6_isSpot_25 rfl ⟨_, rfl, rfl, rfl, rfl, h⟩
theorem n6_isSpot {E : eT} {Q : Int32 → vT → Prop} {V : vT} {x1 x2 : Int32} (h : w6_isSpot E Q 0 [some (vi x1), some (vi x2)] [] V) : c6_isSpot E x1 x2 V Q := MOk.enter [some (vi x1), some (vi x2)] pn_6 rfl rfl (Nat.le_of_ble_eq_true rfl) rfl h
theorem b6_feels_0 {E : eT} {Q : vT → Prop} {V : vT} {x1 x2 x3 x4 : Int32} (hT : TW E) (h : c6_burnNextTo E x1 (up2 (up2 V 233 0 x1) 233 1 x2) (fun r21 V21 => c6_valuesAt E x1 (up2 V21 233 2 r21) (fun r32 V32 => c6_sumsAt E x1 (up2 V32 233 3 r32) (fun r43 V43 => Q (up2 (up2 (up2 (up2 (up2 V43 233 4 r43) 233 5 x3) 233 6 ((up2 (up2 V43 233 4 r43) 233 5 x3) 215 312)) 233 7 (rmd ((up2 (up2 (up2 V43 233 4 r43) 233 5 x3) 233 6 ((up2 (up2 V43 233 4 r43) 233 5 x3) 215 312)) 215 313) 100)) 233 8 x4))))) : w6_feels E Q 0 [some (vr 214), some (vi x1), some (vi x2), some (vi x3), some (vi x4)] [] V := by
  refine wp_aload_n dX6_feels_0 rfl ?_
  refine wp_getrs dX6_feels_1 fk6_65 (tb_214 hT) (tk_214 hT) rfl (tr_28 hT) ?_
  refine wp_iconst (v := 0) dX6_feels_4 rfl ?_
  refine wp_iload_n dX6_feels_5 rfl ?_
  refine wp_iast_k 0 dX6_feels_6 (tb_233 hT) (tk_233 hT) rfl (by decide) (by decide) ?_
  refine wp_aload_n dX6_feels_7 rfl ?_
  refine wp_getrs dX6_feels_8 fk6_65 (tb_214 hT) (tk_214 hT) rfl (tr_28 hT) ?_
  refine wp_iconst (v := 1) dX6_feels_11 rfl ?_
  refine wp_iload_n dX6_feels_12 rfl ?_
  refine wp_iast_k 1 dX6_feels_13 (tb_233 hT) (tk_233 hT) rfl (by decide) (by decide) ?_
  refine wp_aload_n dX6_feels_14 rfl ?_
  refine wp_getrs dX6_feels_15 fk6_65 (tb_214 hT) (tk_214 hT) rfl (tr_28 hT) ?_
  refine wp_iconst (v := 2) dX6_feels_18 rfl ?_
  refine wp_aload_n dX6_feels_19 rfl ?_
  refine wp_iload_n dX6_feels_20 rfl ?_
  refine wq_VI1 lk6_284 rfl (tb_214 hT) (tk_214 hT) dX6_feels_21 h (rmQ_ok (by decide) (by decide)) ⟨Nat.le_refl _, Nat.le_refl _⟩ (Nat.le_of_ble_eq_true rfl) (fun r21 V21 h => ?_)
  refine wp_iast_k 2 dX6_feels_24 (tb_233 hT) (tk_233 hT) rfl (by decide) (by decide) ?_
  refine wp_aload_n dX6_feels_25 rfl ?_
  refine wp_getrs dX6_feels_26 fk6_65 (tb_214 hT) (tk_214 hT) rfl (tr_28 hT) ?_
  refine wp_iconst (v := 3) dX6_feels_29 rfl ?_
  refine wp_aload_n dX6_feels_30 rfl ?_
  refine wp_iload_n dX6_feels_31 rfl ?_
  refine wq_VI1 lk6_287 rfl (tb_214 hT) (tk_214 hT) dX6_feels_32 h (rmQ_ok (by decide) (by decide)) ⟨Nat.le_refl _, Nat.le_refl _⟩ (Nat.le_of_ble_eq_true rfl) (fun r32 V32 h => ?_)
  refine wp_iast_k 3 dX6_feels_35 (tb_233 hT) (tk_233 hT) rfl (by decide) (by decide) ?_
  refine wp_aload_n dX6_feels_36 rfl ?_
  refine wp_getrs dX6_feels_37 fk6_65 (tb_214 hT) (tk_214 hT) rfl (tr_28 hT) ?_
  refine wp_iconst (v := 4) dX6_feels_40 rfl ?_
  refine wp_aload_n dX6_feels_41 rfl ?_
  refine wp_iload_n dX6_feels_42 rfl ?_
  refine wq_VI1 lk6_290 rfl (tb_214 hT) (tk_214 hT) dX6_feels_43 h (rmQ_ok (by decide) (by decide)) ⟨Nat.le_refl _, Nat.le_refl _⟩ (Nat.le_of_ble_eq_true rfl) (fun r43 V43 h => ?_)
  refine wp_iast_k 4 dX6_feels_46 (tb_233 hT) (tk_233 hT) rfl (by decide) (by decide) ?_
  refine wp_aload_n dX6_feels_47 rfl ?_
  refine wp_getrs dX6_feels_48 fk6_65 (tb_214 hT) (tk_214 hT) rfl (tr_28 hT) ?_
  refine wp_iconst (v := 5) dX6_feels_51 rfl ?_
  refine wp_iload_n dX6_feels_52 rfl ?_
  refine wp_iast_k 5 dX6_feels_53 (tb_233 hT) (tk_233 hT) rfl (by decide) (by decide) ?_
  refine wp_aload_n dX6_feels_54 rfl ?_
  refine wp_getrs dX6_feels_55 fk6_65 (tb_214 hT) (tk_214 hT) rfl (tr_28 hT) ?_
  refine wp_bipush (v := 6) dX6_feels_58 rfl ?_
  refine wp_aload_n dX6_feels_60 rfl ?_
  refine wp_getrs dX6_feels_61 fk6_7 (tb_214 hT) (tk_214 hT) rfl (tr_0 hT) ?_
  refine wp_sipush (v := 312) dX6_feels_64 rfl ?_
  refine wp_iald_k 312 dX6_feels_67 (tb_215 hT).2 (tk_215 hT) rfl (by decide) (by decide) ?_
  refine wp_iast_k 6 dX6_feels_68 (tb_233 hT) (tk_233 hT) rfl (by decide) (by decide) ?_
  refine wp_aload_n dX6_feels_69 rfl ?_
  refine wp_getrs dX6_feels_70 fk6_65 (tb_214 hT) (tk_214 hT) rfl (tr_28 hT) ?_
  refine wp_bipush (v := 7) dX6_feels_73 rfl ?_
  refine wp_aload_n dX6_feels_75 rfl ?_
  refine wp_getrs dX6_feels_76 fk6_7 (tb_214 hT) (tk_214 hT) rfl (tr_0 hT) ?_
  refine wp_sipush (v := 313) dX6_feels_79 rfl ?_
  refine wp_iald_k 313 dX6_feels_82 (tb_215 hT).2 (tk_215 hT) rfl (by decide) (by decide) ?_
  refine wp_bipush (v := 100) dX6_feels_83 rfl ?_
  refine wp_irm dX6_feels_85 (by decide) ?_
  refine wp_iast_k 7 dX6_feels_86 (tb_233 hT) (tk_233 hT) rfl (by decide) (by decide) ?_
  refine wp_aload_n dX6_feels_87 rfl ?_
  refine wp_getrs dX6_feels_88 fk6_65 (tb_214 hT) (tk_214 hT) rfl (tr_28 hT) ?_
  refine wp_bipush (v := 8) dX6_feels_91 rfl ?_
  refine wp_iload dX6_feels_93 rfl ?_
  refine wp_iast_k 8 dX6_feels_95 (tb_233 hT) (tk_233 hT) rfl (by decide) (by decide) ?_
  exact wp_vret dX6_feels_96 ⟨rfl, rfl, rfl, rfl, h⟩
theorem n6_feels {E : eT} {Q : vT → Prop} {V : vT} {x1 x2 x3 x4 : Int32} (h : w6_feels E Q 0 [some (vr 214), some (vi x1), some (vi x2), some (vi x3), some (vi x4)] [] V) : c6_feels E x1 x2 x3 x4 V Q := MOk.enter [some (vr 214), some (vi x1), some (vi x2), some (vi x3), some (vi x4)] pn_6 rfl rfl (Nat.le_of_ble_eq_true rfl) rfl h
theorem b6_burnNextTo_0 {E : eT} {Q : Int32 → vT → Prop} {V : vT} {x1 : Int32} (hT : TW E) (h : w6_burnNextTo E Q 4 [some (vr 214), some (vi x1), some (vi 0), some (vi 0)] [] V) : w6_burnNextTo E Q 0 [some (vr 214), some (vi x1), none, none] [] V := by
  refine wp_iconst (v := 0) dX6_burnNextTo_0 rfl ?_
  refine wi4_2 dX6_burnNextTo_1 ?_
  refine wp_iconst (v := 0) dX6_burnNextTo_2 rfl ?_
  refine wi4_3 dX6_burnNextTo_3 ?_
  exact h
theorem b6_burnNextTo_4 {E : eT} {Q : Int32 → vT → Prop} {V : vT} {x1 x2 x3 : Int32} (hT : TW E) (h : (4 ≤ x3 → Q x2 V) ∧ (x3 < 4 → c6_beside E x1 x3 V (fun r11 V11 => (r11 = (-1) → w6_burnNextTo E Q 4 [some (vr 214), some (vi x1), some (vi x2), some (vi (x3 + 1))] [] V11) ∧ (¬ r11 = (-1) → c6_beside E x1 x3 V11 (fun r25 V25 => vp_in (0 + r25) 315 ∧ ((¬ (V25 215 ((0 + r25).toNatClampNeg)) = 1 → w6_burnNextTo E Q 4 [some (vr 214), some (vi x1), some (vi x2), some (vi (x3 + 1))] [] V25) ∧ ((V25 215 ((0 + r25).toNatClampNeg)) = 1 → w6_burnNextTo E Q 4 [some (vr 214), some (vi x1), some (vi (x2 + 1)), some (vi (x3 + 1))] [] V25))))))) : w6_burnNextTo E Q 4 [some (vr 214), some (vi x1), some (vi x2), some (vi x3)] [] V := by
  refine wp_iload_n dX6_burnNextTo_4 rfl ?_
  refine wp_iconst (v := 4) dX6_burnNextTo_5 rfl ?_
  refine wp_icmp_ge 44 dX6_burnNextTo_6 (by decide) (fun hc => ?_) (fun hc => ?_)
  · replace h := h.1 hc
    refine wp_iload_n dX6_burnNextTo_44 rfl ?_
    exact wp_iret dX6_burnNextTo_45 rfl ⟨_, rfl, rfl, rfl, rfl, h⟩
  · replace h := h.2 (Int32.not_le.mp hc)
    refine wp_iload_n dX6_burnNextTo_9 rfl ?_
    refine wp_iload_n dX6_burnNextTo_10 rfl ?_
    refine wq_SI2 lk6_281 dX6_burnNextTo_11 h (rmQ_ok (by decide) (by decide)) ⟨Nat.le_refl _, Nat.le_refl _⟩ (Nat.le_of_ble_eq_true rfl) (fun r11 V11 h => ?_)
    refine wp_iconst (v := (-1)) dX6_burnNextTo_14 rfl ?_
    refine wp_icmp_eq 38 dX6_burnNextTo_15 (by decide) (fun hc => ?_) (fun hc => ?_)
    · replace h := h.1 hc
      refine wc4_3 1 dX6_burnNextTo_38 rfl ?_
      refine wp_goto 4 dX6_burnNextTo_41 (by decide) ?_
      exact h
    · replace h := h.2 hc
      refine wp_aload_n dX6_burnNextTo_18 rfl ?_
      refine wp_getrs dX6_burnNextTo_19 fk6_7 (tb_214 hT) (tk_214 hT) rfl (tr_0 hT) ?_
      refine wp_iconst (v := 0) dX6_burnNextTo_22 rfl ?_
      refine wp_iload_n dX6_burnNextTo_23 rfl ?_
      refine wp_iload_n dX6_burnNextTo_24 rfl ?_
      refine wq_SI2 lk6_281 dX6_burnNextTo_25 h (rmQ_ok (by decide) (by decide)) ⟨Nat.le_refl _, Nat.le_refl _⟩ (Nat.le_of_ble_eq_true rfl) (fun r25 V25 h => ?_)
      refine wp_iadd dX6_burnNextTo_28 ?_
      refine wp_iald dX6_burnNextTo_29 (tb_215 hT).2 (tk_215 hT) h.1 ?_
      replace h := h.2
      refine wp_iconst (v := 1) dX6_burnNextTo_30 rfl ?_
      refine wp_icmp_ne 38 dX6_burnNextTo_31 (by decide) (fun hc => ?_) (fun hc => ?_)
      · replace h := h.1 hc
        refine wc4_3 1 dX6_burnNextTo_38 rfl ?_
        refine wp_goto 4 dX6_burnNextTo_41 (by decide) ?_
        exact h
      · replace h := h.2 hc
        refine wp_iload_n dX6_burnNextTo_34 rfl ?_
        refine wp_iconst (v := 1) dX6_burnNextTo_35 rfl ?_
        refine wp_iadd dX6_burnNextTo_36 ?_
        refine wi4_2 dX6_burnNextTo_37 ?_
        refine wc4_3 1 dX6_burnNextTo_38 rfl ?_
        refine wp_goto 4 dX6_burnNextTo_41 (by decide) ?_
        exact h
theorem n6_burnNextTo {E : eT} {Q : Int32 → vT → Prop} {V : vT} {x1 : Int32} (h : w6_burnNextTo E Q 0 [some (vr 214), some (vi x1), none, none] [] V) : c6_burnNextTo E x1 V Q := MOk.enter [some (vr 214), some (vi x1), none, none] pn_6 rfl rfl (Nat.le_of_ble_eq_true rfl) rfl h
theorem b6_valuesAt_0 {E : eT} {Q : Int32 → vT → Prop} {V : vT} {x1 : Int32} (hT : TW E) (h : w6_valuesAt E Q 4 [some (vr 214), some (vi x1), some (vi 0), some (vi 0)] [] V) : w6_valuesAt E Q 0 [some (vr 214), some (vi x1), none, none] [] V := by
  refine wp_iconst (v := 0) dX6_valuesAt_0 rfl ?_
  refine wi4_2 dX6_valuesAt_1 ?_
  refine wp_iconst (v := 0) dX6_valuesAt_2 rfl ?_
  refine wi4_3 dX6_valuesAt_3 ?_
  exact h
theorem b6_valuesAt_4 {E : eT} {Q : Int32 → vT → Prop} {V : vT} {x1 x2 x3 : Int32} (hT : TW E) (h : (24 ≤ x3 → Q x2 V) ∧ (x3 < 24 → c6_liesAt E x3 x1 V (fun r13 V13 => (r13 = 0 → w6_valuesAt E Q 4 [some (vr 214), some (vi x1), some (vi x2), some (vi (x3 + 1))] [] V13) ∧ (¬ r13 = 0 → vp_in (264 + x3) 315 ∧ ((¬ (V13 215 ((264 + x3).toNatClampNeg)) = 0 → w6_valuesAt E Q 4 [some (vr 214), some (vi x1), some (vi x2), some (vi (x3 + 1))] [] V13) ∧ ((V13 215 ((264 + x3).toNatClampNeg)) = 0 → vp_in (240 + x3) 315 ∧ (w6_valuesAt E Q 4 [some (vr 214), some (vi x1), some (vi (x2 + (V13 215 ((240 + x3).toNatClampNeg)))), some (vi (x3 + 1))] [] V13))))))) : w6_valuesAt E Q 4 [some (vr 214), some (vi x1), some (vi x2), some (vi x3)] [] V := by
  refine wp_iload_n dX6_valuesAt_4 rfl ?_
  refine wp_bipush (v := 24) dX6_valuesAt_5 rfl ?_
  refine wp_icmp_ge 51 dX6_valuesAt_7 (by decide) (fun hc => ?_) (fun hc => ?_)
  · replace h := h.1 hc
    refine wp_iload_n dX6_valuesAt_51 rfl ?_
    exact wp_iret dX6_valuesAt_52 rfl ⟨_, rfl, rfl, rfl, rfl, h⟩
  · replace h := h.2 (Int32.not_le.mp hc)
    refine wp_aload_n dX6_valuesAt_10 rfl ?_
    refine wp_iload_n dX6_valuesAt_11 rfl ?_
    refine wp_iload_n dX6_valuesAt_12 rfl ?_
    refine wq_VI2 lk6_278 rfl (tb_214 hT) (tk_214 hT) dX6_valuesAt_13 h (rmQ_ok (by decide) (by decide)) ⟨Nat.le_refl _, Nat.le_refl _⟩ (Nat.le_of_ble_eq_true rfl) (fun r13 V13 h => ?_)
    refine wp_if_eq 45 dX6_valuesAt_16 (by decide) (fun hc => ?_) (fun hc => ?_)
    · replace h := h.1 hc
      refine wc4_3 1 dX6_valuesAt_45 rfl ?_
      refine wp_goto 4 dX6_valuesAt_48 (by decide) ?_
      exact h
    · replace h := h.2 hc
      refine wp_aload_n dX6_valuesAt_19 rfl ?_
      refine wp_getrs dX6_valuesAt_20 fk6_7 (tb_214 hT) (tk_214 hT) rfl (tr_0 hT) ?_
      refine wp_sipush (v := 264) dX6_valuesAt_23 rfl ?_
      refine wp_iload_n dX6_valuesAt_26 rfl ?_
      refine wp_iadd dX6_valuesAt_27 ?_
      refine wp_iald dX6_valuesAt_28 (tb_215 hT).2 (tk_215 hT) h.1 ?_
      replace h := h.2
      refine wp_if_ne 45 dX6_valuesAt_29 (by decide) (fun hc => ?_) (fun hc => ?_)
      · replace h := h.1 hc
        refine wc4_3 1 dX6_valuesAt_45 rfl ?_
        refine wp_goto 4 dX6_valuesAt_48 (by decide) ?_
        exact h
      · replace h := h.2 hc
        refine wp_iload_n dX6_valuesAt_32 rfl ?_
        refine wp_aload_n dX6_valuesAt_33 rfl ?_
        refine wp_getrs dX6_valuesAt_34 fk6_7 (tb_214 hT) (tk_214 hT) rfl (tr_0 hT) ?_
        refine wp_sipush (v := 240) dX6_valuesAt_37 rfl ?_
        refine wp_iload_n dX6_valuesAt_40 rfl ?_
        refine wp_iadd dX6_valuesAt_41 ?_
        refine wp_iald dX6_valuesAt_42 (tb_215 hT).2 (tk_215 hT) h.1 ?_
        replace h := h.2
        refine wp_iadd dX6_valuesAt_43 ?_
        refine wi4_2 dX6_valuesAt_44 ?_
        refine wc4_3 1 dX6_valuesAt_45 rfl ?_
        refine wp_goto 4 dX6_valuesAt_48 (by decide) ?_
        exact h
theorem n6_valuesAt {E : eT} {Q : Int32 → vT → Prop} {V : vT} {x1 : Int32} (h : w6_valuesAt E Q 0 [some (vr 214), some (vi x1), none, none] [] V) : c6_valuesAt E x1 V Q := MOk.enter [some (vr 214), some (vi x1), none, none] pn_6 rfl rfl (Nat.le_of_ble_eq_true rfl) rfl h
theorem b6_sumsAt_0 {E : eT} {Q : Int32 → vT → Prop} {V : vT} {x1 : Int32} (hT : TW E) (h : w6_sumsAt E Q 4 [some (vr 214), some (vi x1), some (vi 0), some (vi 0)] [] V) : w6_sumsAt E Q 0 [some (vr 214), some (vi x1), none, none] [] V := by
  refine wp_iconst (v := 0) dX6_sumsAt_0 rfl ?_
  refine wi4_2 dX6_sumsAt_1 ?_
  refine wp_iconst (v := 0) dX6_sumsAt_2 rfl ?_
  refine wi4_3 dX6_sumsAt_3 ?_
  exact h
theorem b6_sumsAt_4 {E : eT} {Q : Int32 → vT → Prop} {V : vT} {x1 x2 x3 : Int32} (hT : TW E) (h : (24 ≤ x3 → Q x2 V) ∧ (x3 < 24 → c6_liesAt E x3 x1 V (fun r13 V13 => (r13 = 0 → w6_sumsAt E Q 4 [some (vr 214), some (vi x1), some (vi x2), some (vi (x3 + 1))] [] V13) ∧ (¬ r13 = 0 → vp_in (264 + x3) 315 ∧ (w6_sumsAt E Q 4 [some (vr 214), some (vi x1), some (vi (x2 + (V13 215 ((264 + x3).toNatClampNeg)))), some (vi (x3 + 1))] [] V13))))) : w6_sumsAt E Q 4 [some (vr 214), some (vi x1), some (vi x2), some (vi x3)] [] V := by
  refine wp_iload_n dX6_sumsAt_4 rfl ?_
  refine wp_bipush (v := 24) dX6_sumsAt_5 rfl ?_
  refine wp_icmp_ge 38 dX6_sumsAt_7 (by decide) (fun hc => ?_) (fun hc => ?_)
  · replace h := h.1 hc
    refine wp_iload_n dX6_sumsAt_38 rfl ?_
    exact wp_iret dX6_sumsAt_39 rfl ⟨_, rfl, rfl, rfl, rfl, h⟩
  · replace h := h.2 (Int32.not_le.mp hc)
    refine wp_aload_n dX6_sumsAt_10 rfl ?_
    refine wp_iload_n dX6_sumsAt_11 rfl ?_
    refine wp_iload_n dX6_sumsAt_12 rfl ?_
    refine wq_VI2 lk6_278 rfl (tb_214 hT) (tk_214 hT) dX6_sumsAt_13 h (rmQ_ok (by decide) (by decide)) ⟨Nat.le_refl _, Nat.le_refl _⟩ (Nat.le_of_ble_eq_true rfl) (fun r13 V13 h => ?_)
    refine wp_if_eq 32 dX6_sumsAt_16 (by decide) (fun hc => ?_) (fun hc => ?_)
    · replace h := h.1 hc
      refine wc4_3 1 dX6_sumsAt_32 rfl ?_
      refine wp_goto 4 dX6_sumsAt_35 (by decide) ?_
      exact h
    · replace h := h.2 hc
      refine wp_iload_n dX6_sumsAt_19 rfl ?_
      refine wp_aload_n dX6_sumsAt_20 rfl ?_
      refine wp_getrs dX6_sumsAt_21 fk6_7 (tb_214 hT) (tk_214 hT) rfl (tr_0 hT) ?_
      refine wp_sipush (v := 264) dX6_sumsAt_24 rfl ?_
      refine wp_iload_n dX6_sumsAt_27 rfl ?_
      refine wp_iadd dX6_sumsAt_28 ?_
      refine wp_iald dX6_sumsAt_29 (tb_215 hT).2 (tk_215 hT) h.1 ?_
      replace h := h.2
      refine wp_iadd dX6_sumsAt_30 ?_
      refine wi4_2 dX6_sumsAt_31 ?_
      refine wc4_3 1 dX6_sumsAt_32 rfl ?_
      refine wp_goto 4 dX6_sumsAt_35 (by decide) ?_
      exact h
theorem n6_sumsAt {E : eT} {Q : Int32 → vT → Prop} {V : vT} {x1 : Int32} (h : w6_sumsAt E Q 0 [some (vr 214), some (vi x1), none, none] [] V) : c6_sumsAt E x1 V Q := MOk.enter [some (vr 214), some (vi x1), none, none] pn_6 rfl rfl (Nat.le_of_ble_eq_true rfl) rfl h
theorem b6_byLaw_0 {E : eT} {Q : Int32 → vT → Prop} {V : vT} {x1 x2 x3 : Int32} (hT : TW E) (h : w6_byLaw E Q 3 [some (vr 214), some (vi x1), some (vi x2), some (vi x3), some (vi 0), none] [] V) : w6_byLaw E Q 0 [some (vr 214), some (vi x1), some (vi x2), some (vi x3), none, none] [] V := by
  refine wp_iconst (v := 0) dX6_byLaw_0 rfl ?_
  refine wi6_4 dX6_byLaw_1 ?_
  exact h
theorem b6_byLaw_3 {E : eT} {Q : Int32 → vT → Prop} {V : vT} {x1 x2 x3 x4 : Int32} (hT : TW E) (h : ((V 214 15) ≤ x4 → Q x2 V) ∧ (x4 < (V 214 15) → vp_in x4 16 ∧ ((¬ (V 228 ((x4).toNatClampNeg)) = x1 → w6_byLaw E Q 3 [some (vr 214), some (vi x1), some (vi x2), some (vi x3), some (vi (x4 + 1)), none] [] V) ∧ ((V 228 ((x4).toNatClampNeg)) = x1 → vp_in x4 16 ∧ (vp_in x4 16 ∧ (c6_reckonsTo E (V 230 ((x4).toNatClampNeg)) (V 231 ((x4).toNatClampNeg)) V (fun r38 V38 => (r38 = 1 → vp_in x4 16 ∧ (vp_in x4 16 ∧ (c6_reckonsTo E (V38 229 ((x4).toNatClampNeg)) (V38 230 ((x4).toNatClampNeg)) V38 (fun r63 V63 => (x2 ≤ r63 → (r63 ≤ x3 → Q r63 V63) ∧ (x3 < r63 → Q x3 V63)) ∧ (r63 < x2 → Q x2 V63))))) ∧ (¬ r38 = 1 → w6_byLaw E Q 3 [some (vr 214), some (vi x1), some (vi x2), some (vi x3), some (vi (x4 + 1)), none] [] V38)))))))) : w6_byLaw E Q 3 [some (vr 214), some (vi x1), some (vi x2), some (vi x3), some (vi x4), none] [] V := by
  refine wp_iload dX6_byLaw_3 rfl ?_
  refine wp_aload_n dX6_byLaw_5 rfl ?_
  refine wp_geti dX6_byLaw_6 fk6_218 (tb_214 hT) (tk_214 hT) rfl ?_
  refine wp_icmp_ge 97 dX6_byLaw_9 (by decide) (fun hc => ?_) (fun hc => ?_)
  · replace h := h.1 hc
    refine wp_iload_n dX6_byLaw_97 rfl ?_
    exact wp_iret dX6_byLaw_98 rfl ⟨_, rfl, rfl, rfl, rfl, h⟩
  · replace h := h.2 (Int32.not_le.mp hc)
    refine wp_aload_n dX6_byLaw_12 rfl ?_
    refine wp_getrs dX6_byLaw_13 fk6_50 (tb_214 hT) (tk_214 hT) rfl (tr_23 hT) ?_
    refine wp_iload dX6_byLaw_16 rfl ?_
    refine wp_iald dX6_byLaw_18 (tb_228 hT).2 (tk_228 hT) h.1 ?_
    replace h := h.2
    refine wp_iload_n dX6_byLaw_19 rfl ?_
    refine wp_icmp_ne 91 dX6_byLaw_20 (by decide) (fun hc => ?_) (fun hc => ?_)
    · replace h := h.1 hc
      refine wc6_4 1 dX6_byLaw_91 rfl ?_
      refine wp_goto 3 dX6_byLaw_94 (by decide) ?_
      exact h
    · replace h := h.2 hc
      refine wp_aload_n dX6_byLaw_23 rfl ?_
      refine wp_aload_n dX6_byLaw_24 rfl ?_
      refine wp_getrs dX6_byLaw_25 fk6_56 (tb_214 hT) (tk_214 hT) rfl (tr_25 hT) ?_
      refine wp_iload dX6_byLaw_28 rfl ?_
      refine wp_iald dX6_byLaw_30 (tb_230 hT).2 (tk_230 hT) h.1 ?_
      replace h := h.2
      refine wp_aload_n dX6_byLaw_31 rfl ?_
      refine wp_getrs dX6_byLaw_32 fk6_59 (tb_214 hT) (tk_214 hT) rfl (tr_26 hT) ?_
      refine wp_iload dX6_byLaw_35 rfl ?_
      refine wp_iald dX6_byLaw_37 (tb_231 hT).2 (tk_231 hT) h.1 ?_
      replace h := h.2
      refine wq_VI2 lk6_225 rfl (tb_214 hT) (tk_214 hT) dX6_byLaw_38 h (rmQ_ok (by decide) (by decide)) ⟨Nat.le_refl _, Nat.le_refl _⟩ (Nat.le_of_ble_eq_true rfl) (fun r38 V38 h => ?_)
      refine wp_iconst (v := 1) dX6_byLaw_41 rfl ?_
      refine wp_icmp_eq 48 dX6_byLaw_42 (by decide) (fun hc => ?_) (fun hc => ?_)
      · replace h := h.1 hc
        refine wp_aload_n dX6_byLaw_48 rfl ?_
        refine wp_aload_n dX6_byLaw_49 rfl ?_
        refine wp_getrs dX6_byLaw_50 fk6_53 (tb_214 hT) (tk_214 hT) rfl (tr_24 hT) ?_
        refine wp_iload dX6_byLaw_53 rfl ?_
        refine wp_iald dX6_byLaw_55 (tb_229 hT).2 (tk_229 hT) h.1 ?_
        replace h := h.2
        refine wp_aload_n dX6_byLaw_56 rfl ?_
        refine wp_getrs dX6_byLaw_57 fk6_56 (tb_214 hT) (tk_214 hT) rfl (tr_25 hT) ?_
        refine wp_iload dX6_byLaw_60 rfl ?_
        refine wp_iald dX6_byLaw_62 (tb_230 hT).2 (tk_230 hT) h.1 ?_
        replace h := h.2
        refine wq_VI2 lk6_225 rfl (tb_214 hT) (tk_214 hT) dX6_byLaw_63 h (rmQ_ok (by decide) (by decide)) ⟨Nat.le_refl _, Nat.le_refl _⟩ (Nat.le_of_ble_eq_true rfl) (fun r63 V63 h => ?_)
        refine wi6_5 dX6_byLaw_66 ?_
        refine wp_iload dX6_byLaw_68 rfl ?_
        refine wp_iload_n dX6_byLaw_70 rfl ?_
        refine wp_icmp_ge 78 dX6_byLaw_71 (by decide) (fun hc => ?_) (fun hc => ?_)
        · replace h := h.1 hc
          refine wp_iload dX6_byLaw_78 rfl ?_
          refine wp_iload_n dX6_byLaw_80 rfl ?_
          refine wp_icmp_le 88 dX6_byLaw_81 (by decide) (fun hc => ?_) (fun hc => ?_)
          · replace h := h.1 hc
            refine wp_iload dX6_byLaw_88 rfl ?_
            exact wp_iret dX6_byLaw_90 rfl ⟨_, rfl, rfl, rfl, rfl, h⟩
          · replace h := h.2 (Int32.not_le.mp hc)
            refine wp_iload_n dX6_byLaw_84 rfl ?_
            refine wp_goto 90 dX6_byLaw_85 (by decide) ?_
            exact wp_iret dX6_byLaw_90 rfl ⟨_, rfl, rfl, rfl, rfl, h⟩
        · replace h := h.2 (Int32.not_le.mp hc)
          refine wp_iload_n dX6_byLaw_74 rfl ?_
          refine wp_goto 90 dX6_byLaw_75 (by decide) ?_
          exact wp_iret dX6_byLaw_90 rfl ⟨_, rfl, rfl, rfl, rfl, h⟩
      · replace h := h.2 hc
        refine wp_goto 91 dX6_byLaw_45 (by decide) ?_
        refine wc6_4 1 dX6_byLaw_91 rfl ?_
        refine wp_goto 3 dX6_byLaw_94 (by decide) ?_
        exact h
theorem n6_byLaw {E : eT} {Q : Int32 → vT → Prop} {V : vT} {x1 x2 x3 : Int32} (h : w6_byLaw E Q 0 [some (vr 214), some (vi x1), some (vi x2), some (vi x3), none, none] [] V) : c6_byLaw E x1 x2 x3 V Q := MOk.enter [some (vr 214), some (vi x1), some (vi x2), some (vi x3), none, none] pn_6 rfl rfl (Nat.le_of_ble_eq_true rfl) rfl h
theorem b6_reckonsTo_0 {E : eT} {Q : Int32 → vT → Prop} {V : vT} {x1 x2 : Int32} (hT : TW E) (h : w6_reckonsTo E Q 16 [some (vr 214), none, some (vi x2), some (vi 0), some (vi (260 * (x1 / 260))), some (vi x1), none, none] [] V) : w6_reckonsTo E Q 0 [some (vr 214), some (vi x1), some (vi x2), none, none, none, none, none] [] V := by
  refine wp_iconst (v := 0) dX6_reckonsTo_0 rfl ?_
  refine wi8_3 dX6_reckonsTo_1 ?_
  refine wp_sipush (v := 260) dX6_reckonsTo_2 rfl ?_
  refine wp_iload_n dX6_reckonsTo_5 rfl ?_
  refine wp_sipush (v := 260) dX6_reckonsTo_6 rfl ?_
  refine wp_idiv dX6_reckonsTo_9 (by decide) ?_
  refine wp_imul dX6_reckonsTo_10 ?_
  refine wi8_4 dX6_reckonsTo_11 ?_
  refine wp_iload_n dX6_reckonsTo_13 rfl ?_
  refine wi8_5 dX6_reckonsTo_14 ?_
  exact wp_drop [some (vr 214), none, some (vi x2), some (vi 0), some (vi (260 * (x1 / 260))), some (vi x1), none, none] ⟨rfl, ⟨rfl, ⟨rfl, ⟨rfl, ⟨rfl, trivial⟩⟩⟩⟩⟩ h
theorem b6_reckonsTo_16 {E : eT} {Q : Int32 → vT → Prop} {V : vT} {x2 x3 x4 x5 : Int32} (hT : TW E) (h : (x2 ≤ x5 → Q (V 232 0) V) ∧ (x5 < x2 → vp_in x5 260 ∧ (vp_in x5 260 ∧ ((((V 227 ((x5).toNatClampNeg)) / 1048576) = 0 → (¬ ((V 227 ((x5).toNatClampNeg)) / 1048576) = 0 → vp_in (rmd (V 227 ((x5).toNatClampNeg)) 1048576) 9 ∧ (vp_in x3 260 ∧ (w6_reckonsTo E Q 16 [some (vr 214), none, some (vi x2), some (vi (x3 + 1)), some (vi x4), some (vi (x5 + 1)), none, none] [] (up2 V 232 (x3.toNatClampNeg) (V 233 ((rmd (V 227 ((x5).toNatClampNeg)) 1048576).toNatClampNeg)))))) ∧ (((V 227 ((x5).toNatClampNeg)) / 1048576) = 0 → vp_in x3 260 ∧ (w6_reckonsTo E Q 16 [some (vr 214), none, some (vi x2), some (vi (x3 + 1)), some (vi x4), some (vi (x5 + 1)), none, none] [] (up2 V 232 (x3.toNatClampNeg) (rmd (V 227 ((x5).toNatClampNeg)) 1048576))))) ∧ (¬ ((V 227 ((x5).toNatClampNeg)) / 1048576) = 0 → (¬ ((V 227 ((x5).toNatClampNeg)) / 1048576) = 1 → (¬ ((V 227 ((x5).toNatClampNeg)) / 1048576) = 10 → (((V 227 ((x5).toNatClampNeg)) / 1048576) = 11 → vp_in (x3 - 1) 260 ∧ ((¬ ((V 227 ((x5).toNatClampNeg)) / 1048576) = 12 → (¬ (V 232 ((x3 - 1).toNatClampNeg)) = 0 → w6_reckonsTo E Q 16 [some (vr 214), none, some (vi x2), some (vi (x3 - 1)), some (vi x4), some (vi (x5 + 1)), none, none] [] V) ∧ ((V 232 ((x3 - 1).toNatClampNeg)) = 0 → w6_reckonsTo E Q 16 [some (vr 214), none, some (vi x2), some (vi x3), some (vi x4), some (vi (x4 + (rmd (V 227 ((x5).toNatClampNeg)) 1048576))), none, none] [] V)) ∧ (((V 227 ((x5).toNatClampNeg)) / 1048576) = 12 → (¬ (V 232 ((x3 - 1).toNatClampNeg)) = 1 → w6_reckonsTo E Q 16 [some (vr 214), none, some (vi x2), some (vi (x3 - 1)), some (vi x4), some (vi (x5 + 1)), none, none] [] V) ∧ ((V 232 ((x3 - 1).toNatClampNeg)) = 1 → w6_reckonsTo E Q 16 [some (vr 214), none, some (vi x2), some (vi x3), some (vi x4), some (vi (x4 + (rmd (V 227 ((x5).toNatClampNeg)) 1048576))), none, none] [] V)))) ∧ (¬ ((V 227 ((x5).toNatClampNeg)) / 1048576) = 11 → (¬ ((V 227 ((x5).toNatClampNeg)) / 1048576) = 12 → (((V 227 ((x5).toNatClampNeg)) / 1048576) = 5 → vp_in (x3 - 1) 260 ∧ ((¬ (V 232 ((x3 - 1).toNatClampNeg)) = 0 → vp_in ((x3 - 1) - 1) 260 ∧ (vp_in (x3 - 1) 260 ∧ (c6_reckon E ((V 227 ((x5).toNatClampNeg)) / 1048576) (V 232 (((x3 - 1) - 1).toNatClampNeg)) (V 232 ((x3 - 1).toNatClampNeg)) V (fun r226 V226 => vp_in ((x3 - 1) - 1) 260 ∧ (w6_reckonsTo E Q 16 [some (vr 214), none, some (vi x2), some (vi (x3 - 1)), some (vi x4), some (vi (x5 + 1)), none, none] [] (up2 V226 232 (((x3 - 1) - 1).toNatClampNeg) r226)))))) ∧ ((V 232 ((x3 - 1).toNatClampNeg)) = 0 → Q 0 V))) ∧ (¬ ((V 227 ((x5).toNatClampNeg)) / 1048576) = 5 → (¬ ((V 227 ((x5).toNatClampNeg)) / 1048576) = 6 → vp_in ((x3 - 1) - 1) 260 ∧ (vp_in (x3 - 1) 260 ∧ (c6_reckon E ((V 227 ((x5).toNatClampNeg)) / 1048576) (V 232 (((x3 - 1) - 1).toNatClampNeg)) (V 232 ((x3 - 1).toNatClampNeg)) V (fun r226' V226' => vp_in ((x3 - 1) - 1) 260 ∧ (w6_reckonsTo E Q 16 [some (vr 214), none, some (vi x2), some (vi (x3 - 1)), some (vi x4), some (vi (x5 + 1)), none, none] [] (up2 V226' 232 (((x3 - 1) - 1).toNatClampNeg) r226')))))) ∧ (((V 227 ((x5).toNatClampNeg)) / 1048576) = 6 → vp_in (x3 - 1) 260 ∧ ((¬ (V 232 ((x3 - 1).toNatClampNeg)) = 0 → vp_in ((x3 - 1) - 1) 260 ∧ (vp_in (x3 - 1) 260 ∧ (c6_reckon E ((V 227 ((x5).toNatClampNeg)) / 1048576) (V 232 (((x3 - 1) - 1).toNatClampNeg)) (V 232 ((x3 - 1).toNatClampNeg)) V (fun r226'' V226'' => vp_in ((x3 - 1) - 1) 260 ∧ (w6_reckonsTo E Q 16 [some (vr 214), none, some (vi x2), some (vi (x3 - 1)), some (vi x4), some (vi (x5 + 1)), none, none] [] (up2 V226'' 232 (((x3 - 1) - 1).toNatClampNeg) r226'')))))) ∧ ((V 232 ((x3 - 1).toNatClampNeg)) = 0 → Q 0 V))))) ∧ (((V 227 ((x5).toNatClampNeg)) / 1048576) = 12 → vp_in (x3 - 1) 260 ∧ ((¬ ((V 227 ((x5).toNatClampNeg)) / 1048576) = 12 → (¬ (V 232 ((x3 - 1).toNatClampNeg)) = 0 → w6_reckonsTo E Q 16 [some (vr 214), none, some (vi x2), some (vi (x3 - 1)), some (vi x4), some (vi (x5 + 1)), none, none] [] V) ∧ ((V 232 ((x3 - 1).toNatClampNeg)) = 0 → w6_reckonsTo E Q 16 [some (vr 214), none, some (vi x2), some (vi x3), some (vi x4), some (vi (x4 + (rmd (V 227 ((x5).toNatClampNeg)) 1048576))), none, none] [] V)) ∧ (((V 227 ((x5).toNatClampNeg)) / 1048576) = 12 → (¬ (V 232 ((x3 - 1).toNatClampNeg)) = 1 → w6_reckonsTo E Q 16 [some (vr 214), none, some (vi x2), some (vi (x3 - 1)), some (vi x4), some (vi (x5 + 1)), none, none] [] V) ∧ ((V 232 ((x3 - 1).toNatClampNeg)) = 1 → w6_reckonsTo E Q 16 [some (vr 214), none, some (vi x2), some (vi x3), some (vi x4), some (vi (x4 + (rmd (V 227 ((x5).toNatClampNeg)) 1048576))), none, none] [] V)))))) ∧ (((V 227 ((x5).toNatClampNeg)) / 1048576) = 10 → vp_in (x3 - 1) 260 ∧ (vp_in (x3 - 1) 260 ∧ (w6_reckonsTo E Q 16 [some (vr 214), none, some (vi x2), some (vi x3), some (vi x4), some (vi (x5 + 1)), none, none] [] (up2 V 232 ((x3 - 1).toNatClampNeg) (1 - (V 232 ((x3 - 1).toNatClampNeg)))))))) ∧ (((V 227 ((x5).toNatClampNeg)) / 1048576) = 1 → (¬ ((V 227 ((x5).toNatClampNeg)) / 1048576) = 0 → vp_in (rmd (V 227 ((x5).toNatClampNeg)) 1048576) 9 ∧ (vp_in x3 260 ∧ (w6_reckonsTo E Q 16 [some (vr 214), none, some (vi x2), some (vi (x3 + 1)), some (vi x4), some (vi (x5 + 1)), none, none] [] (up2 V 232 (x3.toNatClampNeg) (V 233 ((rmd (V 227 ((x5).toNatClampNeg)) 1048576).toNatClampNeg)))))) ∧ (((V 227 ((x5).toNatClampNeg)) / 1048576) = 0 → vp_in x3 260 ∧ (w6_reckonsTo E Q 16 [some (vr 214), none, some (vi x2), some (vi (x3 + 1)), some (vi x4), some (vi (x5 + 1)), none, none] [] (up2 V 232 (x3.toNatClampNeg) (rmd (V 227 ((x5).toNatClampNeg)) 1048576)))))))))) : w6_reckonsTo E Q 16 [some (vr 214), none, some (vi x2), some (vi x3), some (vi x4), some (vi x5), none, none] [] V := by
  refine wp_iload dX6_reckonsTo_16 rfl ?_
  refine wp_iload_n dX6_reckonsTo_18 rfl ?_
  refine wp_icmp_ge 233 dX6_reckonsTo_19 (by decide) (fun hc => ?_) (fun hc => ?_)
  · replace h := h.1 hc
    refine wp_aload_n dX6_reckonsTo_233 rfl ?_
    refine wp_getrs dX6_reckonsTo_234 fk6_62 (tb_214 hT) (tk_214 hT) rfl (tr_27 hT) ?_
    refine wp_iconst (v := 0) dX6_reckonsTo_237 rfl ?_
    refine wp_iald_k 0 dX6_reckonsTo_238 (tb_232 hT).2 (tk_232 hT) rfl (by decide) (by decide) ?_
    exact wp_iret dX6_reckonsTo_239 rfl ⟨_, rfl, rfl, rfl, rfl, h⟩
  · replace h := h.2 (Int32.not_le.mp hc)
    refine wp_aload_n dX6_reckonsTo_22 rfl ?_
    refine wp_getrs dX6_reckonsTo_23 fk6_47 (tb_214 hT) (tk_214 hT) rfl (tr_22 hT) ?_
    refine wp_iload dX6_reckonsTo_26 rfl ?_
    refine wp_iald dX6_reckonsTo_28 (tb_227 hT).2 (tk_227 hT) h.1 ?_
    replace h := h.2
    refine wp_ldc (v := 1048576) dX6_reckonsTo_29 q1366 ?_
    refine wp_idiv dX6_reckonsTo_31 (by decide) ?_
    refine wi8_6 dX6_reckonsTo_32 ?_
    refine wp_aload_n dX6_reckonsTo_34 rfl ?_
    refine wp_getrs dX6_reckonsTo_35 fk6_47 (tb_214 hT) (tk_214 hT) rfl (tr_22 hT) ?_
    refine wp_iload dX6_reckonsTo_38 rfl ?_
    refine wp_iald dX6_reckonsTo_40 (tb_227 hT).2 (tk_227 hT) h.1 ?_
    replace h := h.2
    refine wp_ldc (v := 1048576) dX6_reckonsTo_41 q1366 ?_
    refine wp_irm dX6_reckonsTo_43 (by decide) ?_
    refine wi8_7 dX6_reckonsTo_44 ?_
    refine wp_iload dX6_reckonsTo_46 rfl ?_
    refine wp_iconst (v := 1) dX6_reckonsTo_48 rfl ?_
    refine wp_iadd dX6_reckonsTo_49 ?_
    refine wi8_5 dX6_reckonsTo_50 ?_
    refine wp_iload dX6_reckonsTo_52 rfl ?_
    refine wp_if_eq 63 dX6_reckonsTo_54 (by decide) (fun hc => ?_) (fun hc => ?_)
    · replace h := h.1 hc
      refine wp_aload_n dX6_reckonsTo_63 rfl ?_
      refine wp_getrs dX6_reckonsTo_64 fk6_62 (tb_214 hT) (tk_214 hT) rfl (tr_27 hT) ?_
      refine wp_iload_n dX6_reckonsTo_67 rfl ?_
      refine wp_iload dX6_reckonsTo_68 rfl ?_
      refine wp_if_ne 78 dX6_reckonsTo_70 (by decide) (fun hc => ?_) (fun hc => ?_)
      · replace h := h.1 hc
        refine wp_aload_n dX6_reckonsTo_78 rfl ?_
        refine wp_getrs dX6_reckonsTo_79 fk6_65 (tb_214 hT) (tk_214 hT) rfl (tr_28 hT) ?_
        refine wp_iload dX6_reckonsTo_82 rfl ?_
        refine wp_iald dX6_reckonsTo_84 (tb_233 hT).2 (tk_233 hT) h.1 ?_
        replace h := h.2
        refine wp_iast dX6_reckonsTo_85 (tb_232 hT) (tk_232 hT) h.1 ?_
        replace h := h.2
        refine wp_iload_n dX6_reckonsTo_86 rfl ?_
        refine wp_iconst (v := 1) dX6_reckonsTo_87 rfl ?_
        refine wp_iadd dX6_reckonsTo_88 ?_
        refine wi8_3 dX6_reckonsTo_89 ?_
        refine wp_goto 230 dX6_reckonsTo_90 (by decide) ?_
        refine wp_goto 16 dX6_reckonsTo_230 (by decide) ?_
        exact wp_drop [some (vr 214), none, some (vi x2), some (vi (x3 + 1)), some (vi x4), some (vi (x5 + 1)), none, none] ⟨rfl, ⟨rfl, ⟨rfl, ⟨rfl, ⟨rfl, trivial⟩⟩⟩⟩⟩ h
      · replace h := h.2 hc
        refine wp_iload dX6_reckonsTo_73 rfl ?_
        refine wp_goto 85 dX6_reckonsTo_75 (by decide) ?_
        refine wp_iast dX6_reckonsTo_85 (tb_232 hT) (tk_232 hT) h.1 ?_
        replace h := h.2
        refine wp_iload_n dX6_reckonsTo_86 rfl ?_
        refine wp_iconst (v := 1) dX6_reckonsTo_87 rfl ?_
        refine wp_iadd dX6_reckonsTo_88 ?_
        refine wi8_3 dX6_reckonsTo_89 ?_
        refine wp_goto 230 dX6_reckonsTo_90 (by decide) ?_
        refine wp_goto 16 dX6_reckonsTo_230 (by decide) ?_
        exact wp_drop [some (vr 214), none, some (vi x2), some (vi (x3 + 1)), some (vi x4), some (vi (x5 + 1)), none, none] ⟨rfl, ⟨rfl, ⟨rfl, ⟨rfl, ⟨rfl, trivial⟩⟩⟩⟩⟩ h
    · replace h := h.2 hc
      refine wp_iload dX6_reckonsTo_57 rfl ?_
      refine wp_iconst (v := 1) dX6_reckonsTo_59 rfl ?_
      refine wp_icmp_ne 93 dX6_reckonsTo_60 (by decide) (fun hc => ?_) (fun hc => ?_)
      · replace h := h.1 hc
        refine wp_iload dX6_reckonsTo_93 rfl ?_
        refine wp_bipush (v := 10) dX6_reckonsTo_95 rfl ?_
        refine wp_icmp_ne 121 dX6_reckonsTo_97 (by decide) (fun hc => ?_) (fun hc => ?_)
        · replace h := h.1 hc
          refine wp_iload dX6_reckonsTo_121 rfl ?_
          refine wp_bipush (v := 11) dX6_reckonsTo_123 rfl ?_
          refine wp_icmp_eq 135 dX6_reckonsTo_125 (by decide) (fun hc => ?_) (fun hc => ?_)
          · replace h := h.1 hc
            refine wp_aload_n dX6_reckonsTo_135 rfl ?_
            refine wp_getrs dX6_reckonsTo_136 fk6_62 (tb_214 hT) (tk_214 hT) rfl (tr_27 hT) ?_
            refine wp_iload_n dX6_reckonsTo_139 rfl ?_
            refine wp_iconst (v := 1) dX6_reckonsTo_140 rfl ?_
            refine wp_isub dX6_reckonsTo_141 ?_
            refine wp_iald dX6_reckonsTo_142 (tb_232 hT).2 (tk_232 hT) h.1 ?_
            replace h := h.2
            refine wp_iload dX6_reckonsTo_143 rfl ?_
            refine wp_bipush (v := 12) dX6_reckonsTo_145 rfl ?_
            refine wp_icmp_ne 154 dX6_reckonsTo_147 (by decide) (fun hc => ?_) (fun hc => ?_)
            · replace h := h.1 hc
              refine wp_iconst (v := 0) dX6_reckonsTo_154 rfl ?_
              refine wp_icmp_ne 168 dX6_reckonsTo_155 (by decide) (fun hc => ?_) (fun hc => ?_)
              · replace h := h.1 hc
                refine wp_iload_n dX6_reckonsTo_168 rfl ?_
                refine wp_iconst (v := 1) dX6_reckonsTo_169 rfl ?_
                refine wp_isub dX6_reckonsTo_170 ?_
                refine wi8_3 dX6_reckonsTo_171 ?_
                refine wp_goto 230 dX6_reckonsTo_172 (by decide) ?_
                refine wp_goto 16 dX6_reckonsTo_230 (by decide) ?_
                exact wp_drop [some (vr 214), none, some (vi x2), some (vi (x3 - 1)), some (vi x4), some (vi (x5 + 1)), none, none] ⟨rfl, ⟨rfl, ⟨rfl, ⟨rfl, ⟨rfl, trivial⟩⟩⟩⟩⟩ h
              · replace h := h.2 hc
                refine wp_iload dX6_reckonsTo_158 rfl ?_
                refine wp_iload dX6_reckonsTo_160 rfl ?_
                refine wp_iadd dX6_reckonsTo_162 ?_
                refine wi8_5 dX6_reckonsTo_163 ?_
                refine wp_goto 230 dX6_reckonsTo_165 (by decide) ?_
                refine wp_goto 16 dX6_reckonsTo_230 (by decide) ?_
                exact wp_drop [some (vr 214), none, some (vi x2), some (vi x3), some (vi x4), some (vi (x4 + (rmd (V 227 ((x5).toNatClampNeg)) 1048576))), none, none] ⟨rfl, ⟨rfl, ⟨rfl, ⟨rfl, ⟨rfl, trivial⟩⟩⟩⟩⟩ h
            · replace h := h.2 hc
              refine wp_iconst (v := 1) dX6_reckonsTo_150 rfl ?_
              refine wp_goto 155 dX6_reckonsTo_151 (by decide) ?_
              refine wp_icmp_ne 168 dX6_reckonsTo_155 (by decide) (fun hc => ?_) (fun hc => ?_)
              · replace h := h.1 hc
                refine wp_iload_n dX6_reckonsTo_168 rfl ?_
                refine wp_iconst (v := 1) dX6_reckonsTo_169 rfl ?_
                refine wp_isub dX6_reckonsTo_170 ?_
                refine wi8_3 dX6_reckonsTo_171 ?_
                refine wp_goto 230 dX6_reckonsTo_172 (by decide) ?_
                refine wp_goto 16 dX6_reckonsTo_230 (by decide) ?_
                exact wp_drop [some (vr 214), none, some (vi x2), some (vi (x3 - 1)), some (vi x4), some (vi (x5 + 1)), none, none] ⟨rfl, ⟨rfl, ⟨rfl, ⟨rfl, ⟨rfl, trivial⟩⟩⟩⟩⟩ h
              · replace h := h.2 hc
                refine wp_iload dX6_reckonsTo_158 rfl ?_
                refine wp_iload dX6_reckonsTo_160 rfl ?_
                refine wp_iadd dX6_reckonsTo_162 ?_
                refine wi8_5 dX6_reckonsTo_163 ?_
                refine wp_goto 230 dX6_reckonsTo_165 (by decide) ?_
                refine wp_goto 16 dX6_reckonsTo_230 (by decide) ?_
                exact wp_drop [some (vr 214), none, some (vi x2), some (vi x3), some (vi x4), some (vi (x4 + (rmd (V 227 ((x5).toNatClampNeg)) 1048576))), none, none] ⟨rfl, ⟨rfl, ⟨rfl, ⟨rfl, ⟨rfl, trivial⟩⟩⟩⟩⟩ h
          · replace h := h.2 hc
            refine wp_iload dX6_reckonsTo_128 rfl ?_
            refine wp_bipush (v := 12) dX6_reckonsTo_130 rfl ?_
            refine wp_icmp_ne 175 dX6_reckonsTo_132 (by decide) (fun hc => ?_) (fun hc => ?_)
            · replace h := h.1 hc
              refine wp_iload_n dX6_reckonsTo_175 rfl ?_
              refine wp_iconst (v := 1) dX6_reckonsTo_176 rfl ?_
              refine wp_isub dX6_reckonsTo_177 ?_
              refine wi8_3 dX6_reckonsTo_178 ?_
              refine wp_iload dX6_reckonsTo_179 rfl ?_
              refine wp_iconst (v := 5) dX6_reckonsTo_181 rfl ?_
              refine wp_icmp_eq 192 dX6_reckonsTo_182 (by decide) (fun hc => ?_) (fun hc => ?_)
              · replace h := h.1 hc
                refine wp_aload_n dX6_reckonsTo_192 rfl ?_
                refine wp_getrs dX6_reckonsTo_193 fk6_62 (tb_214 hT) (tk_214 hT) rfl (tr_27 hT) ?_
                refine wp_iload_n dX6_reckonsTo_196 rfl ?_
                refine wp_iald dX6_reckonsTo_197 (tb_232 hT).2 (tk_232 hT) h.1 ?_
                replace h := h.2
                refine wp_if_ne 203 dX6_reckonsTo_198 (by decide) (fun hc => ?_) (fun hc => ?_)
                · replace h := h.1 hc
                  refine wp_aload_n dX6_reckonsTo_203 rfl ?_
                  refine wp_getrs dX6_reckonsTo_204 fk6_62 (tb_214 hT) (tk_214 hT) rfl (tr_27 hT) ?_
                  refine wp_iload_n dX6_reckonsTo_207 rfl ?_
                  refine wp_iconst (v := 1) dX6_reckonsTo_208 rfl ?_
                  refine wp_isub dX6_reckonsTo_209 ?_
                  refine wp_iload dX6_reckonsTo_210 rfl ?_
                  refine wp_aload_n dX6_reckonsTo_212 rfl ?_
                  refine wp_getrs dX6_reckonsTo_213 fk6_62 (tb_214 hT) (tk_214 hT) rfl (tr_27 hT) ?_
                  refine wp_iload_n dX6_reckonsTo_216 rfl ?_
                  refine wp_iconst (v := 1) dX6_reckonsTo_217 rfl ?_
                  refine wp_isub dX6_reckonsTo_218 ?_
                  refine wp_iald dX6_reckonsTo_219 (tb_232 hT).2 (tk_232 hT) h.1 ?_
                  replace h := h.2
                  refine wp_aload_n dX6_reckonsTo_220 rfl ?_
                  refine wp_getrs dX6_reckonsTo_221 fk6_62 (tb_214 hT) (tk_214 hT) rfl (tr_27 hT) ?_
                  refine wp_iload_n dX6_reckonsTo_224 rfl ?_
                  refine wp_iald dX6_reckonsTo_225 (tb_232 hT).2 (tk_232 hT) h.1 ?_
                  replace h := h.2
                  refine wq_SI3 lk6_221 dX6_reckonsTo_226 h (rmQ_ok (by decide) (by decide)) ⟨Nat.le_refl _, Nat.le_refl _⟩ (Nat.le_of_ble_eq_true rfl) (fun r226 V226 h => ?_)
                  refine wp_iast dX6_reckonsTo_229 (tb_232 hT) (tk_232 hT) h.1 ?_
                  replace h := h.2
                  refine wp_goto 16 dX6_reckonsTo_230 (by decide) ?_
                  exact wp_drop [some (vr 214), none, some (vi x2), some (vi (x3 - 1)), some (vi x4), some (vi (x5 + 1)), none, none] ⟨rfl, ⟨rfl, ⟨rfl, ⟨rfl, ⟨rfl, trivial⟩⟩⟩⟩⟩ h
                · replace h := h.2 hc
                  refine wp_iconst (v := 0) dX6_reckonsTo_201 rfl ?_
                  exact wp_iret dX6_reckonsTo_202 rfl ⟨_, rfl, rfl, rfl, rfl, h⟩
              · replace h := h.2 hc
                refine wp_iload dX6_reckonsTo_185 rfl ?_
                refine wp_bipush (v := 6) dX6_reckonsTo_187 rfl ?_
                refine wp_icmp_ne 203 dX6_reckonsTo_189 (by decide) (fun hc => ?_) (fun hc => ?_)
                · replace h := h.1 hc
                  refine wp_aload_n dX6_reckonsTo_203 rfl ?_
                  refine wp_getrs dX6_reckonsTo_204 fk6_62 (tb_214 hT) (tk_214 hT) rfl (tr_27 hT) ?_
                  refine wp_iload_n dX6_reckonsTo_207 rfl ?_
                  refine wp_iconst (v := 1) dX6_reckonsTo_208 rfl ?_
                  refine wp_isub dX6_reckonsTo_209 ?_
                  refine wp_iload dX6_reckonsTo_210 rfl ?_
                  refine wp_aload_n dX6_reckonsTo_212 rfl ?_
                  refine wp_getrs dX6_reckonsTo_213 fk6_62 (tb_214 hT) (tk_214 hT) rfl (tr_27 hT) ?_
                  refine wp_iload_n dX6_reckonsTo_216 rfl ?_
                  refine wp_iconst (v := 1) dX6_reckonsTo_217 rfl ?_
                  refine wp_isub dX6_reckonsTo_218 ?_
                  refine wp_iald dX6_reckonsTo_219 (tb_232 hT).2 (tk_232 hT) h.1 ?_
                  replace h := h.2
                  refine wp_aload_n dX6_reckonsTo_220 rfl ?_
                  refine wp_getrs dX6_reckonsTo_221 fk6_62 (tb_214 hT) (tk_214 hT) rfl (tr_27 hT) ?_
                  refine wp_iload_n dX6_reckonsTo_224 rfl ?_
                  refine wp_iald dX6_reckonsTo_225 (tb_232 hT).2 (tk_232 hT) h.1 ?_
                  replace h := h.2
                  refine wq_SI3 lk6_221 dX6_reckonsTo_226 h (rmQ_ok (by decide) (by decide)) ⟨Nat.le_refl _, Nat.le_refl _⟩ (Nat.le_of_ble_eq_true rfl) (fun r226' V226' h => ?_)
                  refine wp_iast dX6_reckonsTo_229 (tb_232 hT) (tk_232 hT) h.1 ?_
                  replace h := h.2
                  refine wp_goto 16 dX6_reckonsTo_230 (by decide) ?_
                  exact wp_drop [some (vr 214), none, some (vi x2), some (vi (x3 - 1)), some (vi x4), some (vi (x5 + 1)), none, none] ⟨rfl, ⟨rfl, ⟨rfl, ⟨rfl, ⟨rfl, trivial⟩⟩⟩⟩⟩ h
                · replace h := h.2 hc
                  refine wp_aload_n dX6_reckonsTo_192 rfl ?_
                  refine wp_getrs dX6_reckonsTo_193 fk6_62 (tb_214 hT) (tk_214 hT) rfl (tr_27 hT) ?_
                  refine wp_iload_n dX6_reckonsTo_196 rfl ?_
                  refine wp_iald dX6_reckonsTo_197 (tb_232 hT).2 (tk_232 hT) h.1 ?_
                  replace h := h.2
                  refine wp_if_ne 203 dX6_reckonsTo_198 (by decide) (fun hc => ?_) (fun hc => ?_)
                  · replace h := h.1 hc
                    refine wp_aload_n dX6_reckonsTo_203 rfl ?_
                    refine wp_getrs dX6_reckonsTo_204 fk6_62 (tb_214 hT) (tk_214 hT) rfl (tr_27 hT) ?_
                    refine wp_iload_n dX6_reckonsTo_207 rfl ?_
                    refine wp_iconst (v := 1) dX6_reckonsTo_208 rfl ?_
                    refine wp_isub dX6_reckonsTo_209 ?_
                    refine wp_iload dX6_reckonsTo_210 rfl ?_
                    refine wp_aload_n dX6_reckonsTo_212 rfl ?_
                    refine wp_getrs dX6_reckonsTo_213 fk6_62 (tb_214 hT) (tk_214 hT) rfl (tr_27 hT) ?_
                    refine wp_iload_n dX6_reckonsTo_216 rfl ?_
                    refine wp_iconst (v := 1) dX6_reckonsTo_217 rfl ?_
                    refine wp_isub dX6_reckonsTo_218 ?_
                    refine wp_iald dX6_reckonsTo_219 (tb_232 hT).2 (tk_232 hT) h.1 ?_
                    replace h := h.2
                    refine wp_aload_n dX6_reckonsTo_220 rfl ?_
                    refine wp_getrs dX6_reckonsTo_221 fk6_62 (tb_214 hT) (tk_214 hT) rfl (tr_27 hT) ?_
                    refine wp_iload_n dX6_reckonsTo_224 rfl ?_
                    refine wp_iald dX6_reckonsTo_225 (tb_232 hT).2 (tk_232 hT) h.1 ?_
                    replace h := h.2
                    refine wq_SI3 lk6_221 dX6_reckonsTo_226 h (rmQ_ok (by decide) (by decide)) ⟨Nat.le_refl _, Nat.le_refl _⟩ (Nat.le_of_ble_eq_true rfl) (fun r226'' V226'' h => ?_)
                    refine wp_iast dX6_reckonsTo_229 (tb_232 hT) (tk_232 hT) h.1 ?_
                    replace h := h.2
                    refine wp_goto 16 dX6_reckonsTo_230 (by decide) ?_
                    exact wp_drop [some (vr 214), none, some (vi x2), some (vi (x3 - 1)), some (vi x4), some (vi (x5 + 1)), none, none] ⟨rfl, ⟨rfl, ⟨rfl, ⟨rfl, ⟨rfl, trivial⟩⟩⟩⟩⟩ h
                  · replace h := h.2 hc
                    refine wp_iconst (v := 0) dX6_reckonsTo_201 rfl ?_
                    exact wp_iret dX6_reckonsTo_202 rfl ⟨_, rfl, rfl, rfl, rfl, h⟩
            · replace h := h.2 hc
              refine wp_aload_n dX6_reckonsTo_135 rfl ?_
              refine wp_getrs dX6_reckonsTo_136 fk6_62 (tb_214 hT) (tk_214 hT) rfl (tr_27 hT) ?_
              refine wp_iload_n dX6_reckonsTo_139 rfl ?_
              refine wp_iconst (v := 1) dX6_reckonsTo_140 rfl ?_
              refine wp_isub dX6_reckonsTo_141 ?_
              refine wp_iald dX6_reckonsTo_142 (tb_232 hT).2 (tk_232 hT) h.1 ?_
              replace h := h.2
              refine wp_iload dX6_reckonsTo_143 rfl ?_
              refine wp_bipush (v := 12) dX6_reckonsTo_145 rfl ?_
              refine wp_icmp_ne 154 dX6_reckonsTo_147 (by decide) (fun hc => ?_) (fun hc => ?_)
              · replace h := h.1 hc
                refine wp_iconst (v := 0) dX6_reckonsTo_154 rfl ?_
                refine wp_icmp_ne 168 dX6_reckonsTo_155 (by decide) (fun hc => ?_) (fun hc => ?_)
                · replace h := h.1 hc
                  refine wp_iload_n dX6_reckonsTo_168 rfl ?_
                  refine wp_iconst (v := 1) dX6_reckonsTo_169 rfl ?_
                  refine wp_isub dX6_reckonsTo_170 ?_
                  refine wi8_3 dX6_reckonsTo_171 ?_
                  refine wp_goto 230 dX6_reckonsTo_172 (by decide) ?_
                  refine wp_goto 16 dX6_reckonsTo_230 (by decide) ?_
                  exact wp_drop [some (vr 214), none, some (vi x2), some (vi (x3 - 1)), some (vi x4), some (vi (x5 + 1)), none, none] ⟨rfl, ⟨rfl, ⟨rfl, ⟨rfl, ⟨rfl, trivial⟩⟩⟩⟩⟩ h
                · replace h := h.2 hc
                  refine wp_iload dX6_reckonsTo_158 rfl ?_
                  refine wp_iload dX6_reckonsTo_160 rfl ?_
                  refine wp_iadd dX6_reckonsTo_162 ?_
                  refine wi8_5 dX6_reckonsTo_163 ?_
                  refine wp_goto 230 dX6_reckonsTo_165 (by decide) ?_
                  refine wp_goto 16 dX6_reckonsTo_230 (by decide) ?_
                  exact wp_drop [some (vr 214), none, some (vi x2), some (vi x3), some (vi x4), some (vi (x4 + (rmd (V 227 ((x5).toNatClampNeg)) 1048576))), none, none] ⟨rfl, ⟨rfl, ⟨rfl, ⟨rfl, ⟨rfl, trivial⟩⟩⟩⟩⟩ h
              · replace h := h.2 hc
                refine wp_iconst (v := 1) dX6_reckonsTo_150 rfl ?_
                refine wp_goto 155 dX6_reckonsTo_151 (by decide) ?_
                refine wp_icmp_ne 168 dX6_reckonsTo_155 (by decide) (fun hc => ?_) (fun hc => ?_)
                · replace h := h.1 hc
                  refine wp_iload_n dX6_reckonsTo_168 rfl ?_
                  refine wp_iconst (v := 1) dX6_reckonsTo_169 rfl ?_
                  refine wp_isub dX6_reckonsTo_170 ?_
                  refine wi8_3 dX6_reckonsTo_171 ?_
                  refine wp_goto 230 dX6_reckonsTo_172 (by decide) ?_
                  refine wp_goto 16 dX6_reckonsTo_230 (by decide) ?_
                  exact wp_drop [some (vr 214), none, some (vi x2), some (vi (x3 - 1)), some (vi x4), some (vi (x5 + 1)), none, none] ⟨rfl, ⟨rfl, ⟨rfl, ⟨rfl, ⟨rfl, trivial⟩⟩⟩⟩⟩ h
                · replace h := h.2 hc
                  refine wp_iload dX6_reckonsTo_158 rfl ?_
                  refine wp_iload dX6_reckonsTo_160 rfl ?_
                  refine wp_iadd dX6_reckonsTo_162 ?_
                  refine wi8_5 dX6_reckonsTo_163 ?_
                  refine wp_goto 230 dX6_reckonsTo_165 (by decide) ?_
                  refine wp_goto 16 dX6_reckonsTo_230 (by decide) ?_
                  exact wp_drop [some (vr 214), none, some (vi x2), some (vi x3), some (vi x4), some (vi (x4 + (rmd (V 227 ((x5).toNatClampNeg)) 1048576))), none, none] ⟨rfl, ⟨rfl, ⟨rfl, ⟨rfl, ⟨rfl, trivial⟩⟩⟩⟩⟩ h
        · replace h := h.2 hc
          refine wp_aload_n dX6_reckonsTo_100 rfl ?_
          refine wp_getrs dX6_reckonsTo_101 fk6_62 (tb_214 hT) (tk_214 hT) rfl (tr_27 hT) ?_
          refine wp_iload_n dX6_reckonsTo_104 rfl ?_
          refine wp_iconst (v := 1) dX6_reckonsTo_105 rfl ?_
          refine wp_isub dX6_reckonsTo_106 ?_
          refine wp_iconst (v := 1) dX6_reckonsTo_107 rfl ?_
          refine wp_aload_n dX6_reckonsTo_108 rfl ?_
          refine wp_getrs dX6_reckonsTo_109 fk6_62 (tb_214 hT) (tk_214 hT) rfl (tr_27 hT) ?_
          refine wp_iload_n dX6_reckonsTo_112 rfl ?_
          refine wp_iconst (v := 1) dX6_reckonsTo_113 rfl ?_
          refine wp_isub dX6_reckonsTo_114 ?_
          refine wp_iald dX6_reckonsTo_115 (tb_232 hT).2 (tk_232 hT) h.1 ?_
          replace h := h.2
          refine wp_isub dX6_reckonsTo_116 ?_
          refine wp_iast dX6_reckonsTo_117 (tb_232 hT) (tk_232 hT) h.1 ?_
          replace h := h.2
          refine wp_goto 230 dX6_reckonsTo_118 (by decide) ?_
          refine wp_goto 16 dX6_reckonsTo_230 (by decide) ?_
          exact wp_drop [some (vr 214), none, some (vi x2), some (vi x3), some (vi x4), some (vi (x5 + 1)), none, none] ⟨rfl, ⟨rfl, ⟨rfl, ⟨rfl, ⟨rfl, trivial⟩⟩⟩⟩⟩ h
      · replace h := h.2 hc
        refine wp_aload_n dX6_reckonsTo_63 rfl ?_
        refine wp_getrs dX6_reckonsTo_64 fk6_62 (tb_214 hT) (tk_214 hT) rfl (tr_27 hT) ?_
        refine wp_iload_n dX6_reckonsTo_67 rfl ?_
        refine wp_iload dX6_reckonsTo_68 rfl ?_
        refine wp_if_ne 78 dX6_reckonsTo_70 (by decide) (fun hc => ?_) (fun hc => ?_)
        · replace h := h.1 hc
          refine wp_aload_n dX6_reckonsTo_78 rfl ?_
          refine wp_getrs dX6_reckonsTo_79 fk6_65 (tb_214 hT) (tk_214 hT) rfl (tr_28 hT) ?_
          refine wp_iload dX6_reckonsTo_82 rfl ?_
          refine wp_iald dX6_reckonsTo_84 (tb_233 hT).2 (tk_233 hT) h.1 ?_
          replace h := h.2
          refine wp_iast dX6_reckonsTo_85 (tb_232 hT) (tk_232 hT) h.1 ?_
          replace h := h.2
          refine wp_iload_n dX6_reckonsTo_86 rfl ?_
          refine wp_iconst (v := 1) dX6_reckonsTo_87 rfl ?_
          refine wp_iadd dX6_reckonsTo_88 ?_
          refine wi8_3 dX6_reckonsTo_89 ?_
          refine wp_goto 230 dX6_reckonsTo_90 (by decide) ?_
          refine wp_goto 16 dX6_reckonsTo_230 (by decide) ?_
          exact wp_drop [some (vr 214), none, some (vi x2), some (vi (x3 + 1)), some (vi x4), some (vi (x5 + 1)), none, none] ⟨rfl, ⟨rfl, ⟨rfl, ⟨rfl, ⟨rfl, trivial⟩⟩⟩⟩⟩ h
        · replace h := h.2 hc
          refine wp_iload dX6_reckonsTo_73 rfl ?_
          refine wp_goto 85 dX6_reckonsTo_75 (by decide) ?_
          refine wp_iast dX6_reckonsTo_85 (tb_232 hT) (tk_232 hT) h.1 ?_
          replace h := h.2
          refine wp_iload_n dX6_reckonsTo_86 rfl ?_
          refine wp_iconst (v := 1) dX6_reckonsTo_87 rfl ?_
          refine wp_iadd dX6_reckonsTo_88 ?_
          refine wi8_3 dX6_reckonsTo_89 ?_
          refine wp_goto 230 dX6_reckonsTo_90 (by decide) ?_
          refine wp_goto 16 dX6_reckonsTo_230 (by decide) ?_
          exact wp_drop [some (vr 214), none, some (vi x2), some (vi (x3 + 1)), some (vi x4), some (vi (x5 + 1)), none, none] ⟨rfl, ⟨rfl, ⟨rfl, ⟨rfl, ⟨rfl, trivial⟩⟩⟩⟩⟩ h
theorem n6_reckonsTo {E : eT} {Q : Int32 → vT → Prop} {V : vT} {x1 x2 : Int32} (h : w6_reckonsTo E Q 0 [some (vr 214), some (vi x1), some (vi x2), none, none, none, none, none] [] V) : c6_reckonsTo E x1 x2 V Q := MOk.enter [some (vr 214), some (vi x1), some (vi x2), none, none, none, none, none] pn_6 rfl rfl (Nat.le_of_ble_eq_true rfl) rfl h
theorem b6_reckon_0 {E : eT} {Q : Int32 → vT → Prop} {V : vT} {x1 x2 x3 : Int32} (hT : TW E) (h : (x1 = 2 → Q (x2 + x3) V) ∧ (x1 = 3 → Q (x2 - x3) V) ∧ (x1 = 4 → Q (x2 * x3) V) ∧ (x1 = 5 → ¬ x3 = 0 ∧ (Q (x2 / x3) V)) ∧ (x1 = 6 → ¬ x3 = 0 ∧ (Q (rmd x2 x3) V)) ∧ (x1 = 7 → (x3 ≤ x2 → Q 0 V) ∧ (x2 < x3 → Q 1 V)) ∧ (x1 = 8 → (x2 ≤ x3 → Q 0 V) ∧ (x3 < x2 → Q 1 V)) ∧ (¬ x1 = 2 → ¬ x1 = 3 → ¬ x1 = 4 → ¬ x1 = 5 → ¬ x1 = 6 → ¬ x1 = 7 → ¬ x1 = 8 → (¬ x2 = x3 → Q 0 V) ∧ (x2 = x3 → Q 1 V))) : w6_reckon E Q 0 [some (vi x1), some (vi x2), some (vi x3)] [] V := by
  refine wp_iload_n dX6_reckon_0 rfl ?_
  by_cases hc2 : x1 = 2
  · replace h := h.1 hc2
    rw [hc2]
    refine wp_tableIn 44 dX6_reckon_1 (by decide) (by decide) rfl (by decide) ?_
    refine wp_iload_n dX6_reckon_44 rfl ?_
    refine wp_iload_n dX6_reckon_45 rfl ?_
    refine wp_iadd dX6_reckon_46 ?_
    exact wp_iret dX6_reckon_47 rfl ⟨_, rfl, rfl, rfl, rfl, h⟩
  · skip
    by_cases hc3 : x1 = 3
    · replace h := h.2.1 hc3
      rw [hc3]
      refine wp_tableIn 48 dX6_reckon_1 (by decide) (by decide) rfl (by decide) ?_
      refine wp_iload_n dX6_reckon_48 rfl ?_
      refine wp_iload_n dX6_reckon_49 rfl ?_
      refine wp_isub dX6_reckon_50 ?_
      exact wp_iret dX6_reckon_51 rfl ⟨_, rfl, rfl, rfl, rfl, h⟩
    · skip
      by_cases hc4 : x1 = 4
      · replace h := h.2.2.1 hc4
        rw [hc4]
        refine wp_tableIn 52 dX6_reckon_1 (by decide) (by decide) rfl (by decide) ?_
        refine wp_iload_n dX6_reckon_52 rfl ?_
        refine wp_iload_n dX6_reckon_53 rfl ?_
        refine wp_imul dX6_reckon_54 ?_
        exact wp_iret dX6_reckon_55 rfl ⟨_, rfl, rfl, rfl, rfl, h⟩
      · skip
        by_cases hc5 : x1 = 5
        · replace h := h.2.2.2.1 hc5
          rw [hc5]
          refine wp_tableIn 56 dX6_reckon_1 (by decide) (by decide) rfl (by decide) ?_
          refine wp_iload_n dX6_reckon_56 rfl ?_
          refine wp_iload_n dX6_reckon_57 rfl ?_
          refine wp_idiv dX6_reckon_58 h.1 ?_
          replace h := h.2
          exact wp_iret dX6_reckon_59 rfl ⟨_, rfl, rfl, rfl, rfl, h⟩
        · skip
          by_cases hc6 : x1 = 6
          · replace h := h.2.2.2.2.1 hc6
            rw [hc6]
            refine wp_tableIn 60 dX6_reckon_1 (by decide) (by decide) rfl (by decide) ?_
            refine wp_iload_n dX6_reckon_60 rfl ?_
            refine wp_iload_n dX6_reckon_61 rfl ?_
            refine wp_irm dX6_reckon_62 h.1 ?_
            replace h := h.2
            exact wp_iret dX6_reckon_63 rfl ⟨_, rfl, rfl, rfl, rfl, h⟩
          · skip
            by_cases hc7 : x1 = 7
            · replace h := h.2.2.2.2.2.1 hc7
              rw [hc7]
              refine wp_tableIn 64 dX6_reckon_1 (by decide) (by decide) rfl (by decide) ?_
              refine wp_iload_n dX6_reckon_64 rfl ?_
              refine wp_iload_n dX6_reckon_65 rfl ?_
              refine wp_icmp_ge 73 dX6_reckon_66 (by decide) (fun hc => ?_) (fun hc => ?_)
              · replace h := h.1 hc
                refine wp_iconst (v := 0) dX6_reckon_73 rfl ?_
                exact wp_iret dX6_reckon_74 rfl ⟨_, rfl, rfl, rfl, rfl, h⟩
              · replace h := h.2 (Int32.not_le.mp hc)
                refine wp_iconst (v := 1) dX6_reckon_69 rfl ?_
                refine wp_goto 74 dX6_reckon_70 (by decide) ?_
                exact wp_iret dX6_reckon_74 rfl ⟨_, rfl, rfl, rfl, rfl, h⟩
            · skip
              by_cases hc8 : x1 = 8
              · replace h := h.2.2.2.2.2.2.1 hc8
                rw [hc8]
                refine wp_tableIn 75 dX6_reckon_1 (by decide) (by decide) rfl (by decide) ?_
                refine wp_iload_n dX6_reckon_75 rfl ?_
                refine wp_iload_n dX6_reckon_76 rfl ?_
                refine wp_icmp_le 84 dX6_reckon_77 (by decide) (fun hc => ?_) (fun hc => ?_)
                · replace h := h.1 hc
                  refine wp_iconst (v := 0) dX6_reckon_84 rfl ?_
                  exact wp_iret dX6_reckon_85 rfl ⟨_, rfl, rfl, rfl, rfl, h⟩
                · replace h := h.2 (Int32.not_le.mp hc)
                  refine wp_iconst (v := 1) dX6_reckon_80 rfl ?_
                  refine wp_goto 85 dX6_reckon_81 (by decide) ?_
                  exact wp_iret dX6_reckon_85 rfl ⟨_, rfl, rfl, rfl, rfl, h⟩
              · skip
                replace h := h.2.2.2.2.2.2.2 hc2 hc3 hc4 hc5 hc6 hc7 hc8
                refine wp_tableD 86 dX6_reckon_1 (fun j9 h8 h9 => ?_) (by decide) ?_
                · rcases (show j9 = 0 ∨ j9 = 1 ∨ j9 = 2 ∨ j9 = 3 ∨ j9 = 4 ∨ j9 = 5 ∨ j9 = 6 by omega) with rfl | rfl | rfl | rfl | rfl | rfl | rfl
                  · exact absurd h9 (tab_ne hc2 (by decide))
                  · exact absurd h9 (tab_ne hc3 (by decide))
                  · exact absurd h9 (tab_ne hc4 (by decide))
                  · exact absurd h9 (tab_ne hc5 (by decide))
                  · exact absurd h9 (tab_ne hc6 (by decide))
                  · exact absurd h9 (tab_ne hc7 (by decide))
                  · exact absurd h9 (tab_ne hc8 (by decide))
                refine wp_iload_n dX6_reckon_86 rfl ?_
                refine wp_iload_n dX6_reckon_87 rfl ?_
                refine wp_icmp_ne 95 dX6_reckon_88 (by decide) (fun hc => ?_) (fun hc => ?_)
                · replace h := h.1 hc
                  refine wp_iconst (v := 0) dX6_reckon_95 rfl ?_
                  exact wp_iret dX6_reckon_96 rfl ⟨_, rfl, rfl, rfl, rfl, h⟩
                · replace h := h.2 hc
                  refine wp_iconst (v := 1) dX6_reckon_91 rfl ?_
                  refine wp_goto 96 dX6_reckon_92 (by decide) ?_
                  exact wp_iret dX6_reckon_96 rfl ⟨_, rfl, rfl, rfl, rfl, h⟩
theorem n6_reckon {E : eT} {Q : Int32 → vT → Prop} {V : vT} {x1 x2 x3 : Int32} (h : w6_reckon E Q 0 [some (vi x1), some (vi x2), some (vi x3)] [] V) : c6_reckon E x1 x2 x3 V Q := MOk.enter [some (vi x1), some (vi x2), some (vi x3)] pn_6 rfl rfl (Nat.le_of_ble_eq_true rfl) rfl h
theorem b6_draws_0 {E : eT} {Q : Int32 → vT → Prop} {V : vT} (hT : TW E) (h : Q (rmd ((up2 V 215 314 (rmd ((25173 * (V 215 314)) + 13849) 65536)) 215 314) 10) (up2 V 215 314 (rmd ((25173 * (V 215 314)) + 13849) 65536))) : w6_draws E Q 0 [some (vr 214)] [] V := by
  refine wp_aload_n dX6_draws_0 rfl ?_
  refine wp_getrs dX6_draws_1 fk6_7 (tb_214 hT) (tk_214 hT) rfl (tr_0 hT) ?_
  refine wp_sipush (v := 314) dX6_draws_4 rfl ?_
  refine wp_sipush (v := 25173) dX6_draws_7 rfl ?_
  refine wp_aload_n dX6_draws_10 rfl ?_
  refine wp_getrs dX6_draws_11 fk6_7 (tb_214 hT) (tk_214 hT) rfl (tr_0 hT) ?_
  refine wp_sipush (v := 314) dX6_draws_14 rfl ?_
  refine wp_iald_k 314 dX6_draws_17 (tb_215 hT).2 (tk_215 hT) rfl (by decide) (by decide) ?_
  refine wp_imul dX6_draws_18 ?_
  refine wp_sipush (v := 13849) dX6_draws_19 rfl ?_
  refine wp_iadd dX6_draws_22 ?_
  refine wp_ldcw (v := 65536) dX6_draws_23 q1551 ?_
  refine wp_irm dX6_draws_26 (by decide) ?_
  refine wp_iast_k 314 dX6_draws_27 (tb_215 hT) (tk_215 hT) rfl (by decide) (by decide) ?_
  refine wp_aload_n dX6_draws_28 rfl ?_
  refine wp_getrs dX6_draws_29 fk6_7 (tb_214 hT) (tk_214 hT) rfl (tr_0 hT) ?_
  refine wp_sipush (v := 314) dX6_draws_32 rfl ?_
  refine wp_iald_k 314 dX6_draws_35 (tb_215 hT).2 (tk_215 hT) rfl (by decide) (by decide) ?_
  refine wp_bipush (v := 10) dX6_draws_36 rfl ?_
  refine wp_irm dX6_draws_38 (by decide) ?_
  exact wp_iret dX6_draws_39 rfl ⟨_, rfl, rfl, rfl, rfl, h⟩
theorem n6_draws {E : eT} {Q : Int32 → vT → Prop} {V : vT} (h : w6_draws E Q 0 [some (vr 214)] [] V) : c6_draws E V Q := MOk.enter [some (vr 214)] pn_6 rfl rfl (Nat.le_of_ble_eq_true rfl) rfl h
theorem b6_holdsAny_0 {E : eT} {Q : Int32 → vT → Prop} {V : vT} {x1 : Int32} (hT : TW E) (h : w6_holdsAny E Q 2 [some (vr 214), some (vi x1), some (vi 0)] [] V) : w6_holdsAny E Q 0 [some (vr 214), some (vi x1), none] [] V := by
  refine wp_iconst (v := 0) dX6_holdsAny_0 rfl ?_
  refine wi3_2 dX6_holdsAny_1 ?_
  exact h
theorem b6_holdsAny_2 {E : eT} {Q : Int32 → vT → Prop} {V : vT} {x1 x2 : Int32} (hT : TW E) (h : ((V 214 15) ≤ x2 → Q 0 V) ∧ (x2 < (V 214 15) → vp_in x2 16 ∧ ((¬ (V 228 ((x2).toNatClampNeg)) = x1 → w6_holdsAny E Q 2 [some (vr 214), some (vi x1), some (vi (x2 + 1))] [] V) ∧ ((V 228 ((x2).toNatClampNeg)) = x1 → vp_in x2 16 ∧ (vp_in x2 16 ∧ (c6_reckonsTo E (V 230 ((x2).toNatClampNeg)) (V 231 ((x2).toNatClampNeg)) V (fun r33 V33 => (¬ r33 = 1 → w6_holdsAny E Q 2 [some (vr 214), some (vi x1), some (vi (x2 + 1))] [] V33) ∧ (r33 = 1 → Q 1 V33)))))))) : w6_holdsAny E Q 2 [some (vr 214), some (vi x1), some (vi x2)] [] V := by
  refine wp_iload_n dX6_holdsAny_2 rfl ?_
  refine wp_aload_n dX6_holdsAny_3 rfl ?_
  refine wp_geti dX6_holdsAny_4 fk6_218 (tb_214 hT) (tk_214 hT) rfl ?_
  refine wp_icmp_ge 48 dX6_holdsAny_7 (by decide) (fun hc => ?_) (fun hc => ?_)
  · replace h := h.1 hc
    refine wp_iconst (v := 0) dX6_holdsAny_48 rfl ?_
    exact wp_iret dX6_holdsAny_49 rfl ⟨_, rfl, rfl, rfl, rfl, h⟩
  · replace h := h.2 (Int32.not_le.mp hc)
    refine wp_aload_n dX6_holdsAny_10 rfl ?_
    refine wp_getrs dX6_holdsAny_11 fk6_50 (tb_214 hT) (tk_214 hT) rfl (tr_23 hT) ?_
    refine wp_iload_n dX6_holdsAny_14 rfl ?_
    refine wp_iald dX6_holdsAny_15 (tb_228 hT).2 (tk_228 hT) h.1 ?_
    replace h := h.2
    refine wp_iload_n dX6_holdsAny_16 rfl ?_
    refine wp_icmp_ne 42 dX6_holdsAny_17 (by decide) (fun hc => ?_) (fun hc => ?_)
    · replace h := h.1 hc
      refine wc3_2 1 dX6_holdsAny_42 rfl ?_
      refine wp_goto 2 dX6_holdsAny_45 (by decide) ?_
      exact h
    · replace h := h.2 hc
      refine wp_aload_n dX6_holdsAny_20 rfl ?_
      refine wp_aload_n dX6_holdsAny_21 rfl ?_
      refine wp_getrs dX6_holdsAny_22 fk6_56 (tb_214 hT) (tk_214 hT) rfl (tr_25 hT) ?_
      refine wp_iload_n dX6_holdsAny_25 rfl ?_
      refine wp_iald dX6_holdsAny_26 (tb_230 hT).2 (tk_230 hT) h.1 ?_
      replace h := h.2
      refine wp_aload_n dX6_holdsAny_27 rfl ?_
      refine wp_getrs dX6_holdsAny_28 fk6_59 (tb_214 hT) (tk_214 hT) rfl (tr_26 hT) ?_
      refine wp_iload_n dX6_holdsAny_31 rfl ?_
      refine wp_iald dX6_holdsAny_32 (tb_231 hT).2 (tk_231 hT) h.1 ?_
      replace h := h.2
      refine wq_VI2 lk6_225 rfl (tb_214 hT) (tk_214 hT) dX6_holdsAny_33 h (rmQ_ok (by decide) (by decide)) ⟨Nat.le_refl _, Nat.le_refl _⟩ (Nat.le_of_ble_eq_true rfl) (fun r33 V33 h => ?_)
      refine wp_iconst (v := 1) dX6_holdsAny_36 rfl ?_
      refine wp_icmp_ne 42 dX6_holdsAny_37 (by decide) (fun hc => ?_) (fun hc => ?_)
      · replace h := h.1 hc
        refine wc3_2 1 dX6_holdsAny_42 rfl ?_
        refine wp_goto 2 dX6_holdsAny_45 (by decide) ?_
        exact h
      · replace h := h.2 hc
        refine wp_iconst (v := 1) dX6_holdsAny_40 rfl ?_
        exact wp_iret dX6_holdsAny_41 rfl ⟨_, rfl, rfl, rfl, rfl, h⟩
theorem n6_holdsAny {E : eT} {Q : Int32 → vT → Prop} {V : vT} {x1 : Int32} (h : w6_holdsAny E Q 0 [some (vr 214), some (vi x1), none] [] V) : c6_holdsAny E x1 V Q := MOk.enter [some (vr 214), some (vi x1), none] pn_6 rfl rfl (Nat.le_of_ble_eq_true rfl) rfl h
theorem b6_faring_0 {E : eT} {Q : Int32 → vT → Prop} {V : vT} {x1 : Int32} (hT : TW E) (h : w6_faring E Q 4 [some (vr 214), some (vi x1), some (vi 0), some (vi 0)] [] V) : w6_faring E Q 0 [some (vr 214), some (vi x1), none, none] [] V := by
  refine wp_iconst (v := 0) dX6_faring_0 rfl ?_
  refine wi4_2 dX6_faring_1 ?_
  refine wp_iconst (v := 0) dX6_faring_2 rfl ?_
  refine wi4_3 dX6_faring_3 ?_
  exact h
theorem b6_faring_4 {E : eT} {Q : Int32 → vT → Prop} {V : vT} {x1 x2 x3 : Int32} (hT : TW E) (h : (96 ≤ x3 → Q x2 V) ∧ (x3 < 96 → vp_in (0 + x3) 315 ∧ ((¬ (V 215 ((0 + x3).toNatClampNeg)) = x1 → w6_faring E Q 4 [some (vr 214), some (vi x1), some (vi x2), some (vi (x3 + 1))] [] V) ∧ ((V 215 ((0 + x3).toNatClampNeg)) = x1 → w6_faring E Q 4 [some (vr 214), some (vi x1), some (vi (x2 + 1)), some (vi (x3 + 1))] [] V)))) : w6_faring E Q 4 [some (vr 214), some (vi x1), some (vi x2), some (vi x3)] [] V := by
  refine wp_iload_n dX6_faring_4 rfl ?_
  refine wp_bipush (v := 96) dX6_faring_5 rfl ?_
  refine wp_icmp_ge 32 dX6_faring_7 (by decide) (fun hc => ?_) (fun hc => ?_)
  · replace h := h.1 hc
    refine wp_iload_n dX6_faring_32 rfl ?_
    exact wp_iret dX6_faring_33 rfl ⟨_, rfl, rfl, rfl, rfl, h⟩
  · replace h := h.2 (Int32.not_le.mp hc)
    refine wp_aload_n dX6_faring_10 rfl ?_
    refine wp_getrs dX6_faring_11 fk6_7 (tb_214 hT) (tk_214 hT) rfl (tr_0 hT) ?_
    refine wp_iconst (v := 0) dX6_faring_14 rfl ?_
    refine wp_iload_n dX6_faring_15 rfl ?_
    refine wp_iadd dX6_faring_16 ?_
    refine wp_iald dX6_faring_17 (tb_215 hT).2 (tk_215 hT) h.1 ?_
    replace h := h.2
    refine wp_iload_n dX6_faring_18 rfl ?_
    refine wp_icmp_ne 26 dX6_faring_19 (by decide) (fun hc => ?_) (fun hc => ?_)
    · replace h := h.1 hc
      refine wc4_3 1 dX6_faring_26 rfl ?_
      refine wp_goto 4 dX6_faring_29 (by decide) ?_
      exact h
    · replace h := h.2 hc
      refine wp_iload_n dX6_faring_22 rfl ?_
      refine wp_iconst (v := 1) dX6_faring_23 rfl ?_
      refine wp_iadd dX6_faring_24 ?_
      refine wi4_2 dX6_faring_25 ?_
      refine wc4_3 1 dX6_faring_26 rfl ?_
      refine wp_goto 4 dX6_faring_29 (by decide) ?_
      exact h
theorem n6_faring {E : eT} {Q : Int32 → vT → Prop} {V : vT} {x1 : Int32} (h : w6_faring E Q 0 [some (vr 214), some (vi x1), none, none] [] V) : c6_faring E x1 V Q := MOk.enter [some (vr 214), some (vi x1), none, none] pn_6 rfl rfl (Nat.le_of_ble_eq_true rfl) rfl h
theorem b6_tried_0 {E : eT} {Q : Int32 → vT → Prop} {V : vT} {x1 x2 : Int32} (hT : TW E) (h : c6_in E x1 1 100 V (fun r4 V4 => (r4 = 0 → Q (-1) V4) ∧ (¬ r4 = 0 → c6_in E x2 0 4 V4 (fun r13 V13 => (¬ r13 = 0 → c6_copies E 215 216 V13 (fun V29 => c6_minutesGo E x1 V29 (fun V34 => (x2 = 0 → c6_faring E 1 V34 (fun r70 V70 => c6_copies E 216 215 V70 (fun V115 => Q r70 V115))) ∧ (x2 = 1 → c6_faring E 2 V34 (fun r79 V79 => c6_copies E 216 215 V79 (fun V115' => Q r79 V115'))) ∧ (x2 = 2 → c6_copies E 216 215 V34 (fun V115'' => Q (V34 214 34) V115'')) ∧ (x2 = 3 → c6_goneSet E V34 (fun r95 V95 => c6_copies E 216 215 V95 (fun V115''' => Q r95 V115'''))) ∧ (¬ x2 = 0 → ¬ x2 = 1 → ¬ x2 = 2 → ¬ x2 = 3 → c6_sumsInRuins E V34 (fun r103 V103 => c6_copies E 216 215 V103 (fun V115'''' => Q r103 V115'''')))))) ∧ (r13 = 0 → Q (-1) V13))))) : w6_tried E Q 0 [some (vr 214), some (vi x1), some (vi x2), none] [] V := by
  refine wp_iload_n dX6_tried_0 rfl ?_
  refine wp_iconst (v := 1) dX6_tried_1 rfl ?_
  refine wp_bipush (v := 100) dX6_tried_2 rfl ?_
  refine wq_SI3 lk6_102 dX6_tried_4 h (rmQ_ok (by decide) (by decide)) ⟨Nat.le_refl _, Nat.le_refl _⟩ (Nat.le_of_ble_eq_true rfl) (fun r4 V4 h => ?_)
  refine wp_if_eq 19 dX6_tried_7 (by decide) (fun hc => ?_) (fun hc => ?_)
  · replace h := h.1 hc
    refine wp_iconst (v := (-1)) dX6_tried_19 rfl ?_
    exact wp_iret dX6_tried_20 rfl ⟨_, rfl, rfl, rfl, rfl, h⟩
  · replace h := h.2 hc
    refine wp_iload_n dX6_tried_10 rfl ?_
    refine wp_iconst (v := 0) dX6_tried_11 rfl ?_
    refine wp_iconst (v := 4) dX6_tried_12 rfl ?_
    refine wq_SI3 lk6_102 dX6_tried_13 h (rmQ_ok (by decide) (by decide)) ⟨Nat.le_refl _, Nat.le_refl _⟩ (Nat.le_of_ble_eq_true rfl) (fun r13 V13 h => ?_)
    refine wp_if_ne 21 dX6_tried_16 (by decide) (fun hc => ?_) (fun hc => ?_)
    · replace h := h.1 hc
      refine wp_aload_n dX6_tried_21 rfl ?_
      refine wp_getrs dX6_tried_22 fk6_7 (tb_214 hT) (tk_214 hT) rfl (tr_0 hT) ?_
      refine wp_aload_n dX6_tried_25 rfl ?_
      refine wp_getrs dX6_tried_26 fk6_13 (tb_214 hT) (tk_214 hT) rfl (tr_1 hT) ?_
      refine wq_SV2 lk6_271 dX6_tried_29 h (rmQ_ok (by decide) (by decide)) ⟨Nat.le_refl _, Nat.le_refl _⟩ (Nat.le_of_ble_eq_true rfl) (fun V29 h => ?_)
      refine wp_aload_n dX6_tried_32 rfl ?_
      refine wp_iload_n dX6_tried_33 rfl ?_
      refine wq_VV1 lk6_322 rfl (tb_214 hT) (tk_214 hT) dX6_tried_34 h (rmQ_ok (by decide) (by decide)) ⟨Nat.le_refl _, Nat.le_refl _⟩ (Nat.le_of_ble_eq_true rfl) (fun V34 h => ?_)
      refine wp_iload_n dX6_tried_37 rfl ?_
      by_cases hc0 : x2 = 0
      · replace h := h.1 hc0
        rw [hc0]
        refine wp_tableIn 68 dX6_tried_38 (by decide) (by decide) rfl (by decide) ?_
        refine wp_aload_n dX6_tried_68 rfl ?_
        refine wp_iconst (v := 1) dX6_tried_69 rfl ?_
        refine wq_VI1 lk6_325 rfl (tb_214 hT) (tk_214 hT) dX6_tried_70 h (rmQ_ok (by decide) (by decide)) ⟨Nat.le_refl _, Nat.le_refl _⟩ (Nat.le_of_ble_eq_true rfl) (fun r70 V70 h => ?_)
        refine wi4_3 dX6_tried_73 ?_
        refine wp_goto 107 dX6_tried_74 (by decide) ?_
        refine wp_aload_n dX6_tried_107 rfl ?_
        refine wp_getrs dX6_tried_108 fk6_13 (tb_214 hT) (tk_214 hT) rfl (tr_1 hT) ?_
        refine wp_aload_n dX6_tried_111 rfl ?_
        refine wp_getrs dX6_tried_112 fk6_7 (tb_214 hT) (tk_214 hT) rfl (tr_0 hT) ?_
        refine wq_SV2 lk6_271 dX6_tried_115 h (rmQ_ok (by decide) (by decide)) ⟨Nat.le_refl _, Nat.le_refl _⟩ (Nat.le_of_ble_eq_true rfl) (fun V115 h => ?_)
        refine wp_iload_n dX6_tried_118 rfl ?_
        exact wp_iret dX6_tried_119 rfl ⟨_, rfl, rfl, rfl, rfl, h⟩
      · skip
        by_cases hc1 : x2 = 1
        · replace h := h.2.1 hc1
          rw [hc1]
          refine wp_tableIn 77 dX6_tried_38 (by decide) (by decide) rfl (by decide) ?_
          refine wp_aload_n dX6_tried_77 rfl ?_
          refine wp_iconst (v := 2) dX6_tried_78 rfl ?_
          refine wq_VI1 lk6_325 rfl (tb_214 hT) (tk_214 hT) dX6_tried_79 h (rmQ_ok (by decide) (by decide)) ⟨Nat.le_refl _, Nat.le_refl _⟩ (Nat.le_of_ble_eq_true rfl) (fun r79 V79 h => ?_)
          refine wi4_3 dX6_tried_82 ?_
          refine wp_goto 107 dX6_tried_83 (by decide) ?_
          refine wp_aload_n dX6_tried_107 rfl ?_
          refine wp_getrs dX6_tried_108 fk6_13 (tb_214 hT) (tk_214 hT) rfl (tr_1 hT) ?_
          refine wp_aload_n dX6_tried_111 rfl ?_
          refine wp_getrs dX6_tried_112 fk6_7 (tb_214 hT) (tk_214 hT) rfl (tr_0 hT) ?_
          refine wq_SV2 lk6_271 dX6_tried_115 h (rmQ_ok (by decide) (by decide)) ⟨Nat.le_refl _, Nat.le_refl _⟩ (Nat.le_of_ble_eq_true rfl) (fun V115' h => ?_)
          refine wp_iload_n dX6_tried_118 rfl ?_
          exact wp_iret dX6_tried_119 rfl ⟨_, rfl, rfl, rfl, rfl, h⟩
        · skip
          by_cases hc2 : x2 = 2
          · replace h := h.2.2.1 hc2
            rw [hc2]
            refine wp_tableIn 86 dX6_tried_38 (by decide) (by decide) rfl (by decide) ?_
            refine wp_aload_n dX6_tried_86 rfl ?_
            refine wp_geti dX6_tried_87 fk6_294 (tb_214 hT) (tk_214 hT) rfl ?_
            refine wi4_3 dX6_tried_90 ?_
            refine wp_goto 107 dX6_tried_91 (by decide) ?_
            refine wp_aload_n dX6_tried_107 rfl ?_
            refine wp_getrs dX6_tried_108 fk6_13 (tb_214 hT) (tk_214 hT) rfl (tr_1 hT) ?_
            refine wp_aload_n dX6_tried_111 rfl ?_
            refine wp_getrs dX6_tried_112 fk6_7 (tb_214 hT) (tk_214 hT) rfl (tr_0 hT) ?_
            refine wq_SV2 lk6_271 dX6_tried_115 h (rmQ_ok (by decide) (by decide)) ⟨Nat.le_refl _, Nat.le_refl _⟩ (Nat.le_of_ble_eq_true rfl) (fun V115'' h => ?_)
            refine wp_iload_n dX6_tried_118 rfl ?_
            exact wp_iret dX6_tried_119 rfl ⟨_, rfl, rfl, rfl, rfl, h⟩
          · skip
            by_cases hc3 : x2 = 3
            · replace h := h.2.2.2.1 hc3
              rw [hc3]
              refine wp_tableIn 94 dX6_tried_38 (by decide) (by decide) rfl (by decide) ?_
              refine wp_aload_n dX6_tried_94 rfl ?_
              refine wq_VI0 lk6_328 rfl (tb_214 hT) (tk_214 hT) dX6_tried_95 h (rmQ_ok (by decide) (by decide)) ⟨Nat.le_refl _, Nat.le_refl _⟩ (Nat.le_of_ble_eq_true rfl) (fun r95 V95 h => ?_)
              refine wi4_3 dX6_tried_98 ?_
              refine wp_goto 107 dX6_tried_99 (by decide) ?_
              refine wp_aload_n dX6_tried_107 rfl ?_
              refine wp_getrs dX6_tried_108 fk6_13 (tb_214 hT) (tk_214 hT) rfl (tr_1 hT) ?_
              refine wp_aload_n dX6_tried_111 rfl ?_
              refine wp_getrs dX6_tried_112 fk6_7 (tb_214 hT) (tk_214 hT) rfl (tr_0 hT) ?_
              refine wq_SV2 lk6_271 dX6_tried_115 h (rmQ_ok (by decide) (by decide)) ⟨Nat.le_refl _, Nat.le_refl _⟩ (Nat.le_of_ble_eq_true rfl) (fun V115''' h => ?_)
              refine wp_iload_n dX6_tried_118 rfl ?_
              exact wp_iret dX6_tried_119 rfl ⟨_, rfl, rfl, rfl, rfl, h⟩
            · skip
              replace h := h.2.2.2.2 hc0 hc1 hc2 hc3
              refine wp_tableD 102 dX6_tried_38 (fun j9 h8 h9 => ?_) (by decide) ?_
              · rcases (show j9 = 0 ∨ j9 = 1 ∨ j9 = 2 ∨ j9 = 3 by omega) with rfl | rfl | rfl | rfl
                · exact absurd h9 (tab_ne hc0 (by decide))
                · exact absurd h9 (tab_ne hc1 (by decide))
                · exact absurd h9 (tab_ne hc2 (by decide))
                · exact absurd h9 (tab_ne hc3 (by decide))
              refine wp_aload_n dX6_tried_102 rfl ?_
              refine wq_VI0 lk6_331 rfl (tb_214 hT) (tk_214 hT) dX6_tried_103 h (rmQ_ok (by decide) (by decide)) ⟨Nat.le_refl _, Nat.le_refl _⟩ (Nat.le_of_ble_eq_true rfl) (fun r103 V103 h => ?_)
              refine wi4_3 dX6_tried_106 ?_
              refine wp_aload_n dX6_tried_107 rfl ?_
              refine wp_getrs dX6_tried_108 fk6_13 (tb_214 hT) (tk_214 hT) rfl (tr_1 hT) ?_
              refine wp_aload_n dX6_tried_111 rfl ?_
              refine wp_getrs dX6_tried_112 fk6_7 (tb_214 hT) (tk_214 hT) rfl (tr_0 hT) ?_
              refine wq_SV2 lk6_271 dX6_tried_115 h (rmQ_ok (by decide) (by decide)) ⟨Nat.le_refl _, Nat.le_refl _⟩ (Nat.le_of_ble_eq_true rfl) (fun V115'''' h => ?_)
              refine wp_iload_n dX6_tried_118 rfl ?_
              exact wp_iret dX6_tried_119 rfl ⟨_, rfl, rfl, rfl, rfl, h⟩
    · replace h := h.2 hc
      refine wp_iconst (v := (-1)) dX6_tried_19 rfl ?_
      exact wp_iret dX6_tried_20 rfl ⟨_, rfl, rfl, rfl, rfl, h⟩
theorem n6_tried {E : eT} {Q : Int32 → vT → Prop} {V : vT} {x1 x2 : Int32} (h : w6_tried E Q 0 [some (vr 214), some (vi x1), some (vi x2), none] [] V) : c6_tried E x1 x2 V Q := MOk.enter [some (vr 214), some (vi x1), some (vi x2), none] pn_6 rfl rfl (Nat.le_of_ble_eq_true rfl) rfl h
theorem b6_goneSet_0 {E : eT} {Q : Int32 → vT → Prop} {V : vT} (hT : TW E) (h : w6_goneSet E Q 4 [some (vr 214), some (vi 0), some (vi 0)] [] V) : w6_goneSet E Q 0 [some (vr 214), none, none] [] V := by
  refine wp_iconst (v := 0) dX6_goneSet_0 rfl ?_
  refine wi3_1 dX6_goneSet_1 ?_
  refine wp_iconst (v := 0) dX6_goneSet_2 rfl ?_
  refine wi3_2 dX6_goneSet_3 ?_
  exact h
theorem b6_goneSet_4 {E : eT} {Q : Int32 → vT → Prop} {V : vT} {x1 x2 : Int32} (hT : TW E) (h : (24 ≤ x2 → Q x1 V) ∧ (x2 < 24 → c6_isThing E x2 V (fun r12 V12 => (r12 = 0 → w6_goneSet E Q 4 [some (vr 214), some (vi x1), some (vi (x2 + 1))] [] V12) ∧ (¬ r12 = 0 → vp_in (288 + x2) 315 ∧ ((¬ (V12 215 ((288 + x2).toNatClampNeg)) = 1 → w6_goneSet E Q 4 [some (vr 214), some (vi x1), some (vi (x2 + 1))] [] V12) ∧ ((V12 215 ((288 + x2).toNatClampNeg)) = 1 → w6_goneSet E Q 4 [some (vr 214), some (vi (x1 ||| ((1 : Int32) <<< (x2 &&& 31)))), some (vi (x2 + 1))] [] V12)))))) : w6_goneSet E Q 4 [some (vr 214), some (vi x1), some (vi x2)] [] V := by
  refine wp_iload_n dX6_goneSet_4 rfl ?_
  refine wp_bipush (v := 24) dX6_goneSet_5 rfl ?_
  refine wp_icmp_ge 44 dX6_goneSet_7 (by decide) (fun hc => ?_) (fun hc => ?_)
  · replace h := h.1 hc
    refine wp_iload_n dX6_goneSet_44 rfl ?_
    exact wp_iret dX6_goneSet_45 rfl ⟨_, rfl, rfl, rfl, rfl, h⟩
  · replace h := h.2 (Int32.not_le.mp hc)
    refine wp_aload_n dX6_goneSet_10 rfl ?_
    refine wp_iload_n dX6_goneSet_11 rfl ?_
    refine wq_VI1 lk6_114 rfl (tb_214 hT) (tk_214 hT) dX6_goneSet_12 h (rmQ_ok (by decide) (by decide)) ⟨Nat.le_refl _, Nat.le_refl _⟩ (Nat.le_of_ble_eq_true rfl) (fun r12 V12 h => ?_)
    refine wp_if_eq 38 dX6_goneSet_15 (by decide) (fun hc => ?_) (fun hc => ?_)
    · replace h := h.1 hc
      refine wc3_2 1 dX6_goneSet_38 rfl ?_
      refine wp_goto 4 dX6_goneSet_41 (by decide) ?_
      exact h
    · replace h := h.2 hc
      refine wp_aload_n dX6_goneSet_18 rfl ?_
      refine wp_getrs dX6_goneSet_19 fk6_7 (tb_214 hT) (tk_214 hT) rfl (tr_0 hT) ?_
      refine wp_sipush (v := 288) dX6_goneSet_22 rfl ?_
      refine wp_iload_n dX6_goneSet_25 rfl ?_
      refine wp_iadd dX6_goneSet_26 ?_
      refine wp_iald dX6_goneSet_27 (tb_215 hT).2 (tk_215 hT) h.1 ?_
      replace h := h.2
      refine wp_iconst (v := 1) dX6_goneSet_28 rfl ?_
      refine wp_icmp_ne 38 dX6_goneSet_29 (by decide) (fun hc => ?_) (fun hc => ?_)
      · replace h := h.1 hc
        refine wc3_2 1 dX6_goneSet_38 rfl ?_
        refine wp_goto 4 dX6_goneSet_41 (by decide) ?_
        exact h
      · replace h := h.2 hc
        refine wp_iload_n dX6_goneSet_32 rfl ?_
        refine wp_iconst (v := 1) dX6_goneSet_33 rfl ?_
        refine wp_iload_n dX6_goneSet_34 rfl ?_
        refine wp_ishl dX6_goneSet_35 ?_
        refine wp_ior dX6_goneSet_36 ?_
        refine wi3_1 dX6_goneSet_37 ?_
        refine wc3_2 1 dX6_goneSet_38 rfl ?_
        refine wp_goto 4 dX6_goneSet_41 (by decide) ?_
        exact h
theorem n6_goneSet {E : eT} {Q : Int32 → vT → Prop} {V : vT} (h : w6_goneSet E Q 0 [some (vr 214), none, none] [] V) : c6_goneSet E V Q := MOk.enter [some (vr 214), none, none] pn_6 rfl rfl (Nat.le_of_ble_eq_true rfl) rfl h
theorem b6_sumsInRuins_0 {E : eT} {Q : Int32 → vT → Prop} {V : vT} (hT : TW E) (h : w6_sumsInRuins E Q 4 [some (vr 214), some (vi 0), some (vi 0)] [] V) : w6_sumsInRuins E Q 0 [some (vr 214), none, none] [] V := by
  refine wp_iconst (v := 0) dX6_sumsInRuins_0 rfl ?_
  refine wi3_1 dX6_sumsInRuins_1 ?_
  refine wp_iconst (v := 0) dX6_sumsInRuins_2 rfl ?_
  refine wi3_2 dX6_sumsInRuins_3 ?_
  exact h
theorem b6_sumsInRuins_4 {E : eT} {Q : Int32 → vT → Prop} {V : vT} {x1 x2 : Int32} (hT : TW E) (h : (96 ≤ x2 → Q x1 V) ∧ (x2 < 96 → vp_in (0 + x2) 315 ∧ (((V 215 ((0 + x2).toNatClampNeg)) = 0 → w6_sumsInRuins E Q 4 [some (vr 214), some (vi x1), some (vi (x2 + 1))] [] V) ∧ (¬ (V 215 ((0 + x2).toNatClampNeg)) = 0 → c6_sumsAt E x2 V (fun r24 V24 => w6_sumsInRuins E Q 4 [some (vr 214), some (vi (x1 + r24)), some (vi (x2 + 1))] [] V24))))) : w6_sumsInRuins E Q 4 [some (vr 214), some (vi x1), some (vi x2)] [] V := by
  refine wp_iload_n dX6_sumsInRuins_4 rfl ?_
  refine wp_bipush (v := 96) dX6_sumsInRuins_5 rfl ?_
  refine wp_icmp_ge 35 dX6_sumsInRuins_7 (by decide) (fun hc => ?_) (fun hc => ?_)
  · replace h := h.1 hc
    refine wp_iload_n dX6_sumsInRuins_35 rfl ?_
    exact wp_iret dX6_sumsInRuins_36 rfl ⟨_, rfl, rfl, rfl, rfl, h⟩
  · replace h := h.2 (Int32.not_le.mp hc)
    refine wp_aload_n dX6_sumsInRuins_10 rfl ?_
    refine wp_getrs dX6_sumsInRuins_11 fk6_7 (tb_214 hT) (tk_214 hT) rfl (tr_0 hT) ?_
    refine wp_iconst (v := 0) dX6_sumsInRuins_14 rfl ?_
    refine wp_iload_n dX6_sumsInRuins_15 rfl ?_
    refine wp_iadd dX6_sumsInRuins_16 ?_
    refine wp_iald dX6_sumsInRuins_17 (tb_215 hT).2 (tk_215 hT) h.1 ?_
    replace h := h.2
    refine wp_if_eq 29 dX6_sumsInRuins_18 (by decide) (fun hc => ?_) (fun hc => ?_)
    · replace h := h.1 hc
      refine wc3_2 1 dX6_sumsInRuins_29 rfl ?_
      refine wp_goto 4 dX6_sumsInRuins_32 (by decide) ?_
      exact h
    · replace h := h.2 hc
      refine wp_iload_n dX6_sumsInRuins_21 rfl ?_
      refine wp_aload_n dX6_sumsInRuins_22 rfl ?_
      refine wp_iload_n dX6_sumsInRuins_23 rfl ?_
      refine wq_VI1 lk6_290 rfl (tb_214 hT) (tk_214 hT) dX6_sumsInRuins_24 h (rmQ_ok (by decide) (by decide)) ⟨Nat.le_refl _, Nat.le_refl _⟩ (Nat.le_of_ble_eq_true rfl) (fun r24 V24 h => ?_)
      refine wp_iadd dX6_sumsInRuins_27 ?_
      refine wi3_1 dX6_sumsInRuins_28 ?_
      refine wc3_2 1 dX6_sumsInRuins_29 rfl ?_
      refine wp_goto 4 dX6_sumsInRuins_32 (by decide) ?_
      exact h
theorem n6_sumsInRuins {E : eT} {Q : Int32 → vT → Prop} {V : vT} (h : w6_sumsInRuins E Q 0 [some (vr 214), none, none] [] V) : c6_sumsInRuins E V Q := MOk.enter [some (vr 214), none, none] pn_6 rfl rfl (Nat.le_of_ble_eq_true rfl) rfl h
theorem b6_placeIs_0 {E : eT} {Q : Int32 → vT → Prop} {V : vT} {x1 x2 x3 : Int32} (hT : TW E) (h : c6_isSpot E x1 x2 V (fun r2 V2 => (¬ r2 = 0 → (x3 = 0 → vp_in ((12 * x2) + x1) 96 ∧ (Q (V2 218 (((12 * x2) + x1).toNatClampNeg)) V2)) ∧ (x3 = 1 → vp_in (0 + ((12 * x2) + x1)) 315 ∧ (Q (V2 215 ((0 + ((12 * x2) + x1)).toNatClampNeg)) V2)) ∧ (x3 = 2 → vp_in (96 + ((12 * x2) + x1)) 315 ∧ (Q (V2 215 ((96 + ((12 * x2) + x1)).toNatClampNeg)) V2)) ∧ (x3 = 3 → c6_thingsAt E ((12 * x2) + x1) V2 (fun r88 V88 => Q r88 V88)) ∧ (x3 = 4 → c6_valuesAt E ((12 * x2) + x1) V2 (fun r95 V95 => Q r95 V95)) ∧ (x3 = 5 → c6_sumsAt E ((12 * x2) + x1) V2 (fun r102 V102 => Q r102 V102)) ∧ (¬ x3 = 0 → ¬ x3 = 1 → ¬ x3 = 2 → ¬ x3 = 3 → ¬ x3 = 4 → ¬ x3 = 5 → Q (-1) V2)) ∧ (r2 = 0 → Q (-1) V2))) : w6_placeIs E Q 0 [some (vr 214), some (vi x1), some (vi x2), some (vi x3), none] [] V := by
  refine wp_iload_n dX6_placeIs_0 rfl ?_
  refine wp_iload_n dX6_placeIs_1 rfl ?_
  refine wq_SI2 lk6_106 dX6_placeIs_2 h (rmQ_ok (by decide) (by decide)) ⟨Nat.le_refl _, Nat.le_refl _⟩ (Nat.le_of_ble_eq_true rfl) (fun r2 V2 h => ?_)
  refine wp_if_ne 10 dX6_placeIs_5 (by decide) (fun hc => ?_) (fun hc => ?_)
  · replace h := h.1 hc
    refine wp_bipush (v := 12) dX6_placeIs_10 rfl ?_
    refine wp_iload_n dX6_placeIs_12 rfl ?_
    refine wp_imul dX6_placeIs_13 ?_
    refine wp_iload_n dX6_placeIs_14 rfl ?_
    refine wp_iadd dX6_placeIs_15 ?_
    refine wi5_4 dX6_placeIs_16 ?_
    refine wp_iload_n dX6_placeIs_18 rfl ?_
    by_cases hc0 : x3 = 0
    · replace h := h.1 hc0
      rw [hc0]
      refine wp_tableIn 56 dX6_placeIs_19 (by decide) (by decide) rfl (by decide) ?_
      refine wp_aload_n dX6_placeIs_56 rfl ?_
      refine wp_getrs dX6_placeIs_57 fk6_19 (tb_214 hT) (tk_214 hT) rfl (tr_3 hT) ?_
      refine wp_iload dX6_placeIs_60 rfl ?_
      refine wp_iald dX6_placeIs_62 (tb_218 hT).2 (tk_218 hT) h.1 ?_
      replace h := h.2
      exact wp_iret dX6_placeIs_63 rfl ⟨_, rfl, rfl, rfl, rfl, h⟩
    · skip
      by_cases hc1 : x3 = 1
      · replace h := h.2.1 hc1
        rw [hc1]
        refine wp_tableIn 64 dX6_placeIs_19 (by decide) (by decide) rfl (by decide) ?_
        refine wp_aload_n dX6_placeIs_64 rfl ?_
        refine wp_getrs dX6_placeIs_65 fk6_7 (tb_214 hT) (tk_214 hT) rfl (tr_0 hT) ?_
        refine wp_iconst (v := 0) dX6_placeIs_68 rfl ?_
        refine wp_iload dX6_placeIs_69 rfl ?_
        refine wp_iadd dX6_placeIs_71 ?_
        refine wp_iald dX6_placeIs_72 (tb_215 hT).2 (tk_215 hT) h.1 ?_
        replace h := h.2
        exact wp_iret dX6_placeIs_73 rfl ⟨_, rfl, rfl, rfl, rfl, h⟩
      · skip
        by_cases hc2 : x3 = 2
        · replace h := h.2.2.1 hc2
          rw [hc2]
          refine wp_tableIn 74 dX6_placeIs_19 (by decide) (by decide) rfl (by decide) ?_
          refine wp_aload_n dX6_placeIs_74 rfl ?_
          refine wp_getrs dX6_placeIs_75 fk6_7 (tb_214 hT) (tk_214 hT) rfl (tr_0 hT) ?_
          refine wp_bipush (v := 96) dX6_placeIs_78 rfl ?_
          refine wp_iload dX6_placeIs_80 rfl ?_
          refine wp_iadd dX6_placeIs_82 ?_
          refine wp_iald dX6_placeIs_83 (tb_215 hT).2 (tk_215 hT) h.1 ?_
          replace h := h.2
          exact wp_iret dX6_placeIs_84 rfl ⟨_, rfl, rfl, rfl, rfl, h⟩
        · skip
          by_cases hc3 : x3 = 3
          · replace h := h.2.2.2.1 hc3
            rw [hc3]
            refine wp_tableIn 85 dX6_placeIs_19 (by decide) (by decide) rfl (by decide) ?_
            refine wp_aload_n dX6_placeIs_85 rfl ?_
            refine wp_iload dX6_placeIs_86 rfl ?_
            refine wq_VI1 lk6_334 rfl (tb_214 hT) (tk_214 hT) dX6_placeIs_88 h (rmQ_ok (by decide) (by decide)) ⟨Nat.le_refl _, Nat.le_refl _⟩ (Nat.le_of_ble_eq_true rfl) (fun r88 V88 h => ?_)
            exact wp_iret dX6_placeIs_91 rfl ⟨_, rfl, rfl, rfl, rfl, h⟩
          · skip
            by_cases hc4 : x3 = 4
            · replace h := h.2.2.2.2.1 hc4
              rw [hc4]
              refine wp_tableIn 92 dX6_placeIs_19 (by decide) (by decide) rfl (by decide) ?_
              refine wp_aload_n dX6_placeIs_92 rfl ?_
              refine wp_iload dX6_placeIs_93 rfl ?_
              refine wq_VI1 lk6_287 rfl (tb_214 hT) (tk_214 hT) dX6_placeIs_95 h (rmQ_ok (by decide) (by decide)) ⟨Nat.le_refl _, Nat.le_refl _⟩ (Nat.le_of_ble_eq_true rfl) (fun r95 V95 h => ?_)
              exact wp_iret dX6_placeIs_98 rfl ⟨_, rfl, rfl, rfl, rfl, h⟩
            · skip
              by_cases hc5 : x3 = 5
              · replace h := h.2.2.2.2.2.1 hc5
                rw [hc5]
                refine wp_tableIn 99 dX6_placeIs_19 (by decide) (by decide) rfl (by decide) ?_
                refine wp_aload_n dX6_placeIs_99 rfl ?_
                refine wp_iload dX6_placeIs_100 rfl ?_
                refine wq_VI1 lk6_290 rfl (tb_214 hT) (tk_214 hT) dX6_placeIs_102 h (rmQ_ok (by decide) (by decide)) ⟨Nat.le_refl _, Nat.le_refl _⟩ (Nat.le_of_ble_eq_true rfl) (fun r102 V102 h => ?_)
                exact wp_iret dX6_placeIs_105 rfl ⟨_, rfl, rfl, rfl, rfl, h⟩
              · skip
                replace h := h.2.2.2.2.2.2 hc0 hc1 hc2 hc3 hc4 hc5
                refine wp_tableD 106 dX6_placeIs_19 (fun j9 h8 h9 => ?_) (by decide) ?_
                · rcases (show j9 = 0 ∨ j9 = 1 ∨ j9 = 2 ∨ j9 = 3 ∨ j9 = 4 ∨ j9 = 5 by omega) with rfl | rfl | rfl | rfl | rfl | rfl
                  · exact absurd h9 (tab_ne hc0 (by decide))
                  · exact absurd h9 (tab_ne hc1 (by decide))
                  · exact absurd h9 (tab_ne hc2 (by decide))
                  · exact absurd h9 (tab_ne hc3 (by decide))
                  · exact absurd h9 (tab_ne hc4 (by decide))
                  · exact absurd h9 (tab_ne hc5 (by decide))
                refine wp_iconst (v := (-1)) dX6_placeIs_106 rfl ?_
                exact wp_iret dX6_placeIs_107 rfl ⟨_, rfl, rfl, rfl, rfl, h⟩
  · replace h := h.2 hc
    refine wp_iconst (v := (-1)) dX6_placeIs_8 rfl ?_
    exact wp_iret dX6_placeIs_9 rfl ⟨_, rfl, rfl, rfl, rfl, h⟩
theorem n6_placeIs {E : eT} {Q : Int32 → vT → Prop} {V : vT} {x1 x2 x3 : Int32} (h : w6_placeIs E Q 0 [some (vr 214), some (vi x1), some (vi x2), some (vi x3), none] [] V) : c6_placeIs E x1 x2 x3 V Q := MOk.enter [some (vr 214), some (vi x1), some (vi x2), some (vi x3), none] pn_6 rfl rfl (Nat.le_of_ble_eq_true rfl) rfl h
theorem b6_thingsAt_0 {E : eT} {Q : Int32 → vT → Prop} {V : vT} {x1 : Int32} (hT : TW E) (h : w6_thingsAt E Q 4 [some (vr 214), some (vi x1), some (vi 0), some (vi 0)] [] V) : w6_thingsAt E Q 0 [some (vr 214), some (vi x1), none, none] [] V := by
  refine wp_iconst (v := 0) dX6_thingsAt_0 rfl ?_
  refine wi4_2 dX6_thingsAt_1 ?_
  refine wp_iconst (v := 0) dX6_thingsAt_2 rfl ?_
  refine wi4_3 dX6_thingsAt_3 ?_
  exact h
theorem b6_thingsAt_4 {E : eT} {Q : Int32 → vT → Prop} {V : vT} {x1 x2 x3 : Int32} (hT : TW E) (h : (24 ≤ x3 → Q x2 V) ∧ (x3 < 24 → c6_liesAt E x3 x1 V (fun r13 V13 => (r13 = 0 → w6_thingsAt E Q 4 [some (vr 214), some (vi x1), some (vi x2), some (vi (x3 + 1))] [] V13) ∧ (¬ r13 = 0 → w6_thingsAt E Q 4 [some (vr 214), some (vi x1), some (vi (x2 ||| ((1 : Int32) <<< (x3 &&& 31)))), some (vi (x3 + 1))] [] V13)))) : w6_thingsAt E Q 4 [some (vr 214), some (vi x1), some (vi x2), some (vi x3)] [] V := by
  refine wp_iload_n dX6_thingsAt_4 rfl ?_
  refine wp_bipush (v := 24) dX6_thingsAt_5 rfl ?_
  refine wp_icmp_ge 31 dX6_thingsAt_7 (by decide) (fun hc => ?_) (fun hc => ?_)
  · replace h := h.1 hc
    refine wp_iload_n dX6_thingsAt_31 rfl ?_
    exact wp_iret dX6_thingsAt_32 rfl ⟨_, rfl, rfl, rfl, rfl, h⟩
  · replace h := h.2 (Int32.not_le.mp hc)
    refine wp_aload_n dX6_thingsAt_10 rfl ?_
    refine wp_iload_n dX6_thingsAt_11 rfl ?_
    refine wp_iload_n dX6_thingsAt_12 rfl ?_
    refine wq_VI2 lk6_278 rfl (tb_214 hT) (tk_214 hT) dX6_thingsAt_13 h (rmQ_ok (by decide) (by decide)) ⟨Nat.le_refl _, Nat.le_refl _⟩ (Nat.le_of_ble_eq_true rfl) (fun r13 V13 h => ?_)
    refine wp_if_eq 25 dX6_thingsAt_16 (by decide) (fun hc => ?_) (fun hc => ?_)
    · replace h := h.1 hc
      refine wc4_3 1 dX6_thingsAt_25 rfl ?_
      refine wp_goto 4 dX6_thingsAt_28 (by decide) ?_
      exact h
    · replace h := h.2 hc
      refine wp_iload_n dX6_thingsAt_19 rfl ?_
      refine wp_iconst (v := 1) dX6_thingsAt_20 rfl ?_
      refine wp_iload_n dX6_thingsAt_21 rfl ?_
      refine wp_ishl dX6_thingsAt_22 ?_
      refine wp_ior dX6_thingsAt_23 ?_
      refine wi4_2 dX6_thingsAt_24 ?_
      refine wc4_3 1 dX6_thingsAt_25 rfl ?_
      refine wp_goto 4 dX6_thingsAt_28 (by decide) ?_
      exact h
theorem n6_thingsAt {E : eT} {Q : Int32 → vT → Prop} {V : vT} {x1 : Int32} (h : w6_thingsAt E Q 0 [some (vr 214), some (vi x1), none, none] [] V) : c6_thingsAt E x1 V Q := MOk.enter [some (vr 214), some (vi x1), none, none] pn_6 rfl rfl (Nat.le_of_ble_eq_true rfl) rfl h
theorem b6_thingIs_0 {E : eT} {Q : Int32 → vT → Prop} {V : vT} {x1 x2 : Int32} (hT : TW E) (h : c6_isThing E x1 V (fun r2 V2 => (¬ r2 = 0 → vp_in (240 + x1) 315 ∧ (vp_in (264 + x1) 315 ∧ ((x2 = 0 → vp_in (216 + x1) 315 ∧ (Q (V2 215 ((216 + x1).toNatClampNeg)) V2)) ∧ (x2 = 1 → Q (V2 215 ((240 + x1).toNatClampNeg)) V2) ∧ (x2 = 2 → Q (V2 215 ((264 + x1).toNatClampNeg)) V2) ∧ (x2 = 3 → vp_in (288 + x1) 315 ∧ (Q (V2 215 ((288 + x1).toNatClampNeg)) V2)) ∧ (x2 = 4 → ((V2 215 ((264 + x1).toNatClampNeg)) < (V2 215 ((240 + x1).toNatClampNeg)) → ¬ (V2 215 ((240 + x1).toNatClampNeg)) = 0 ∧ (Q (((V2 215 ((264 + x1).toNatClampNeg)) * (V2 215 ((264 + x1).toNatClampNeg))) / (V2 215 ((240 + x1).toNatClampNeg))) V2)) ∧ ((V2 215 ((240 + x1).toNatClampNeg)) ≤ (V2 215 ((264 + x1).toNatClampNeg)) → Q (V2 215 ((240 + x1).toNatClampNeg)) V2)) ∧ (¬ x2 = 0 → ¬ x2 = 1 → ¬ x2 = 2 → ¬ x2 = 3 → ¬ x2 = 4 → Q (-1) V2)))) ∧ (r2 = 0 → Q (-1) V2))) : w6_thingIs E Q 0 [some (vr 214), some (vi x1), some (vi x2), none, none] [] V := by
  refine wp_aload_n dX6_thingIs_0 rfl ?_
  refine wp_iload_n dX6_thingIs_1 rfl ?_
  refine wq_VI1 lk6_114 rfl (tb_214 hT) (tk_214 hT) dX6_thingIs_2 h (rmQ_ok (by decide) (by decide)) ⟨Nat.le_refl _, Nat.le_refl _⟩ (Nat.le_of_ble_eq_true rfl) (fun r2 V2 h => ?_)
  refine wp_if_ne 10 dX6_thingIs_5 (by decide) (fun hc => ?_) (fun hc => ?_)
  · replace h := h.1 hc
    refine wp_aload_n dX6_thingIs_10 rfl ?_
    refine wp_getrs dX6_thingIs_11 fk6_7 (tb_214 hT) (tk_214 hT) rfl (tr_0 hT) ?_
    refine wp_sipush (v := 240) dX6_thingIs_14 rfl ?_
    refine wp_iload_n dX6_thingIs_17 rfl ?_
    refine wp_iadd dX6_thingIs_18 ?_
    refine wp_iald dX6_thingIs_19 (tb_215 hT).2 (tk_215 hT) h.1 ?_
    replace h := h.2
    refine wi5_3 dX6_thingIs_20 ?_
    refine wp_aload_n dX6_thingIs_21 rfl ?_
    refine wp_getrs dX6_thingIs_22 fk6_7 (tb_214 hT) (tk_214 hT) rfl (tr_0 hT) ?_
    refine wp_sipush (v := 264) dX6_thingIs_25 rfl ?_
    refine wp_iload_n dX6_thingIs_28 rfl ?_
    refine wp_iadd dX6_thingIs_29 ?_
    refine wp_iald dX6_thingIs_30 (tb_215 hT).2 (tk_215 hT) h.1 ?_
    replace h := h.2
    refine wi5_4 dX6_thingIs_31 ?_
    refine wp_iload_n dX6_thingIs_33 rfl ?_
    by_cases hc0 : x2 = 0
    · replace h := h.1 hc0
      rw [hc0]
      refine wp_tableIn 68 dX6_thingIs_34 (by decide) (by decide) rfl (by decide) ?_
      refine wp_aload_n dX6_thingIs_68 rfl ?_
      refine wp_getrs dX6_thingIs_69 fk6_7 (tb_214 hT) (tk_214 hT) rfl (tr_0 hT) ?_
      refine wp_sipush (v := 216) dX6_thingIs_72 rfl ?_
      refine wp_iload_n dX6_thingIs_75 rfl ?_
      refine wp_iadd dX6_thingIs_76 ?_
      refine wp_iald dX6_thingIs_77 (tb_215 hT).2 (tk_215 hT) h.1 ?_
      replace h := h.2
      exact wp_iret dX6_thingIs_78 rfl ⟨_, rfl, rfl, rfl, rfl, h⟩
    · skip
      by_cases hc1 : x2 = 1
      · replace h := h.2.1 hc1
        rw [hc1]
        refine wp_tableIn 79 dX6_thingIs_34 (by decide) (by decide) rfl (by decide) ?_
        refine wp_iload_n dX6_thingIs_79 rfl ?_
        exact wp_iret dX6_thingIs_80 rfl ⟨_, rfl, rfl, rfl, rfl, h⟩
      · skip
        by_cases hc2 : x2 = 2
        · replace h := h.2.2.1 hc2
          rw [hc2]
          refine wp_tableIn 81 dX6_thingIs_34 (by decide) (by decide) rfl (by decide) ?_
          refine wp_iload dX6_thingIs_81 rfl ?_
          exact wp_iret dX6_thingIs_83 rfl ⟨_, rfl, rfl, rfl, rfl, h⟩
        · skip
          by_cases hc3 : x2 = 3
          · replace h := h.2.2.2.1 hc3
            rw [hc3]
            refine wp_tableIn 84 dX6_thingIs_34 (by decide) (by decide) rfl (by decide) ?_
            refine wp_aload_n dX6_thingIs_84 rfl ?_
            refine wp_getrs dX6_thingIs_85 fk6_7 (tb_214 hT) (tk_214 hT) rfl (tr_0 hT) ?_
            refine wp_sipush (v := 288) dX6_thingIs_88 rfl ?_
            refine wp_iload_n dX6_thingIs_91 rfl ?_
            refine wp_iadd dX6_thingIs_92 ?_
            refine wp_iald dX6_thingIs_93 (tb_215 hT).2 (tk_215 hT) h.1 ?_
            replace h := h.2
            exact wp_iret dX6_thingIs_94 rfl ⟨_, rfl, rfl, rfl, rfl, h⟩
          · skip
            by_cases hc4 : x2 = 4
            · replace h := h.2.2.2.2.1 hc4
              rw [hc4]
              refine wp_tableIn 95 dX6_thingIs_34 (by decide) (by decide) rfl (by decide) ?_
              refine wp_iload dX6_thingIs_95 rfl ?_
              refine wp_iload_n dX6_thingIs_97 rfl ?_
              refine wp_icmp_lt 105 dX6_thingIs_98 (by decide) (fun hc => ?_) (fun hc => ?_)
              · replace h := h.1 hc
                refine wp_iload dX6_thingIs_105 rfl ?_
                refine wp_iload dX6_thingIs_107 rfl ?_
                refine wp_imul dX6_thingIs_109 ?_
                refine wp_iload_n dX6_thingIs_110 rfl ?_
                refine wp_idiv dX6_thingIs_111 h.1 ?_
                replace h := h.2
                exact wp_iret dX6_thingIs_112 rfl ⟨_, rfl, rfl, rfl, rfl, h⟩
              · replace h := h.2 (Int32.not_lt.mp hc)
                refine wp_iload_n dX6_thingIs_101 rfl ?_
                refine wp_goto 112 dX6_thingIs_102 (by decide) ?_
                exact wp_iret dX6_thingIs_112 rfl ⟨_, rfl, rfl, rfl, rfl, h⟩
            · skip
              replace h := h.2.2.2.2.2 hc0 hc1 hc2 hc3 hc4
              refine wp_tableD 113 dX6_thingIs_34 (fun j9 h8 h9 => ?_) (by decide) ?_
              · rcases (show j9 = 0 ∨ j9 = 1 ∨ j9 = 2 ∨ j9 = 3 ∨ j9 = 4 by omega) with rfl | rfl | rfl | rfl | rfl
                · exact absurd h9 (tab_ne hc0 (by decide))
                · exact absurd h9 (tab_ne hc1 (by decide))
                · exact absurd h9 (tab_ne hc2 (by decide))
                · exact absurd h9 (tab_ne hc3 (by decide))
                · exact absurd h9 (tab_ne hc4 (by decide))
              refine wp_iconst (v := (-1)) dX6_thingIs_113 rfl ?_
              exact wp_iret dX6_thingIs_114 rfl ⟨_, rfl, rfl, rfl, rfl, h⟩
  · replace h := h.2 hc
    refine wp_iconst (v := (-1)) dX6_thingIs_8 rfl ?_
    exact wp_iret dX6_thingIs_9 rfl ⟨_, rfl, rfl, rfl, rfl, h⟩
theorem n6_thingIs {E : eT} {Q : Int32 → vT → Prop} {V : vT} {x1 x2 : Int32} (h : w6_thingIs E Q 0 [some (vr 214), some (vi x1), some (vi x2), none, none] [] V) : c6_thingIs E x1 x2 V Q := MOk.enter [some (vr 214), some (vi x1), some (vi x2), none, none] pn_6 rfl rfl (Nat.le_of_ble_eq_true rfl) rfl h
theorem b6_comes_0 {E : eT} {Q : Int32 → vT → Prop} {V : vT} {x1 x2 x3 : Int32} (hT : TW E) (h : c6_isSpot E x1 x2 V (fun r2 V2 => (r2 = 0 → Q (-1) V2) ∧ (¬ r2 = 0 → c6_in E x3 1 100 V2 (fun r12 V12 => (¬ r12 = 0 → c6_copies E 215 216 V12 (fun V28 => w6_comes E Q 42 [some (vr 214), none, none, some (vi x3), some (vi ((12 * x2) + x1)), some (vi 0), none] [] V28)) ∧ (r12 = 0 → Q (-1) V12))))) : w6_comes E Q 0 [some (vr 214), some (vi x1), some (vi x2), some (vi x3), none, none, none] [] V := by
  refine wp_iload_n dX6_comes_0 rfl ?_
  refine wp_iload_n dX6_comes_1 rfl ?_
  refine wq_SI2 lk6_106 dX6_comes_2 h (rmQ_ok (by decide) (by decide)) ⟨Nat.le_refl _, Nat.le_refl _⟩ (Nat.le_of_ble_eq_true rfl) (fun r2 V2 h => ?_)
  refine wp_if_eq 18 dX6_comes_5 (by decide) (fun hc => ?_) (fun hc => ?_)
  · replace h := h.1 hc
    refine wp_iconst (v := (-1)) dX6_comes_18 rfl ?_
    exact wp_iret dX6_comes_19 rfl ⟨_, rfl, rfl, rfl, rfl, h⟩
  · replace h := h.2 hc
    refine wp_iload_n dX6_comes_8 rfl ?_
    refine wp_iconst (v := 1) dX6_comes_9 rfl ?_
    refine wp_bipush (v := 100) dX6_comes_10 rfl ?_
    refine wq_SI3 lk6_102 dX6_comes_12 h (rmQ_ok (by decide) (by decide)) ⟨Nat.le_refl _, Nat.le_refl _⟩ (Nat.le_of_ble_eq_true rfl) (fun r12 V12 h => ?_)
    refine wp_if_ne 20 dX6_comes_15 (by decide) (fun hc => ?_) (fun hc => ?_)
    · replace h := h.1 hc
      refine wp_aload_n dX6_comes_20 rfl ?_
      refine wp_getrs dX6_comes_21 fk6_7 (tb_214 hT) (tk_214 hT) rfl (tr_0 hT) ?_
      refine wp_aload_n dX6_comes_24 rfl ?_
      refine wp_getrs dX6_comes_25 fk6_13 (tb_214 hT) (tk_214 hT) rfl (tr_1 hT) ?_
      refine wq_SV2 lk6_271 dX6_comes_28 h (rmQ_ok (by decide) (by decide)) ⟨Nat.le_refl _, Nat.le_refl _⟩ (Nat.le_of_ble_eq_true rfl) (fun V28 h => ?_)
      refine wp_bipush (v := 12) dX6_comes_31 rfl ?_
      refine wp_iload_n dX6_comes_33 rfl ?_
      refine wp_imul dX6_comes_34 ?_
      refine wp_iload_n dX6_comes_35 rfl ?_
      refine wp_iadd dX6_comes_36 ?_
      refine wi7_4 dX6_comes_37 ?_
      refine wp_iconst (v := 0) dX6_comes_39 rfl ?_
      refine wi7_5 dX6_comes_40 ?_
      exact wp_drop [some (vr 214), none, none, some (vi x3), some (vi ((12 * x2) + x1)), some (vi 0), none] ⟨rfl, ⟨rfl, ⟨rfl, ⟨rfl, trivial⟩⟩⟩⟩ h
    · replace h := h.2 hc
      refine wp_iconst (v := (-1)) dX6_comes_18 rfl ?_
      exact wp_iret dX6_comes_19 rfl ⟨_, rfl, rfl, rfl, rfl, h⟩
theorem b6_comes_42 {E : eT} {Q : Int32 → vT → Prop} {V : vT} {x3 x4 x5 : Int32} (hT : TW E) (h : vp_in (0 + x4) 315 ∧ ((¬ (V 215 ((0 + x4).toNatClampNeg)) = 0 → vp_in (0 + x4) 315 ∧ (((V 215 ((0 + x4).toNatClampNeg)) = 0 → c6_copies E 216 215 V (fun V114 => Q (-2) V114)) ∧ (¬ (V 215 ((0 + x4).toNatClampNeg)) = 0 → c6_copies E 216 215 V (fun V114' => Q x5 V114')))) ∧ ((V 215 ((0 + x4).toNatClampNeg)) = 0 → (x3 ≤ x5 → vp_in (0 + x4) 315 ∧ (((V 215 ((0 + x4).toNatClampNeg)) = 0 → c6_copies E 216 215 V (fun V114'' => Q (-2) V114'')) ∧ (¬ (V 215 ((0 + x4).toNatClampNeg)) = 0 → c6_copies E 216 215 V (fun V114''' => Q x5 V114''')))) ∧ (x5 < x3 → (9999 ≤ (V 215 313) → vp_in (0 + x4) 315 ∧ (((V 215 ((0 + x4).toNatClampNeg)) = 0 → c6_copies E 216 215 V (fun V114'''' => Q (-2) V114'''')) ∧ (¬ (V 215 ((0 + x4).toNatClampNeg)) = 0 → c6_copies E 216 215 V (fun V114''''' => Q x5 V114''''')))) ∧ ((V 215 313) < 9999 → c6_minuteGoes E V (fun V75 => w6_comes E Q 42 [some (vr 214), none, none, some (vi x3), some (vi x4), some (vi (x5 + 1)), none] [] V75)))))) : w6_comes E Q 42 [some (vr 214), none, none, some (vi x3), some (vi x4), some (vi x5), none] [] V := by
  refine wp_aload_n dX6_comes_42 rfl ?_
  refine wp_getrs dX6_comes_43 fk6_7 (tb_214 hT) (tk_214 hT) rfl (tr_0 hT) ?_
  refine wp_iconst (v := 0) dX6_comes_46 rfl ?_
  refine wp_iload dX6_comes_47 rfl ?_
  refine wp_iadd dX6_comes_49 ?_
  refine wp_iald dX6_comes_50 (tb_215 hT).2 (tk_215 hT) h.1 ?_
  replace h := h.2
  refine wp_if_ne 87 dX6_comes_51 (by decide) (fun hc => ?_) (fun hc => ?_)
  · replace h := h.1 hc
    refine wp_aload_n dX6_comes_87 rfl ?_
    refine wp_getrs dX6_comes_88 fk6_7 (tb_214 hT) (tk_214 hT) rfl (tr_0 hT) ?_
    refine wp_iconst (v := 0) dX6_comes_91 rfl ?_
    refine wp_iload dX6_comes_92 rfl ?_
    refine wp_iadd dX6_comes_94 ?_
    refine wp_iald dX6_comes_95 (tb_215 hT).2 (tk_215 hT) h.1 ?_
    replace h := h.2
    refine wp_if_eq 103 dX6_comes_96 (by decide) (fun hc => ?_) (fun hc => ?_)
    · replace h := h.1 hc
      refine wp_iconst (v := 0) dX6_comes_103 rfl ?_
      refine wi7_6 dX6_comes_104 ?_
      refine wp_aload_n dX6_comes_106 rfl ?_
      refine wp_getrs dX6_comes_107 fk6_13 (tb_214 hT) (tk_214 hT) rfl (tr_1 hT) ?_
      refine wp_aload_n dX6_comes_110 rfl ?_
      refine wp_getrs dX6_comes_111 fk6_7 (tb_214 hT) (tk_214 hT) rfl (tr_0 hT) ?_
      refine wq_SV2 lk6_271 dX6_comes_114 h (rmQ_ok (by decide) (by decide)) ⟨Nat.le_refl _, Nat.le_refl _⟩ (Nat.le_of_ble_eq_true rfl) (fun V114 h => ?_)
      refine wp_iload dX6_comes_117 rfl ?_
      refine wp_if_eq 127 dX6_comes_119 (by decide) (fun _ => ?_) (fun hc => absurd hc (by decide))
      refine wp_bipush (v := (-2)) dX6_comes_127 rfl ?_
      exact wp_iret dX6_comes_129 rfl ⟨_, rfl, rfl, rfl, rfl, h⟩
    · replace h := h.2 hc
      refine wp_iconst (v := 1) dX6_comes_99 rfl ?_
      refine wp_goto 104 dX6_comes_100 (by decide) ?_
      refine wi7_6 dX6_comes_104 ?_
      refine wp_aload_n dX6_comes_106 rfl ?_
      refine wp_getrs dX6_comes_107 fk6_13 (tb_214 hT) (tk_214 hT) rfl (tr_1 hT) ?_
      refine wp_aload_n dX6_comes_110 rfl ?_
      refine wp_getrs dX6_comes_111 fk6_7 (tb_214 hT) (tk_214 hT) rfl (tr_0 hT) ?_
      refine wq_SV2 lk6_271 dX6_comes_114 h (rmQ_ok (by decide) (by decide)) ⟨Nat.le_refl _, Nat.le_refl _⟩ (Nat.le_of_ble_eq_true rfl) (fun V114' h => ?_)
      refine wp_iload dX6_comes_117 rfl ?_
      refine wp_if_eq 127 dX6_comes_119 (by decide) (fun hc => absurd hc (by decide)) (fun _ => ?_)
      refine wp_iload dX6_comes_122 rfl ?_
      refine wp_goto 129 dX6_comes_124 (by decide) ?_
      exact wp_iret dX6_comes_129 rfl ⟨_, rfl, rfl, rfl, rfl, h⟩
  · replace h := h.2 hc
    refine wp_iload dX6_comes_54 rfl ?_
    refine wp_iload_n dX6_comes_56 rfl ?_
    refine wp_icmp_ge 87 dX6_comes_57 (by decide) (fun hc => ?_) (fun hc => ?_)
    · replace h := h.1 hc
      refine wp_aload_n dX6_comes_87 rfl ?_
      refine wp_getrs dX6_comes_88 fk6_7 (tb_214 hT) (tk_214 hT) rfl (tr_0 hT) ?_
      refine wp_iconst (v := 0) dX6_comes_91 rfl ?_
      refine wp_iload dX6_comes_92 rfl ?_
      refine wp_iadd dX6_comes_94 ?_
      refine wp_iald dX6_comes_95 (tb_215 hT).2 (tk_215 hT) h.1 ?_
      replace h := h.2
      refine wp_if_eq 103 dX6_comes_96 (by decide) (fun hc => ?_) (fun hc => ?_)
      · replace h := h.1 hc
        refine wp_iconst (v := 0) dX6_comes_103 rfl ?_
        refine wi7_6 dX6_comes_104 ?_
        refine wp_aload_n dX6_comes_106 rfl ?_
        refine wp_getrs dX6_comes_107 fk6_13 (tb_214 hT) (tk_214 hT) rfl (tr_1 hT) ?_
        refine wp_aload_n dX6_comes_110 rfl ?_
        refine wp_getrs dX6_comes_111 fk6_7 (tb_214 hT) (tk_214 hT) rfl (tr_0 hT) ?_
        refine wq_SV2 lk6_271 dX6_comes_114 h (rmQ_ok (by decide) (by decide)) ⟨Nat.le_refl _, Nat.le_refl _⟩ (Nat.le_of_ble_eq_true rfl) (fun V114'' h => ?_)
        refine wp_iload dX6_comes_117 rfl ?_
        refine wp_if_eq 127 dX6_comes_119 (by decide) (fun _ => ?_) (fun hc => absurd hc (by decide))
        refine wp_bipush (v := (-2)) dX6_comes_127 rfl ?_
        exact wp_iret dX6_comes_129 rfl ⟨_, rfl, rfl, rfl, rfl, h⟩
      · replace h := h.2 hc
        refine wp_iconst (v := 1) dX6_comes_99 rfl ?_
        refine wp_goto 104 dX6_comes_100 (by decide) ?_
        refine wi7_6 dX6_comes_104 ?_
        refine wp_aload_n dX6_comes_106 rfl ?_
        refine wp_getrs dX6_comes_107 fk6_13 (tb_214 hT) (tk_214 hT) rfl (tr_1 hT) ?_
        refine wp_aload_n dX6_comes_110 rfl ?_
        refine wp_getrs dX6_comes_111 fk6_7 (tb_214 hT) (tk_214 hT) rfl (tr_0 hT) ?_
        refine wq_SV2 lk6_271 dX6_comes_114 h (rmQ_ok (by decide) (by decide)) ⟨Nat.le_refl _, Nat.le_refl _⟩ (Nat.le_of_ble_eq_true rfl) (fun V114''' h => ?_)
        refine wp_iload dX6_comes_117 rfl ?_
        refine wp_if_eq 127 dX6_comes_119 (by decide) (fun hc => absurd hc (by decide)) (fun _ => ?_)
        refine wp_iload dX6_comes_122 rfl ?_
        refine wp_goto 129 dX6_comes_124 (by decide) ?_
        exact wp_iret dX6_comes_129 rfl ⟨_, rfl, rfl, rfl, rfl, h⟩
    · replace h := h.2 (Int32.not_le.mp hc)
      refine wp_aload_n dX6_comes_60 rfl ?_
      refine wp_getrs dX6_comes_61 fk6_7 (tb_214 hT) (tk_214 hT) rfl (tr_0 hT) ?_
      refine wp_sipush (v := 313) dX6_comes_64 rfl ?_
      refine wp_iald_k 313 dX6_comes_67 (tb_215 hT).2 (tk_215 hT) rfl (by decide) (by decide) ?_
      refine wp_sipush (v := 9999) dX6_comes_68 rfl ?_
      refine wp_icmp_ge 87 dX6_comes_71 (by decide) (fun hc => ?_) (fun hc => ?_)
      · replace h := h.1 hc
        refine wp_aload_n dX6_comes_87 rfl ?_
        refine wp_getrs dX6_comes_88 fk6_7 (tb_214 hT) (tk_214 hT) rfl (tr_0 hT) ?_
        refine wp_iconst (v := 0) dX6_comes_91 rfl ?_
        refine wp_iload dX6_comes_92 rfl ?_
        refine wp_iadd dX6_comes_94 ?_
        refine wp_iald dX6_comes_95 (tb_215 hT).2 (tk_215 hT) h.1 ?_
        replace h := h.2
        refine wp_if_eq 103 dX6_comes_96 (by decide) (fun hc => ?_) (fun hc => ?_)
        · replace h := h.1 hc
          refine wp_iconst (v := 0) dX6_comes_103 rfl ?_
          refine wi7_6 dX6_comes_104 ?_
          refine wp_aload_n dX6_comes_106 rfl ?_
          refine wp_getrs dX6_comes_107 fk6_13 (tb_214 hT) (tk_214 hT) rfl (tr_1 hT) ?_
          refine wp_aload_n dX6_comes_110 rfl ?_
          refine wp_getrs dX6_comes_111 fk6_7 (tb_214 hT) (tk_214 hT) rfl (tr_0 hT) ?_
          refine wq_SV2 lk6_271 dX6_comes_114 h (rmQ_ok (by decide) (by decide)) ⟨Nat.le_refl _, Nat.le_refl _⟩ (Nat.le_of_ble_eq_true rfl) (fun V114'''' h => ?_)
          refine wp_iload dX6_comes_117 rfl ?_
          refine wp_if_eq 127 dX6_comes_119 (by decide) (fun _ => ?_) (fun hc => absurd hc (by decide))
          refine wp_bipush (v := (-2)) dX6_comes_127 rfl ?_
          exact wp_iret dX6_comes_129 rfl ⟨_, rfl, rfl, rfl, rfl, h⟩
        · replace h := h.2 hc
          refine wp_iconst (v := 1) dX6_comes_99 rfl ?_
          refine wp_goto 104 dX6_comes_100 (by decide) ?_
          refine wi7_6 dX6_comes_104 ?_
          refine wp_aload_n dX6_comes_106 rfl ?_
          refine wp_getrs dX6_comes_107 fk6_13 (tb_214 hT) (tk_214 hT) rfl (tr_1 hT) ?_
          refine wp_aload_n dX6_comes_110 rfl ?_
          refine wp_getrs dX6_comes_111 fk6_7 (tb_214 hT) (tk_214 hT) rfl (tr_0 hT) ?_
          refine wq_SV2 lk6_271 dX6_comes_114 h (rmQ_ok (by decide) (by decide)) ⟨Nat.le_refl _, Nat.le_refl _⟩ (Nat.le_of_ble_eq_true rfl) (fun V114''''' h => ?_)
          refine wp_iload dX6_comes_117 rfl ?_
          refine wp_if_eq 127 dX6_comes_119 (by decide) (fun hc => absurd hc (by decide)) (fun _ => ?_)
          refine wp_iload dX6_comes_122 rfl ?_
          refine wp_goto 129 dX6_comes_124 (by decide) ?_
          exact wp_iret dX6_comes_129 rfl ⟨_, rfl, rfl, rfl, rfl, h⟩
      · replace h := h.2 (Int32.not_le.mp hc)
        refine wp_aload_n dX6_comes_74 rfl ?_
        refine wq_VV0 lk6_319 rfl (tb_214 hT) (tk_214 hT) dX6_comes_75 h (rmQ_ok (by decide) (by decide)) ⟨Nat.le_refl _, Nat.le_refl _⟩ (Nat.le_of_ble_eq_true rfl) (fun V75 h => ?_)
        refine wp_iload dX6_comes_78 rfl ?_
        refine wp_iconst (v := 1) dX6_comes_80 rfl ?_
        refine wp_iadd dX6_comes_81 ?_
        refine wi7_5 dX6_comes_82 ?_
        refine wp_goto 42 dX6_comes_84 (by decide) ?_
        exact h
theorem n6_comes {E : eT} {Q : Int32 → vT → Prop} {V : vT} {x1 x2 x3 : Int32} (h : w6_comes E Q 0 [some (vr 214), some (vi x1), some (vi x2), some (vi x3), none, none, none] [] V) : c6_comes E x1 x2 x3 V Q := MOk.enter [some (vr 214), some (vi x1), some (vi x2), some (vi x3), none, none, none] pn_6 rfl rfl (Nat.le_of_ble_eq_true rfl) rfl h
theorem b6_over_0 {E : eT} {Q : Int32 → vT → Prop} {V : vT} {x1 : Int32} (hT : TW E) (h : c6_in E x1 1 100 V (fun r4 V4 => (¬ r4 = 0 → c6_copies E 215 216 V4 (fun V20 => w6_over E Q 25 [some (vr 214), some (vi x1), some (vi 0), none] [] V20)) ∧ (r4 = 0 → Q (-1) V4))) : w6_over E Q 0 [some (vr 214), some (vi x1), none, none] [] V := by
  refine wp_iload_n dX6_over_0 rfl ?_
  refine wp_iconst (v := 1) dX6_over_1 rfl ?_
  refine wp_bipush (v := 100) dX6_over_2 rfl ?_
  refine wq_SI3 lk6_102 dX6_over_4 h (rmQ_ok (by decide) (by decide)) ⟨Nat.le_refl _, Nat.le_refl _⟩ (Nat.le_of_ble_eq_true rfl) (fun r4 V4 h => ?_)
  refine wp_if_ne 12 dX6_over_7 (by decide) (fun hc => ?_) (fun hc => ?_)
  · replace h := h.1 hc
    refine wp_aload_n dX6_over_12 rfl ?_
    refine wp_getrs dX6_over_13 fk6_7 (tb_214 hT) (tk_214 hT) rfl (tr_0 hT) ?_
    refine wp_aload_n dX6_over_16 rfl ?_
    refine wp_getrs dX6_over_17 fk6_13 (tb_214 hT) (tk_214 hT) rfl (tr_1 hT) ?_
    refine wq_SV2 lk6_271 dX6_over_20 h (rmQ_ok (by decide) (by decide)) ⟨Nat.le_refl _, Nat.le_refl _⟩ (Nat.le_of_ble_eq_true rfl) (fun V20 h => ?_)
    refine wp_iconst (v := 0) dX6_over_23 rfl ?_
    refine wi4_2 dX6_over_24 ?_
    exact h
  · replace h := h.2 hc
    refine wp_iconst (v := (-1)) dX6_over_10 rfl ?_
    exact wp_iret dX6_over_11 rfl ⟨_, rfl, rfl, rfl, rfl, h⟩
theorem b6_over_25 {E : eT} {Q : Int32 → vT → Prop} {V : vT} {x1 x2 : Int32} (hT : TW E) (h : c6_faring E 1 V (fun r27 V27 => (r27 ≤ 0 → c6_faring E 1 V27 (fun r65 V65 => (¬ r65 = 0 → c6_copies E 216 215 V65 (fun V85 => Q (-2) V85)) ∧ (r65 = 0 → c6_copies E 216 215 V65 (fun V85' => Q x2 V85')))) ∧ (0 < r27 → (x1 ≤ x2 → c6_faring E 1 V27 (fun r65' V65' => (¬ r65' = 0 → c6_copies E 216 215 V65' (fun V85'' => Q (-2) V85'')) ∧ (r65' = 0 → c6_copies E 216 215 V65' (fun V85''' => Q x2 V85''')))) ∧ (x2 < x1 → (9999 ≤ (V27 215 313) → c6_faring E 1 V27 (fun r65'' V65'' => (¬ r65'' = 0 → c6_copies E 216 215 V65'' (fun V85'''' => Q (-2) V85'''')) ∧ (r65'' = 0 → c6_copies E 216 215 V65'' (fun V85''''' => Q x2 V85''''')))) ∧ ((V27 215 313) < 9999 → c6_minuteGoes E V27 (fun V53 => w6_over E Q 25 [some (vr 214), some (vi x1), some (vi (x2 + 1)), none] [] V53)))))) : w6_over E Q 25 [some (vr 214), some (vi x1), some (vi x2), none] [] V := by
  refine wp_aload_n dX6_over_25 rfl ?_
  refine wp_iconst (v := 1) dX6_over_26 rfl ?_
  refine wq_VI1 lk6_325 rfl (tb_214 hT) (tk_214 hT) dX6_over_27 h (rmQ_ok (by decide) (by decide)) ⟨Nat.le_refl _, Nat.le_refl _⟩ (Nat.le_of_ble_eq_true rfl) (fun r27 V27 h => ?_)
  refine wp_if_le 63 dX6_over_30 (by decide) (fun hc => ?_) (fun hc => ?_)
  · replace h := h.1 hc
    refine wp_aload_n dX6_over_63 rfl ?_
    refine wp_iconst (v := 1) dX6_over_64 rfl ?_
    refine wq_VI1 lk6_325 rfl (tb_214 hT) (tk_214 hT) dX6_over_65 h (rmQ_ok (by decide) (by decide)) ⟨Nat.le_refl _, Nat.le_refl _⟩ (Nat.le_of_ble_eq_true rfl) (fun r65 V65 h => ?_)
    refine wp_if_ne 75 dX6_over_68 (by decide) (fun hc => ?_) (fun hc => ?_)
    · replace h := h.1 hc
      refine wp_iconst (v := 0) dX6_over_75 rfl ?_
      refine wi4_3 dX6_over_76 ?_
      refine wp_aload_n dX6_over_77 rfl ?_
      refine wp_getrs dX6_over_78 fk6_13 (tb_214 hT) (tk_214 hT) rfl (tr_1 hT) ?_
      refine wp_aload_n dX6_over_81 rfl ?_
      refine wp_getrs dX6_over_82 fk6_7 (tb_214 hT) (tk_214 hT) rfl (tr_0 hT) ?_
      refine wq_SV2 lk6_271 dX6_over_85 h (rmQ_ok (by decide) (by decide)) ⟨Nat.le_refl _, Nat.le_refl _⟩ (Nat.le_of_ble_eq_true rfl) (fun V85 h => ?_)
      refine wp_iload_n dX6_over_88 rfl ?_
      refine wp_if_eq 96 dX6_over_89 (by decide) (fun _ => ?_) (fun hc => absurd hc (by decide))
      refine wp_bipush (v := (-2)) dX6_over_96 rfl ?_
      exact wp_iret dX6_over_98 rfl ⟨_, rfl, rfl, rfl, rfl, h⟩
    · replace h := h.2 hc
      refine wp_iconst (v := 1) dX6_over_71 rfl ?_
      refine wp_goto 76 dX6_over_72 (by decide) ?_
      refine wi4_3 dX6_over_76 ?_
      refine wp_aload_n dX6_over_77 rfl ?_
      refine wp_getrs dX6_over_78 fk6_13 (tb_214 hT) (tk_214 hT) rfl (tr_1 hT) ?_
      refine wp_aload_n dX6_over_81 rfl ?_
      refine wp_getrs dX6_over_82 fk6_7 (tb_214 hT) (tk_214 hT) rfl (tr_0 hT) ?_
      refine wq_SV2 lk6_271 dX6_over_85 h (rmQ_ok (by decide) (by decide)) ⟨Nat.le_refl _, Nat.le_refl _⟩ (Nat.le_of_ble_eq_true rfl) (fun V85' h => ?_)
      refine wp_iload_n dX6_over_88 rfl ?_
      refine wp_if_eq 96 dX6_over_89 (by decide) (fun hc => absurd hc (by decide)) (fun _ => ?_)
      refine wp_iload_n dX6_over_92 rfl ?_
      refine wp_goto 98 dX6_over_93 (by decide) ?_
      exact wp_iret dX6_over_98 rfl ⟨_, rfl, rfl, rfl, rfl, h⟩
  · replace h := h.2 (Int32.not_le.mp hc)
    refine wp_iload_n dX6_over_33 rfl ?_
    refine wp_iload_n dX6_over_34 rfl ?_
    refine wp_icmp_ge 63 dX6_over_35 (by decide) (fun hc => ?_) (fun hc => ?_)
    · replace h := h.1 hc
      refine wp_aload_n dX6_over_63 rfl ?_
      refine wp_iconst (v := 1) dX6_over_64 rfl ?_
      refine wq_VI1 lk6_325 rfl (tb_214 hT) (tk_214 hT) dX6_over_65 h (rmQ_ok (by decide) (by decide)) ⟨Nat.le_refl _, Nat.le_refl _⟩ (Nat.le_of_ble_eq_true rfl) (fun r65' V65' h => ?_)
      refine wp_if_ne 75 dX6_over_68 (by decide) (fun hc => ?_) (fun hc => ?_)
      · replace h := h.1 hc
        refine wp_iconst (v := 0) dX6_over_75 rfl ?_
        refine wi4_3 dX6_over_76 ?_
        refine wp_aload_n dX6_over_77 rfl ?_
        refine wp_getrs dX6_over_78 fk6_13 (tb_214 hT) (tk_214 hT) rfl (tr_1 hT) ?_
        refine wp_aload_n dX6_over_81 rfl ?_
        refine wp_getrs dX6_over_82 fk6_7 (tb_214 hT) (tk_214 hT) rfl (tr_0 hT) ?_
        refine wq_SV2 lk6_271 dX6_over_85 h (rmQ_ok (by decide) (by decide)) ⟨Nat.le_refl _, Nat.le_refl _⟩ (Nat.le_of_ble_eq_true rfl) (fun V85'' h => ?_)
        refine wp_iload_n dX6_over_88 rfl ?_
        refine wp_if_eq 96 dX6_over_89 (by decide) (fun _ => ?_) (fun hc => absurd hc (by decide))
        refine wp_bipush (v := (-2)) dX6_over_96 rfl ?_
        exact wp_iret dX6_over_98 rfl ⟨_, rfl, rfl, rfl, rfl, h⟩
      · replace h := h.2 hc
        refine wp_iconst (v := 1) dX6_over_71 rfl ?_
        refine wp_goto 76 dX6_over_72 (by decide) ?_
        refine wi4_3 dX6_over_76 ?_
        refine wp_aload_n dX6_over_77 rfl ?_
        refine wp_getrs dX6_over_78 fk6_13 (tb_214 hT) (tk_214 hT) rfl (tr_1 hT) ?_
        refine wp_aload_n dX6_over_81 rfl ?_
        refine wp_getrs dX6_over_82 fk6_7 (tb_214 hT) (tk_214 hT) rfl (tr_0 hT) ?_
        refine wq_SV2 lk6_271 dX6_over_85 h (rmQ_ok (by decide) (by decide)) ⟨Nat.le_refl _, Nat.le_refl _⟩ (Nat.le_of_ble_eq_true rfl) (fun V85''' h => ?_)
        refine wp_iload_n dX6_over_88 rfl ?_
        refine wp_if_eq 96 dX6_over_89 (by decide) (fun hc => absurd hc (by decide)) (fun _ => ?_)
        refine wp_iload_n dX6_over_92 rfl ?_
        refine wp_goto 98 dX6_over_93 (by decide) ?_
        exact wp_iret dX6_over_98 rfl ⟨_, rfl, rfl, rfl, rfl, h⟩
    · replace h := h.2 (Int32.not_le.mp hc)
      refine wp_aload_n dX6_over_38 rfl ?_
      refine wp_getrs dX6_over_39 fk6_7 (tb_214 hT) (tk_214 hT) rfl (tr_0 hT) ?_
      refine wp_sipush (v := 313) dX6_over_42 rfl ?_
      refine wp_iald_k 313 dX6_over_45 (tb_215 hT).2 (tk_215 hT) rfl (by decide) (by decide) ?_
      refine wp_sipush (v := 9999) dX6_over_46 rfl ?_
      refine wp_icmp_ge 63 dX6_over_49 (by decide) (fun hc => ?_) (fun hc => ?_)
      · replace h := h.1 hc
        refine wp_aload_n dX6_over_63 rfl ?_
        refine wp_iconst (v := 1) dX6_over_64 rfl ?_
        refine wq_VI1 lk6_325 rfl (tb_214 hT) (tk_214 hT) dX6_over_65 h (rmQ_ok (by decide) (by decide)) ⟨Nat.le_refl _, Nat.le_refl _⟩ (Nat.le_of_ble_eq_true rfl) (fun r65'' V65'' h => ?_)
        refine wp_if_ne 75 dX6_over_68 (by decide) (fun hc => ?_) (fun hc => ?_)
        · replace h := h.1 hc
          refine wp_iconst (v := 0) dX6_over_75 rfl ?_
          refine wi4_3 dX6_over_76 ?_
          refine wp_aload_n dX6_over_77 rfl ?_
          refine wp_getrs dX6_over_78 fk6_13 (tb_214 hT) (tk_214 hT) rfl (tr_1 hT) ?_
          refine wp_aload_n dX6_over_81 rfl ?_
          refine wp_getrs dX6_over_82 fk6_7 (tb_214 hT) (tk_214 hT) rfl (tr_0 hT) ?_
          refine wq_SV2 lk6_271 dX6_over_85 h (rmQ_ok (by decide) (by decide)) ⟨Nat.le_refl _, Nat.le_refl _⟩ (Nat.le_of_ble_eq_true rfl) (fun V85'''' h => ?_)
          refine wp_iload_n dX6_over_88 rfl ?_
          refine wp_if_eq 96 dX6_over_89 (by decide) (fun _ => ?_) (fun hc => absurd hc (by decide))
          refine wp_bipush (v := (-2)) dX6_over_96 rfl ?_
          exact wp_iret dX6_over_98 rfl ⟨_, rfl, rfl, rfl, rfl, h⟩
        · replace h := h.2 hc
          refine wp_iconst (v := 1) dX6_over_71 rfl ?_
          refine wp_goto 76 dX6_over_72 (by decide) ?_
          refine wi4_3 dX6_over_76 ?_
          refine wp_aload_n dX6_over_77 rfl ?_
          refine wp_getrs dX6_over_78 fk6_13 (tb_214 hT) (tk_214 hT) rfl (tr_1 hT) ?_
          refine wp_aload_n dX6_over_81 rfl ?_
          refine wp_getrs dX6_over_82 fk6_7 (tb_214 hT) (tk_214 hT) rfl (tr_0 hT) ?_
          refine wq_SV2 lk6_271 dX6_over_85 h (rmQ_ok (by decide) (by decide)) ⟨Nat.le_refl _, Nat.le_refl _⟩ (Nat.le_of_ble_eq_true rfl) (fun V85''''' h => ?_)
          refine wp_iload_n dX6_over_88 rfl ?_
          refine wp_if_eq 96 dX6_over_89 (by decide) (fun hc => absurd hc (by decide)) (fun _ => ?_)
          refine wp_iload_n dX6_over_92 rfl ?_
          refine wp_goto 98 dX6_over_93 (by decide) ?_
          exact wp_iret dX6_over_98 rfl ⟨_, rfl, rfl, rfl, rfl, h⟩
      · replace h := h.2 (Int32.not_le.mp hc)
        refine wp_aload_n dX6_over_52 rfl ?_
        refine wq_VV0 lk6_319 rfl (tb_214 hT) (tk_214 hT) dX6_over_53 h (rmQ_ok (by decide) (by decide)) ⟨Nat.le_refl _, Nat.le_refl _⟩ (Nat.le_of_ble_eq_true rfl) (fun V53 h => ?_)
        refine wp_iload_n dX6_over_56 rfl ?_
        refine wp_iconst (v := 1) dX6_over_57 rfl ?_
        refine wp_iadd dX6_over_58 ?_
        refine wi4_2 dX6_over_59 ?_
        refine wp_goto 25 dX6_over_60 (by decide) ?_
        exact h
theorem n6_over {E : eT} {Q : Int32 → vT → Prop} {V : vT} {x1 : Int32} (h : w6_over E Q 0 [some (vr 214), some (vi x1), none, none] [] V) : c6_over E x1 V Q := MOk.enter [some (vr 214), some (vi x1), none, none] pn_6 rfl rfl (Nat.le_of_ble_eq_true rfl) rfl h
theorem b6_steps_0 {E : eT} {Q : Int32 → vT → Prop} {V : vT} {x1 x2 : Int32} (hT : TW E) (h : c6_isPlace E x1 V (fun r1 V1 => (r1 = 0 → Q (-1) V1) ∧ (¬ r1 = 0 → c6_isPlace E x2 V1 (fun r8 V8 => (¬ r8 = 0 → c6_isWood E x1 V8 (fun r18 V18 => (r18 = 0 → Q (-3) V18) ∧ (¬ r18 = 0 → c6_isWood E x2 V18 (fun r26 V26 => (¬ r26 = 0 → c6_laysFireFrom E x1 V26 (fun V37 => vp_in x2 96 ∧ ((¬ (V37 236 ((x2).toNatClampNeg)) = (-1) → vp_in x2 96 ∧ (Q (V37 236 ((x2).toNatClampNeg)) V37)) ∧ ((V37 236 ((x2).toNatClampNeg)) = (-1) → Q (-2) V37)))) ∧ (r26 = 0 → Q (-3) V26))))) ∧ (r8 = 0 → Q (-1) V8))))) : w6_steps E Q 0 [some (vr 214), some (vi x1), some (vi x2)] [] V := by
  refine wp_iload_n dX6_steps_0 rfl ?_
  refine wq_SI1 lk6_110 dX6_steps_1 h (rmQ_ok (by decide) (by decide)) ⟨Nat.le_refl _, Nat.le_refl _⟩ (Nat.le_of_ble_eq_true rfl) (fun r1 V1 h => ?_)
  refine wp_if_eq 14 dX6_steps_4 (by decide) (fun hc => ?_) (fun hc => ?_)
  · replace h := h.1 hc
    refine wp_iconst (v := (-1)) dX6_steps_14 rfl ?_
    exact wp_iret dX6_steps_15 rfl ⟨_, rfl, rfl, rfl, rfl, h⟩
  · replace h := h.2 hc
    refine wp_iload_n dX6_steps_7 rfl ?_
    refine wq_SI1 lk6_110 dX6_steps_8 h (rmQ_ok (by decide) (by decide)) ⟨Nat.le_refl _, Nat.le_refl _⟩ (Nat.le_of_ble_eq_true rfl) (fun r8 V8 h => ?_)
    refine wp_if_ne 16 dX6_steps_11 (by decide) (fun hc => ?_) (fun hc => ?_)
    · replace h := h.1 hc
      refine wp_aload_n dX6_steps_16 rfl ?_
      refine wp_iload_n dX6_steps_17 rfl ?_
      refine wq_VI1 lk6_241 rfl (tb_214 hT) (tk_214 hT) dX6_steps_18 h (rmQ_ok (by decide) (by decide)) ⟨Nat.le_refl _, Nat.le_refl _⟩ (Nat.le_of_ble_eq_true rfl) (fun r18 V18 h => ?_)
      refine wp_if_eq 32 dX6_steps_21 (by decide) (fun hc => ?_) (fun hc => ?_)
      · replace h := h.1 hc
        refine wp_bipush (v := (-3)) dX6_steps_32 rfl ?_
        exact wp_iret dX6_steps_34 rfl ⟨_, rfl, rfl, rfl, rfl, h⟩
      · replace h := h.2 hc
        refine wp_aload_n dX6_steps_24 rfl ?_
        refine wp_iload_n dX6_steps_25 rfl ?_
        refine wq_VI1 lk6_241 rfl (tb_214 hT) (tk_214 hT) dX6_steps_26 h (rmQ_ok (by decide) (by decide)) ⟨Nat.le_refl _, Nat.le_refl _⟩ (Nat.le_of_ble_eq_true rfl) (fun r26 V26 h => ?_)
        refine wp_if_ne 35 dX6_steps_29 (by decide) (fun hc => ?_) (fun hc => ?_)
        · replace h := h.1 hc
          refine wp_aload_n dX6_steps_35 rfl ?_
          refine wp_iload_n dX6_steps_36 rfl ?_
          refine wq_VV1 lk6_343 rfl (tb_214 hT) (tk_214 hT) dX6_steps_37 h (rmQ_ok (by decide) (by decide)) ⟨Nat.le_refl _, Nat.le_refl _⟩ (Nat.le_of_ble_eq_true rfl) (fun V37 h => ?_)
          refine wp_aload_n dX6_steps_40 rfl ?_
          refine wp_getrs dX6_steps_41 fk6_75 (tb_214 hT) (tk_214 hT) rfl (tr_35 hT) ?_
          refine wp_iload_n dX6_steps_44 rfl ?_
          refine wp_iald dX6_steps_45 (tb_236 hT).2 (tk_236 hT) h.1 ?_
          replace h := h.2
          refine wp_iconst (v := (-1)) dX6_steps_46 rfl ?_
          refine wp_icmp_ne 55 dX6_steps_47 (by decide) (fun hc => ?_) (fun hc => ?_)
          · replace h := h.1 hc
            refine wp_aload_n dX6_steps_55 rfl ?_
            refine wp_getrs dX6_steps_56 fk6_75 (tb_214 hT) (tk_214 hT) rfl (tr_35 hT) ?_
            refine wp_iload_n dX6_steps_59 rfl ?_
            refine wp_iald dX6_steps_60 (tb_236 hT).2 (tk_236 hT) h.1 ?_
            replace h := h.2
            exact wp_iret dX6_steps_61 rfl ⟨_, rfl, rfl, rfl, rfl, h⟩
          · replace h := h.2 hc
            refine wp_bipush (v := (-2)) dX6_steps_50 rfl ?_
            refine wp_goto 61 dX6_steps_52 (by decide) ?_
            exact wp_iret dX6_steps_61 rfl ⟨_, rfl, rfl, rfl, rfl, h⟩
        · replace h := h.2 hc
          refine wp_bipush (v := (-3)) dX6_steps_32 rfl ?_
          exact wp_iret dX6_steps_34 rfl ⟨_, rfl, rfl, rfl, rfl, h⟩
    · replace h := h.2 hc
      refine wp_iconst (v := (-1)) dX6_steps_14 rfl ?_
      exact wp_iret dX6_steps_15 rfl ⟨_, rfl, rfl, rfl, rfl, h⟩
theorem n6_steps {E : eT} {Q : Int32 → vT → Prop} {V : vT} {x1 x2 : Int32} (h : w6_steps E Q 0 [some (vr 214), some (vi x1), some (vi x2)] [] V) : c6_steps E x1 x2 V Q := MOk.enter [some (vr 214), some (vi x1), some (vi x2)] pn_6 rfl rfl (Nat.le_of_ble_eq_true rfl) rfl h
theorem b6_laysFireFrom_0 {E : eT} {Q : vT → Prop} {V : vT} {x1 : Int32} (hT : TW E) (h : c6_clearsFire E V (fun V1 => vp_in x1 96 ∧ (c6_laysFire E 1 (up2 (up2 V1 236 (x1.toNatClampNeg) 0) 237 0 x1) (fun V20 => Q V20)))) : w6_laysFireFrom E Q 0 [some (vr 214), some (vi x1)] [] V := by
  refine wp_aload_n dX6_laysFireFrom_0 rfl ?_
  refine wq_VV0 lk6_337 rfl (tb_214 hT) (tk_214 hT) dX6_laysFireFrom_1 h (rmQ_ok (by decide) (by decide)) ⟨Nat.le_refl _, Nat.le_refl _⟩ (Nat.le_of_ble_eq_true rfl) (fun V1 h => ?_)
  refine wp_aload_n dX6_laysFireFrom_4 rfl ?_
  refine wp_getrs dX6_laysFireFrom_5 fk6_75 (tb_214 hT) (tk_214 hT) rfl (tr_35 hT) ?_
  refine wp_iload_n dX6_laysFireFrom_8 rfl ?_
  refine wp_iconst (v := 0) dX6_laysFireFrom_9 rfl ?_
  refine wp_iast dX6_laysFireFrom_10 (tb_236 hT) (tk_236 hT) h.1 ?_
  replace h := h.2
  refine wp_aload_n dX6_laysFireFrom_11 rfl ?_
  refine wp_getrs dX6_laysFireFrom_12 fk6_78 (tb_214 hT) (tk_214 hT) rfl (tr_36 hT) ?_
  refine wp_iconst (v := 0) dX6_laysFireFrom_15 rfl ?_
  refine wp_iload_n dX6_laysFireFrom_16 rfl ?_
  refine wp_iast_k 0 dX6_laysFireFrom_17 (tb_237 hT) (tk_237 hT) rfl (by decide) (by decide) ?_
  refine wp_aload_n dX6_laysFireFrom_18 rfl ?_
  refine wp_iconst (v := 1) dX6_laysFireFrom_19 rfl ?_
  refine wq_VV1 lk6_340 rfl (tb_214 hT) (tk_214 hT) dX6_laysFireFrom_20 h (rmQ_ok (by decide) (by decide)) ⟨Nat.le_refl _, Nat.le_refl _⟩ (Nat.le_of_ble_eq_true rfl) (fun V20 h => ?_)
  exact wp_vret dX6_laysFireFrom_23 ⟨rfl, rfl, rfl, rfl, h⟩
theorem n6_laysFireFrom {E : eT} {Q : vT → Prop} {V : vT} {x1 : Int32} (h : w6_laysFireFrom E Q 0 [some (vr 214), some (vi x1)] [] V) : c6_laysFireFrom E x1 V Q := MOk.enter [some (vr 214), some (vi x1)] pn_6 rfl rfl (Nat.le_of_ble_eq_true rfl) rfl h
theorem b6_clearsFire_0 {E : eT} {Q : vT → Prop} {V : vT} (hT : TW E) (h : w6_clearsFire E Q 2 [some (vr 214), some (vi 0)] [] V) : w6_clearsFire E Q 0 [some (vr 214), none] [] V := by
  refine wp_iconst (v := 0) dX6_clearsFire_0 rfl ?_
  refine wi2_1 dX6_clearsFire_1 ?_
  exact h
theorem b6_clearsFire_2 {E : eT} {Q : vT → Prop} {V : vT} {x1 : Int32} (hT : TW E) (h : (96 ≤ x1 → Q V) ∧ (x1 < 96 → vp_in x1 96 ∧ (w6_clearsFire E Q 2 [some (vr 214), some (vi (x1 + 1))] [] (up2 V 236 (x1.toNatClampNeg) (-1))))) : w6_clearsFire E Q 2 [some (vr 214), some (vi x1)] [] V := by
  refine wp_iload_n dX6_clearsFire_2 rfl ?_
  refine wp_bipush (v := 96) dX6_clearsFire_3 rfl ?_
  refine wp_icmp_ge 21 dX6_clearsFire_5 (by decide) (fun hc => ?_) (fun hc => ?_)
  · replace h := h.1 hc
    exact wp_vret dX6_clearsFire_21 ⟨rfl, rfl, rfl, rfl, h⟩
  · replace h := h.2 (Int32.not_le.mp hc)
    refine wp_aload_n dX6_clearsFire_8 rfl ?_
    refine wp_getrs dX6_clearsFire_9 fk6_75 (tb_214 hT) (tk_214 hT) rfl (tr_35 hT) ?_
    refine wp_iload_n dX6_clearsFire_12 rfl ?_
    refine wp_iconst (v := (-1)) dX6_clearsFire_13 rfl ?_
    refine wp_iast dX6_clearsFire_14 (tb_236 hT) (tk_236 hT) h.1 ?_
    replace h := h.2
    refine wc2_1 1 dX6_clearsFire_15 rfl ?_
    refine wp_goto 2 dX6_clearsFire_18 (by decide) ?_
    exact h
theorem n6_clearsFire {E : eT} {Q : vT → Prop} {V : vT} (h : w6_clearsFire E Q 0 [some (vr 214), none] [] V) : c6_clearsFire E V Q := MOk.enter [some (vr 214), none] pn_6 rfl rfl (Nat.le_of_ble_eq_true rfl) rfl h
theorem b6_laysFire_0 {E : eT} {Q : vT → Prop} {V : vT} {x1 : Int32} (hT : TW E) (h : w6_laysFire E Q 4 [some (vr 214), none, some (vi x1), some (vi 0), none, none] [] V) : w6_laysFire E Q 0 [some (vr 214), some (vi x1), none, none, none, none] [] V := by
  refine wp_iload_n dX6_laysFire_0 rfl ?_
  refine wi6_2 dX6_laysFire_1 ?_
  refine wp_iconst (v := 0) dX6_laysFire_2 rfl ?_
  refine wi6_3 dX6_laysFire_3 ?_
  exact wp_drop [some (vr 214), none, some (vi x1), some (vi 0), none, none] ⟨rfl, ⟨rfl, ⟨rfl, trivial⟩⟩⟩ h
theorem b6_laysFire_4 {E : eT} {Q : vT → Prop} {V : vT} {x2 x3 : Int32} (hT : TW E) (h : (x2 ≤ x3 → Q V) ∧ (x3 < x2 → w6_laysFire E Q 12 [some (vr 214), none, some (vi x2), some (vi x3), some (vi 0), none] [] V)) : w6_laysFire E Q 4 [some (vr 214), none, some (vi x2), some (vi x3), none, none] [] V := by
  refine wp_iload_n dX6_laysFire_4 rfl ?_
  refine wp_iload_n dX6_laysFire_5 rfl ?_
  refine wp_icmp_ge 98 dX6_laysFire_6 (by decide) (fun hc => ?_) (fun hc => ?_)
  · replace h := h.1 hc
    exact wp_vret dX6_laysFire_98 ⟨rfl, rfl, rfl, rfl, h⟩
  · replace h := h.2 (Int32.not_le.mp hc)
    refine wp_iconst (v := 0) dX6_laysFire_9 rfl ?_
    refine wi6_4 dX6_laysFire_10 ?_
    exact h
theorem b6_laysFire_12 {E : eT} {Q : vT → Prop} {V : vT} {x2 x3 x4 : Int32} (hT : TW E) (h : (4 ≤ x4 → w6_laysFire E Q 4 [some (vr 214), none, some (vi x2), some (vi (x3 + 1)), none, none] [] V) ∧ (x4 < 4 → vp_in x3 192 ∧ (c6_beside E (V 237 ((x3).toNatClampNeg)) x4 V (fun r26 V26 => c6_isWood E r26 V26 (fun r34 V34 => (r34 = 0 → w6_laysFire E Q 12 [some (vr 214), none, some (vi x2), some (vi x3), some (vi (x4 + 1)), none] [] V34) ∧ (¬ r34 = 0 → vp_in r26 96 ∧ (((V34 236 ((r26).toNatClampNeg)) = (-1) → vp_in x3 192 ∧ (vp_in (V34 237 ((x3).toNatClampNeg)) 96 ∧ (vp_in r26 96 ∧ (vp_in x2 192 ∧ (w6_laysFire E Q 12 [some (vr 214), none, some (vi (x2 + 1)), some (vi x3), some (vi (x4 + 1)), none] [] (up2 (up2 V34 236 (r26.toNatClampNeg) ((V34 236 ((V34 237 ((x3).toNatClampNeg)).toNatClampNeg)) + 1)) 237 (x2.toNatClampNeg) r26)))))) ∧ (¬ (V34 236 ((r26).toNatClampNeg)) = (-1) → w6_laysFire E Q 12 [some (vr 214), none, some (vi x2), some (vi x3), some (vi (x4 + 1)), none] [] V34)))))))) : w6_laysFire E Q 12 [some (vr 214), none, some (vi x2), some (vi x3), some (vi x4), none] [] V := by
  refine wp_iload dX6_laysFire_12 rfl ?_
  refine wp_iconst (v := 4) dX6_laysFire_14 rfl ?_
  refine wp_icmp_ge 92 dX6_laysFire_15 (by decide) (fun hc => ?_) (fun hc => ?_)
  · replace h := h.1 hc
    refine wc6_3 1 dX6_laysFire_92 rfl ?_
    refine wp_goto 4 dX6_laysFire_95 (by decide) ?_
    exact wp_drop [some (vr 214), none, some (vi x2), some (vi (x3 + 1)), none, none] ⟨rfl, ⟨rfl, ⟨rfl, trivial⟩⟩⟩ h
  · replace h := h.2 (Int32.not_le.mp hc)
    refine wp_aload_n dX6_laysFire_18 rfl ?_
    refine wp_getrs dX6_laysFire_19 fk6_78 (tb_214 hT) (tk_214 hT) rfl (tr_36 hT) ?_
    refine wp_iload_n dX6_laysFire_22 rfl ?_
    refine wp_iald dX6_laysFire_23 (tb_237 hT).2 (tk_237 hT) h.1 ?_
    replace h := h.2
    refine wp_iload dX6_laysFire_24 rfl ?_
    refine wq_SI2 lk6_281 dX6_laysFire_26 h (rmQ_ok (by decide) (by decide)) ⟨Nat.le_refl _, Nat.le_refl _⟩ (Nat.le_of_ble_eq_true rfl) (fun r26 V26 h => ?_)
    refine wi6_5 dX6_laysFire_29 ?_
    refine wp_aload_n dX6_laysFire_31 rfl ?_
    refine wp_iload dX6_laysFire_32 rfl ?_
    refine wq_VI1 lk6_241 rfl (tb_214 hT) (tk_214 hT) dX6_laysFire_34 h (rmQ_ok (by decide) (by decide)) ⟨Nat.le_refl _, Nat.le_refl _⟩ (Nat.le_of_ble_eq_true rfl) (fun r34 V34 h => ?_)
    refine wp_if_eq 86 dX6_laysFire_37 (by decide) (fun hc => ?_) (fun hc => ?_)
    · replace h := h.1 hc
      refine wc6_4 1 dX6_laysFire_86 rfl ?_
      refine wp_goto 12 dX6_laysFire_89 (by decide) ?_
      exact wp_drop [some (vr 214), none, some (vi x2), some (vi x3), some (vi (x4 + 1)), none] ⟨rfl, ⟨rfl, ⟨rfl, ⟨rfl, trivial⟩⟩⟩⟩ h
    · replace h := h.2 hc
      refine wp_aload_n dX6_laysFire_40 rfl ?_
      refine wp_getrs dX6_laysFire_41 fk6_75 (tb_214 hT) (tk_214 hT) rfl (tr_35 hT) ?_
      refine wp_iload dX6_laysFire_44 rfl ?_
      refine wp_iald dX6_laysFire_46 (tb_236 hT).2 (tk_236 hT) h.1 ?_
      replace h := h.2
      refine wp_iconst (v := (-1)) dX6_laysFire_47 rfl ?_
      refine wp_icmp_eq 54 dX6_laysFire_48 (by decide) (fun hc => ?_) (fun hc => ?_)
      · replace h := h.1 hc
        refine wp_aload_n dX6_laysFire_54 rfl ?_
        refine wp_getrs dX6_laysFire_55 fk6_75 (tb_214 hT) (tk_214 hT) rfl (tr_35 hT) ?_
        refine wp_iload dX6_laysFire_58 rfl ?_
        refine wp_aload_n dX6_laysFire_60 rfl ?_
        refine wp_getrs dX6_laysFire_61 fk6_75 (tb_214 hT) (tk_214 hT) rfl (tr_35 hT) ?_
        refine wp_aload_n dX6_laysFire_64 rfl ?_
        refine wp_getrs dX6_laysFire_65 fk6_78 (tb_214 hT) (tk_214 hT) rfl (tr_36 hT) ?_
        refine wp_iload_n dX6_laysFire_68 rfl ?_
        refine wp_iald dX6_laysFire_69 (tb_237 hT).2 (tk_237 hT) h.1 ?_
        replace h := h.2
        refine wp_iald dX6_laysFire_70 (tb_236 hT).2 (tk_236 hT) h.1 ?_
        replace h := h.2
        refine wp_iconst (v := 1) dX6_laysFire_71 rfl ?_
        refine wp_iadd dX6_laysFire_72 ?_
        refine wp_iast dX6_laysFire_73 (tb_236 hT) (tk_236 hT) h.1 ?_
        replace h := h.2
        refine wp_aload_n dX6_laysFire_74 rfl ?_
        refine wp_getrs dX6_laysFire_75 fk6_78 (tb_214 hT) (tk_214 hT) rfl (tr_36 hT) ?_
        refine wp_iload_n dX6_laysFire_78 rfl ?_
        refine wp_iload dX6_laysFire_79 rfl ?_
        refine wp_iast dX6_laysFire_81 (tb_237 hT) (tk_237 hT) h.1 ?_
        replace h := h.2
        refine wp_iload_n dX6_laysFire_82 rfl ?_
        refine wp_iconst (v := 1) dX6_laysFire_83 rfl ?_
        refine wp_iadd dX6_laysFire_84 ?_
        refine wi6_2 dX6_laysFire_85 ?_
        refine wc6_4 1 dX6_laysFire_86 rfl ?_
        refine wp_goto 12 dX6_laysFire_89 (by decide) ?_
        exact wp_drop [some (vr 214), none, some (vi (x2 + 1)), some (vi x3), some (vi (x4 + 1)), none] ⟨rfl, ⟨rfl, ⟨rfl, ⟨rfl, trivial⟩⟩⟩⟩ h
      · replace h := h.2 hc
        refine wp_goto 86 dX6_laysFire_51 (by decide) ?_
        refine wc6_4 1 dX6_laysFire_86 rfl ?_
        refine wp_goto 12 dX6_laysFire_89 (by decide) ?_
        exact wp_drop [some (vr 214), none, some (vi x2), some (vi x3), some (vi (x4 + 1)), none] ⟨rfl, ⟨rfl, ⟨rfl, ⟨rfl, trivial⟩⟩⟩⟩ h
theorem n6_laysFire {E : eT} {Q : vT → Prop} {V : vT} {x1 : Int32} (h : w6_laysFire E Q 0 [some (vr 214), some (vi x1), none, none, none, none] [] V) : c6_laysFire E x1 V Q := MOk.enter [some (vr 214), some (vi x1), none, none, none, none] pn_6 rfl rfl (Nat.le_of_ble_eq_true rfl) rfl h
theorem b6_began_0 {E : eT} {Q : Int32 → vT → Prop} {V : vT} {x1 x2 : Int32} (hT : TW E) (h : c6_in E x1 0 60 V (fun r4 V4 => (r4 = 0 → Q (-1) V4) ∧ (¬ r4 = 0 → c6_in E x2 0 1 V4 (fun r13 V13 => (¬ r13 = 0 → w6_began E Q 31 [some (vr 214), some (vi x1), some (vi x2), some (vi 0), some (vi (-2)), some (vi 95)] [] V13) ∧ (r13 = 0 → Q (-1) V13))))) : w6_began E Q 0 [some (vr 214), some (vi x1), some (vi x2), none, none, none] [] V := by
  refine wp_iload_n dX6_began_0 rfl ?_
  refine wp_iconst (v := 0) dX6_began_1 rfl ?_
  refine wp_bipush (v := 60) dX6_began_2 rfl ?_
  refine wq_SI3 lk6_102 dX6_began_4 h (rmQ_ok (by decide) (by decide)) ⟨Nat.le_refl _, Nat.le_refl _⟩ (Nat.le_of_ble_eq_true rfl) (fun r4 V4 h => ?_)
  refine wp_if_eq 19 dX6_began_7 (by decide) (fun hc => ?_) (fun hc => ?_)
  · replace h := h.1 hc
    refine wp_iconst (v := (-1)) dX6_began_19 rfl ?_
    exact wp_iret dX6_began_20 rfl ⟨_, rfl, rfl, rfl, rfl, h⟩
  · replace h := h.2 hc
    refine wp_iload_n dX6_began_10 rfl ?_
    refine wp_iconst (v := 0) dX6_began_11 rfl ?_
    refine wp_iconst (v := 1) dX6_began_12 rfl ?_
    refine wq_SI3 lk6_102 dX6_began_13 h (rmQ_ok (by decide) (by decide)) ⟨Nat.le_refl _, Nat.le_refl _⟩ (Nat.le_of_ble_eq_true rfl) (fun r13 V13 h => ?_)
    refine wp_if_ne 21 dX6_began_16 (by decide) (fun hc => ?_) (fun hc => ?_)
    · replace h := h.1 hc
      refine wp_iconst (v := 0) dX6_began_21 rfl ?_
      refine wi6_3 dX6_began_22 ?_
      refine wp_bipush (v := (-2)) dX6_began_23 rfl ?_
      refine wi6_4 dX6_began_25 ?_
      refine wp_bipush (v := 95) dX6_began_27 rfl ?_
      refine wi6_5 dX6_began_29 ?_
      exact h
    · replace h := h.2 hc
      refine wp_iconst (v := (-1)) dX6_began_19 rfl ?_
      exact wp_iret dX6_began_20 rfl ⟨_, rfl, rfl, rfl, rfl, h⟩
theorem b6_began_31 {E : eT} {Q : Int32 → vT → Prop} {V : vT} {x1 x2 x3 x4 x5 : Int32} (hT : TW E) (h : (x5 < 0 → (¬ x2 = 0 → Q x4 V) ∧ (x2 = 0 → Q x3 V)) ∧ (0 ≤ x5 → c6_isWood E x5 V (fun r39 V39 => (r39 = 0 → w6_began E Q 31 [some (vr 214), some (vi x1), some (vi x2), some (vi x3), some (vi x4), some (vi (x5 + (-1)))] [] V39) ∧ (¬ r39 = 0 → c6_couldBegin E x5 x1 V39 (fun r49 V49 => (¬ r49 = 0 → w6_began E Q 31 [some (vr 214), some (vi x1), some (vi x2), some (vi (x3 + 1)), some (vi x5), some (vi (x5 + (-1)))] [] V49) ∧ (r49 = 0 → w6_began E Q 31 [some (vr 214), some (vi x1), some (vi x2), some (vi x3), some (vi x4), some (vi (x5 + (-1)))] [] V49)))))) : w6_began E Q 31 [some (vr 214), some (vi x1), some (vi x2), some (vi x3), some (vi x4), some (vi x5)] [] V := by
  refine wp_iload dX6_began_31 rfl ?_
  refine wp_if_lt 72 dX6_began_33 (by decide) (fun hc => ?_) (fun hc => ?_)
  · replace h := h.1 hc
    refine wp_iload_n dX6_began_72 rfl ?_
    refine wp_if_ne 80 dX6_began_73 (by decide) (fun hc => ?_) (fun hc => ?_)
    · replace h := h.1 hc
      refine wp_iload dX6_began_80 rfl ?_
      exact wp_iret dX6_began_82 rfl ⟨_, rfl, rfl, rfl, rfl, h⟩
    · replace h := h.2 hc
      refine wp_iload_n dX6_began_76 rfl ?_
      refine wp_goto 82 dX6_began_77 (by decide) ?_
      exact wp_iret dX6_began_82 rfl ⟨_, rfl, rfl, rfl, rfl, h⟩
  · replace h := h.2 (Int32.not_lt.mp hc)
    refine wp_aload_n dX6_began_36 rfl ?_
    refine wp_iload dX6_began_37 rfl ?_
    refine wq_VI1 lk6_241 rfl (tb_214 hT) (tk_214 hT) dX6_began_39 h (rmQ_ok (by decide) (by decide)) ⟨Nat.le_refl _, Nat.le_refl _⟩ (Nat.le_of_ble_eq_true rfl) (fun r39 V39 h => ?_)
    refine wp_if_eq 66 dX6_began_42 (by decide) (fun hc => ?_) (fun hc => ?_)
    · replace h := h.1 hc
      refine wc6_5 (-1) dX6_began_66 rfl ?_
      refine wp_goto 31 dX6_began_69 (by decide) ?_
      exact h
    · replace h := h.2 hc
      refine wp_aload_n dX6_began_45 rfl ?_
      refine wp_iload dX6_began_46 rfl ?_
      refine wp_iload_n dX6_began_48 rfl ?_
      refine wq_VI2 lk6_346 rfl (tb_214 hT) (tk_214 hT) dX6_began_49 h (rmQ_ok (by decide) (by decide)) ⟨Nat.le_refl _, Nat.le_refl _⟩ (Nat.le_of_ble_eq_true rfl) (fun r49 V49 h => ?_)
      refine wp_if_ne 58 dX6_began_52 (by decide) (fun hc => ?_) (fun hc => ?_)
      · replace h := h.1 hc
        refine wp_iload_n dX6_began_58 rfl ?_
        refine wp_iconst (v := 1) dX6_began_59 rfl ?_
        refine wp_iadd dX6_began_60 ?_
        refine wi6_3 dX6_began_61 ?_
        refine wp_iload dX6_began_62 rfl ?_
        refine wi6_4 dX6_began_64 ?_
        refine wc6_5 (-1) dX6_began_66 rfl ?_
        refine wp_goto 31 dX6_began_69 (by decide) ?_
        exact h
      · replace h := h.2 hc
        refine wp_goto 66 dX6_began_55 (by decide) ?_
        refine wc6_5 (-1) dX6_began_66 rfl ?_
        refine wp_goto 31 dX6_began_69 (by decide) ?_
        exact h
theorem n6_began {E : eT} {Q : Int32 → vT → Prop} {V : vT} {x1 x2 : Int32} (h : w6_began E Q 0 [some (vr 214), some (vi x1), some (vi x2), none, none, none] [] V) : c6_began E x1 x2 V Q := MOk.enter [some (vr 214), some (vi x1), some (vi x2), none, none, none] pn_6 rfl rfl (Nat.le_of_ble_eq_true rfl) rfl h
theorem b6_couldBegin_0 {E : eT} {Q : Int32 → vT → Prop} {V : vT} {x1 x2 : Int32} (hT : TW E) (h : c6_laysFireFrom E x1 V (fun V2 => w6_couldBegin E Q 7 [some (vr 214), none, some (vi x2), some (vi 0)] [] V2)) : w6_couldBegin E Q 0 [some (vr 214), some (vi x1), some (vi x2), none] [] V := by
  refine wp_aload_n dX6_couldBegin_0 rfl ?_
  refine wp_iload_n dX6_couldBegin_1 rfl ?_
  refine wq_VV1 lk6_343 rfl (tb_214 hT) (tk_214 hT) dX6_couldBegin_2 h (rmQ_ok (by decide) (by decide)) ⟨Nat.le_refl _, Nat.le_refl _⟩ (Nat.le_of_ble_eq_true rfl) (fun V2 h => ?_)
  refine wp_iconst (v := 0) dX6_couldBegin_5 rfl ?_
  refine wi4_3 dX6_couldBegin_6 ?_
  exact wp_drop [some (vr 214), none, some (vi x2), some (vi 0)] ⟨rfl, ⟨rfl, ⟨rfl, trivial⟩⟩⟩ h
theorem b6_couldBegin_7 {E : eT} {Q : Int32 → vT → Prop} {V : vT} {x2 x3 : Int32} (hT : TW E) (h : (96 ≤ x3 → Q 1 V) ∧ (x3 < 96 → c6_isWood E x3 V (fun r15 V15 => (r15 = 0 → w6_couldBegin E Q 7 [some (vr 214), none, some (vi x2), some (vi (x3 + 1))] [] V15) ∧ (¬ r15 = 0 → vp_in x3 96 ∧ (c6_in E (V15 236 ((x3).toNatClampNeg)) 0 x2 V15 (fun r29 V29 => vp_in (0 + x3) 315 ∧ (((V29 215 ((0 + x3).toNatClampNeg)) = 0 → (r29 = 0 → w6_couldBegin E Q 7 [some (vr 214), none, some (vi x2), some (vi (x3 + 1))] [] V29) ∧ (¬ r29 = 0 → Q 0 V29)) ∧ (¬ (V29 215 ((0 + x3).toNatClampNeg)) = 0 → (r29 = 1 → w6_couldBegin E Q 7 [some (vr 214), none, some (vi x2), some (vi (x3 + 1))] [] V29) ∧ (¬ r29 = 1 → Q 0 V29))))))))) : w6_couldBegin E Q 7 [some (vr 214), none, some (vi x2), some (vi x3)] [] V := by
  refine wp_iload_n dX6_couldBegin_7 rfl ?_
  refine wp_bipush (v := 96) dX6_couldBegin_8 rfl ?_
  refine wp_icmp_ge 59 dX6_couldBegin_10 (by decide) (fun hc => ?_) (fun hc => ?_)
  · replace h := h.1 hc
    refine wp_iconst (v := 1) dX6_couldBegin_59 rfl ?_
    exact wp_iret dX6_couldBegin_60 rfl ⟨_, rfl, rfl, rfl, rfl, h⟩
  · replace h := h.2 (Int32.not_le.mp hc)
    refine wp_aload_n dX6_couldBegin_13 rfl ?_
    refine wp_iload_n dX6_couldBegin_14 rfl ?_
    refine wq_VI1 lk6_241 rfl (tb_214 hT) (tk_214 hT) dX6_couldBegin_15 h (rmQ_ok (by decide) (by decide)) ⟨Nat.le_refl _, Nat.le_refl _⟩ (Nat.le_of_ble_eq_true rfl) (fun r15 V15 h => ?_)
    refine wp_if_eq 53 dX6_couldBegin_18 (by decide) (fun hc => ?_) (fun hc => ?_)
    · replace h := h.1 hc
      refine wc4_3 1 dX6_couldBegin_53 rfl ?_
      refine wp_goto 7 dX6_couldBegin_56 (by decide) ?_
      exact h
    · replace h := h.2 hc
      refine wp_aload_n dX6_couldBegin_21 rfl ?_
      refine wp_getrs dX6_couldBegin_22 fk6_75 (tb_214 hT) (tk_214 hT) rfl (tr_35 hT) ?_
      refine wp_iload_n dX6_couldBegin_25 rfl ?_
      refine wp_iald dX6_couldBegin_26 (tb_236 hT).2 (tk_236 hT) h.1 ?_
      replace h := h.2
      refine wp_iconst (v := 0) dX6_couldBegin_27 rfl ?_
      refine wp_iload_n dX6_couldBegin_28 rfl ?_
      refine wq_SI3 lk6_102 dX6_couldBegin_29 h (rmQ_ok (by decide) (by decide)) ⟨Nat.le_refl _, Nat.le_refl _⟩ (Nat.le_of_ble_eq_true rfl) (fun r29 V29 h => ?_)
      refine wp_aload_n dX6_couldBegin_32 rfl ?_
      refine wp_getrs dX6_couldBegin_33 fk6_7 (tb_214 hT) (tk_214 hT) rfl (tr_0 hT) ?_
      refine wp_iconst (v := 0) dX6_couldBegin_36 rfl ?_
      refine wp_iload_n dX6_couldBegin_37 rfl ?_
      refine wp_iadd dX6_couldBegin_38 ?_
      refine wp_iald dX6_couldBegin_39 (tb_215 hT).2 (tk_215 hT) h.1 ?_
      replace h := h.2
      refine wp_if_eq 47 dX6_couldBegin_40 (by decide) (fun hc => ?_) (fun hc => ?_)
      · replace h := h.1 hc
        refine wp_iconst (v := 0) dX6_couldBegin_47 rfl ?_
        refine wp_icmp_eq 53 dX6_couldBegin_48 (by decide) (fun hc => ?_) (fun hc => ?_)
        · replace h := h.1 hc
          refine wc4_3 1 dX6_couldBegin_53 rfl ?_
          refine wp_goto 7 dX6_couldBegin_56 (by decide) ?_
          exact h
        · replace h := h.2 hc
          refine wp_iconst (v := 0) dX6_couldBegin_51 rfl ?_
          exact wp_iret dX6_couldBegin_52 rfl ⟨_, rfl, rfl, rfl, rfl, h⟩
      · replace h := h.2 hc
        refine wp_iconst (v := 1) dX6_couldBegin_43 rfl ?_
        refine wp_goto 48 dX6_couldBegin_44 (by decide) ?_
        refine wp_icmp_eq 53 dX6_couldBegin_48 (by decide) (fun hc => ?_) (fun hc => ?_)
        · replace h := h.1 hc
          refine wc4_3 1 dX6_couldBegin_53 rfl ?_
          refine wp_goto 7 dX6_couldBegin_56 (by decide) ?_
          exact h
        · replace h := h.2 hc
          refine wp_iconst (v := 0) dX6_couldBegin_51 rfl ?_
          exact wp_iret dX6_couldBegin_52 rfl ⟨_, rfl, rfl, rfl, rfl, h⟩
theorem n6_couldBegin {E : eT} {Q : Int32 → vT → Prop} {V : vT} {x1 x2 : Int32} (h : w6_couldBegin E Q 0 [some (vr 214), some (vi x1), some (vi x2), none] [] V) : c6_couldBegin E x1 x2 V Q := MOk.enter [some (vr 214), some (vi x1), some (vi x2), none] pn_6 rfl rfl (Nat.le_of_ble_eq_true rfl) rfl h
theorem b6_breaks_0 {E : eT} {Q : Int32 → vT → Prop} {V : vT} {x1 x2 : Int32} (hT : TW E) (h : c6_isPlace E x1 V (fun r1 V1 => (r1 = 0 → Q (-1) V1) ∧ (¬ r1 = 0 → c6_isPlace E x2 V1 (fun r8 V8 => (r8 = 0 → Q (-1) V8) ∧ (¬ r8 = 0 → (¬ x1 = x2 → c6_isWood E x1 V8 (fun r23 V23 => (r23 = 0 → Q (-3) V23) ∧ (¬ r23 = 0 → c6_isWood E x2 V23 (fun r31 V31 => (¬ r31 = 0 → w6_breaks E Q 42 [some (vr 214), some (vi x1), some (vi x2), some (vi 0)] [] V31) ∧ (r31 = 0 → Q (-3) V31))))) ∧ (x1 = x2 → Q (-1) V8)))))) : w6_breaks E Q 0 [some (vr 214), some (vi x1), some (vi x2), none] [] V := by
  refine wp_iload_n dX6_breaks_0 rfl ?_
  refine wq_SI1 lk6_110 dX6_breaks_1 h (rmQ_ok (by decide) (by decide)) ⟨Nat.le_refl _, Nat.le_refl _⟩ (Nat.le_of_ble_eq_true rfl) (fun r1 V1 h => ?_)
  refine wp_if_eq 19 dX6_breaks_4 (by decide) (fun hc => ?_) (fun hc => ?_)
  · replace h := h.1 hc
    refine wp_iconst (v := (-1)) dX6_breaks_19 rfl ?_
    exact wp_iret dX6_breaks_20 rfl ⟨_, rfl, rfl, rfl, rfl, h⟩
  · replace h := h.2 hc
    refine wp_iload_n dX6_breaks_7 rfl ?_
    refine wq_SI1 lk6_110 dX6_breaks_8 h (rmQ_ok (by decide) (by decide)) ⟨Nat.le_refl _, Nat.le_refl _⟩ (Nat.le_of_ble_eq_true rfl) (fun r8 V8 h => ?_)
    refine wp_if_eq 19 dX6_breaks_11 (by decide) (fun hc => ?_) (fun hc => ?_)
    · replace h := h.1 hc
      refine wp_iconst (v := (-1)) dX6_breaks_19 rfl ?_
      exact wp_iret dX6_breaks_20 rfl ⟨_, rfl, rfl, rfl, rfl, h⟩
    · replace h := h.2 hc
      refine wp_iload_n dX6_breaks_14 rfl ?_
      refine wp_iload_n dX6_breaks_15 rfl ?_
      refine wp_icmp_ne 21 dX6_breaks_16 (by decide) (fun hc => ?_) (fun hc => ?_)
      · replace h := h.1 hc
        refine wp_aload_n dX6_breaks_21 rfl ?_
        refine wp_iload_n dX6_breaks_22 rfl ?_
        refine wq_VI1 lk6_241 rfl (tb_214 hT) (tk_214 hT) dX6_breaks_23 h (rmQ_ok (by decide) (by decide)) ⟨Nat.le_refl _, Nat.le_refl _⟩ (Nat.le_of_ble_eq_true rfl) (fun r23 V23 h => ?_)
        refine wp_if_eq 37 dX6_breaks_26 (by decide) (fun hc => ?_) (fun hc => ?_)
        · replace h := h.1 hc
          refine wp_bipush (v := (-3)) dX6_breaks_37 rfl ?_
          exact wp_iret dX6_breaks_39 rfl ⟨_, rfl, rfl, rfl, rfl, h⟩
        · replace h := h.2 hc
          refine wp_aload_n dX6_breaks_29 rfl ?_
          refine wp_iload_n dX6_breaks_30 rfl ?_
          refine wq_VI1 lk6_241 rfl (tb_214 hT) (tk_214 hT) dX6_breaks_31 h (rmQ_ok (by decide) (by decide)) ⟨Nat.le_refl _, Nat.le_refl _⟩ (Nat.le_of_ble_eq_true rfl) (fun r31 V31 h => ?_)
          refine wp_if_ne 40 dX6_breaks_34 (by decide) (fun hc => ?_) (fun hc => ?_)
          · replace h := h.1 hc
            refine wp_iconst (v := 0) dX6_breaks_40 rfl ?_
            refine wi4_3 dX6_breaks_41 ?_
            exact h
          · replace h := h.2 hc
            refine wp_bipush (v := (-3)) dX6_breaks_37 rfl ?_
            exact wp_iret dX6_breaks_39 rfl ⟨_, rfl, rfl, rfl, rfl, h⟩
      · replace h := h.2 hc
        refine wp_iconst (v := (-1)) dX6_breaks_19 rfl ?_
        exact wp_iret dX6_breaks_20 rfl ⟨_, rfl, rfl, rfl, rfl, h⟩
theorem b6_breaks_42 {E : eT} {Q : Int32 → vT → Prop} {V : vT} {x1 x2 x3 : Int32} (hT : TW E) (h : (4 ≤ x3 → c6_waysApart E x1 x2 V (fun r68 V68 => Q r68 V68)) ∧ (x3 < 4 → c6_beside E x1 x3 V (fun r49 V49 => (¬ r49 = x2 → w6_breaks E Q 42 [some (vr 214), some (vi x1), some (vi x2), some (vi (x3 + 1))] [] V49) ∧ (r49 = x2 → Q (-2) V49)))) : w6_breaks E Q 42 [some (vr 214), some (vi x1), some (vi x2), some (vi x3)] [] V := by
  refine wp_iload_n dX6_breaks_42 rfl ?_
  refine wp_iconst (v := 4) dX6_breaks_43 rfl ?_
  refine wp_icmp_ge 65 dX6_breaks_44 (by decide) (fun hc => ?_) (fun hc => ?_)
  · replace h := h.1 hc
    refine wp_aload_n dX6_breaks_65 rfl ?_
    refine wp_iload_n dX6_breaks_66 rfl ?_
    refine wp_iload_n dX6_breaks_67 rfl ?_
    refine wq_VI2 lk6_361 rfl (tb_214 hT) (tk_214 hT) dX6_breaks_68 h (rmQ_ok (by decide) (by decide)) ⟨Nat.le_refl _, Nat.le_refl _⟩ (Nat.le_of_ble_eq_true rfl) (fun r68 V68 h => ?_)
    exact wp_iret dX6_breaks_71 rfl ⟨_, rfl, rfl, rfl, rfl, h⟩
  · replace h := h.2 (Int32.not_le.mp hc)
    refine wp_iload_n dX6_breaks_47 rfl ?_
    refine wp_iload_n dX6_breaks_48 rfl ?_
    refine wq_SI2 lk6_281 dX6_breaks_49 h (rmQ_ok (by decide) (by decide)) ⟨Nat.le_refl _, Nat.le_refl _⟩ (Nat.le_of_ble_eq_true rfl) (fun r49 V49 h => ?_)
    refine wp_iload_n dX6_breaks_52 rfl ?_
    refine wp_icmp_ne 59 dX6_breaks_53 (by decide) (fun hc => ?_) (fun hc => ?_)
    · replace h := h.1 hc
      refine wc4_3 1 dX6_breaks_59 rfl ?_
      refine wp_goto 42 dX6_breaks_62 (by decide) ?_
      exact h
    · replace h := h.2 hc
      refine wp_bipush (v := (-2)) dX6_breaks_56 rfl ?_
      exact wp_iret dX6_breaks_58 rfl ⟨_, rfl, rfl, rfl, rfl, h⟩
theorem n6_breaks {E : eT} {Q : Int32 → vT → Prop} {V : vT} {x1 x2 : Int32} (h : w6_breaks E Q 0 [some (vr 214), some (vi x1), some (vi x2), none] [] V) : c6_breaks E x1 x2 V Q := MOk.enter [some (vr 214), some (vi x1), some (vi x2), none] pn_6 rfl rfl (Nat.le_of_ble_eq_true rfl) rfl h
theorem b6_waysApart_0 {E : eT} {Q : Int32 → vT → Prop} {V : vT} {x1 x2 : Int32} (hT : TW E) (h : w6_waysApart E Q 5 [some (vr 214), some (vi x1), some (vi x2), some (vi 0), some (vi 0)] [] V) : w6_waysApart E Q 0 [some (vr 214), some (vi x1), some (vi x2), none, none] [] V := by
  refine wp_iconst (v := 0) dX6_waysApart_0 rfl ?_
  refine wi5_3 dX6_waysApart_1 ?_
  refine wp_iconst (v := 0) dX6_waysApart_2 rfl ?_
  refine wi5_4 dX6_waysApart_3 ?_
  exact h
theorem b6_waysApart_5 {E : eT} {Q : Int32 → vT → Prop} {V : vT} {x1 x2 x3 x4 : Int32} (hT : TW E) (h : (96 ≤ x4 → w6_waysApart E Q 34 [some (vr 214), some (vi x1), some (vi x2), some (vi x3), none] [] V) ∧ (x4 < 96 → vp_in x4 96 ∧ (vp_in x4 96 ∧ (w6_waysApart E Q 5 [some (vr 214), some (vi x1), some (vi x2), some (vi x3), some (vi (x4 + 1))] [] (up2 (up2 V 238 (x4.toNatClampNeg) (-1)) 239 (x4.toNatClampNeg) (-1)))))) : w6_waysApart E Q 5 [some (vr 214), some (vi x1), some (vi x2), some (vi x3), some (vi x4)] [] V := by
  refine wp_iload dX6_waysApart_5 rfl ?_
  refine wp_bipush (v := 96) dX6_waysApart_7 rfl ?_
  refine wp_icmp_ge 34 dX6_waysApart_9 (by decide) (fun hc => ?_) (fun hc => ?_)
  · replace h := h.1 hc
    exact wp_drop [some (vr 214), some (vi x1), some (vi x2), some (vi x3), none] ⟨rfl, ⟨rfl, ⟨rfl, ⟨rfl, trivial⟩⟩⟩⟩ h
  · replace h := h.2 (Int32.not_le.mp hc)
    refine wp_aload_n dX6_waysApart_12 rfl ?_
    refine wp_getrs dX6_waysApart_13 fk6_81 (tb_214 hT) (tk_214 hT) rfl (tr_37 hT) ?_
    refine wp_iload dX6_waysApart_16 rfl ?_
    refine wp_iconst (v := (-1)) dX6_waysApart_18 rfl ?_
    refine wp_iast dX6_waysApart_19 (tb_238 hT) (tk_238 hT) h.1 ?_
    replace h := h.2
    refine wp_aload_n dX6_waysApart_20 rfl ?_
    refine wp_getrs dX6_waysApart_21 fk6_84 (tb_214 hT) (tk_214 hT) rfl (tr_38 hT) ?_
    refine wp_iload dX6_waysApart_24 rfl ?_
    refine wp_iconst (v := (-1)) dX6_waysApart_26 rfl ?_
    refine wp_iast dX6_waysApart_27 (tb_239 hT) (tk_239 hT) h.1 ?_
    replace h := h.2
    refine wc5_4 1 dX6_waysApart_28 rfl ?_
    refine wp_goto 5 dX6_waysApart_31 (by decide) ?_
    exact h
theorem b6_waysApart_34 {E : eT} {Q : Int32 → vT → Prop} {V : vT} {x1 x2 x3 : Int32} (hT : TW E) (h : c6_findsWay E x1 x2 V (fun r37 V37 => (r37 = 0 → Q x3 V37) ∧ (¬ r37 = 0 → c6_goesAlong E x1 x2 V37 (fun V50 => w6_waysApart E Q 34 [some (vr 214), some (vi x1), some (vi x2), some (vi (x3 + 1)), none] [] V50)))) : w6_waysApart E Q 34 [some (vr 214), some (vi x1), some (vi x2), some (vi x3), none] [] V := by
  refine wp_aload_n dX6_waysApart_34 rfl ?_
  refine wp_iload_n dX6_waysApart_35 rfl ?_
  refine wp_iload_n dX6_waysApart_36 rfl ?_
  refine wq_VI2 lk6_355 rfl (tb_214 hT) (tk_214 hT) dX6_waysApart_37 h (rmQ_ok (by decide) (by decide)) ⟨Nat.le_refl _, Nat.le_refl _⟩ (Nat.le_of_ble_eq_true rfl) (fun r37 V37 h => ?_)
  refine wp_if_eq 56 dX6_waysApart_40 (by decide) (fun hc => ?_) (fun hc => ?_)
  · replace h := h.1 hc
    refine wp_iload_n dX6_waysApart_56 rfl ?_
    exact wp_iret dX6_waysApart_57 rfl ⟨_, rfl, rfl, rfl, rfl, h⟩
  · replace h := h.2 hc
    refine wp_iload_n dX6_waysApart_43 rfl ?_
    refine wp_iconst (v := 1) dX6_waysApart_44 rfl ?_
    refine wp_iadd dX6_waysApart_45 ?_
    refine wi5_3 dX6_waysApart_46 ?_
    refine wp_aload_n dX6_waysApart_47 rfl ?_
    refine wp_iload_n dX6_waysApart_48 rfl ?_
    refine wp_iload_n dX6_waysApart_49 rfl ?_
    refine wq_VV2 lk6_358 rfl (tb_214 hT) (tk_214 hT) dX6_waysApart_50 h (rmQ_ok (by decide) (by decide)) ⟨Nat.le_refl _, Nat.le_refl _⟩ (Nat.le_of_ble_eq_true rfl) (fun V50 h => ?_)
    refine wp_goto 34 dX6_waysApart_53 (by decide) ?_
    exact h
theorem n6_waysApart {E : eT} {Q : Int32 → vT → Prop} {V : vT} {x1 x2 : Int32} (h : w6_waysApart E Q 0 [some (vr 214), some (vi x1), some (vi x2), none, none] [] V) : c6_waysApart E x1 x2 V Q := MOk.enter [some (vr 214), some (vi x1), some (vi x2), none, none] pn_6 rfl rfl (Nat.le_of_ble_eq_true rfl) rfl h
theorem b6_findsWay_0 {E : eT} {Q : Int32 → vT → Prop} {V : vT} {x1 x2 : Int32} (hT : TW E) (h : w6_findsWay E Q 2 [some (vr 214), some (vi x1), some (vi x2), some (vi 0), none, none, none, none, none] [] V) : w6_findsWay E Q 0 [some (vr 214), some (vi x1), some (vi x2), none, none, none, none, none, none] [] V := by
  refine wp_iconst (v := 0) dX6_findsWay_0 rfl ?_
  refine wi9_3 dX6_findsWay_1 ?_
  exact h
theorem b6_findsWay_2 {E : eT} {Q : Int32 → vT → Prop} {V : vT} {x1 x2 x3 : Int32} (hT : TW E) (h : (192 ≤ x3 → c6_visits E ((2 * x1) + 1) ((2 * x1) + 1) (up2 V 214 40 0) (fun V38 => w6_findsWay E Q 43 [some (vr 214), some (vi x1), some (vi x2), some (vi 0), none, none, none, none, none] [] V38)) ∧ (x3 < 192 → vp_in x3 192 ∧ (w6_findsWay E Q 2 [some (vr 214), some (vi x1), some (vi x2), some (vi (x3 + 1)), none, none, none, none, none] [] (up2 V 240 (x3.toNatClampNeg) (-1))))) : w6_findsWay E Q 2 [some (vr 214), some (vi x1), some (vi x2), some (vi x3), none, none, none, none, none] [] V := by
  refine wp_iload_n dX6_findsWay_2 rfl ?_
  refine wp_sipush (v := 192) dX6_findsWay_3 rfl ?_
  refine wp_icmp_ge 22 dX6_findsWay_6 (by decide) (fun hc => ?_) (fun hc => ?_)
  · replace h := h.1 hc
    refine wp_aload_n dX6_findsWay_22 rfl ?_
    refine wp_iconst (v := 0) dX6_findsWay_23 rfl ?_
    refine wp_puti dX6_findsWay_24 fp6_349 (tb_214 hT) (tk_214 hT) rfl ?_
    refine wp_aload_n dX6_findsWay_27 rfl ?_
    refine wp_iconst (v := 2) dX6_findsWay_28 rfl ?_
    refine wp_iload_n dX6_findsWay_29 rfl ?_
    refine wp_imul dX6_findsWay_30 ?_
    refine wp_iconst (v := 1) dX6_findsWay_31 rfl ?_
    refine wp_iadd dX6_findsWay_32 ?_
    refine wp_iconst (v := 2) dX6_findsWay_33 rfl ?_
    refine wp_iload_n dX6_findsWay_34 rfl ?_
    refine wp_imul dX6_findsWay_35 ?_
    refine wp_iconst (v := 1) dX6_findsWay_36 rfl ?_
    refine wp_iadd dX6_findsWay_37 ?_
    refine wq_VV2 lk6_352 rfl (tb_214 hT) (tk_214 hT) dX6_findsWay_38 h (rmQ_ok (by decide) (by decide)) ⟨Nat.le_refl _, Nat.le_refl _⟩ (Nat.le_of_ble_eq_true rfl) (fun V38 h => ?_)
    refine wp_iconst (v := 0) dX6_findsWay_41 rfl ?_
    refine wi9_3 dX6_findsWay_42 ?_
    exact h
  · replace h := h.2 (Int32.not_le.mp hc)
    refine wp_aload_n dX6_findsWay_9 rfl ?_
    refine wp_getrs dX6_findsWay_10 fk6_87 (tb_214 hT) (tk_214 hT) rfl (tr_39 hT) ?_
    refine wp_iload_n dX6_findsWay_13 rfl ?_
    refine wp_iconst (v := (-1)) dX6_findsWay_14 rfl ?_
    refine wp_iast dX6_findsWay_15 (tb_240 hT) (tk_240 hT) h.1 ?_
    replace h := h.2
    refine wc9_3 1 dX6_findsWay_16 rfl ?_
    refine wp_goto 2 dX6_findsWay_19 (by decide) ?_
    exact h
theorem b6_findsWay_43 {E : eT} {Q : Int32 → vT → Prop} {V : vT} {x1 x2 x3 : Int32} (hT : TW E) (h : ((V 214 40) ≤ x3 → Q 0 V) ∧ (x3 < (V 214 40) → vp_in x3 192 ∧ (vp_in x3 192 ∧ ((¬ (rmd (V 237 ((x3).toNatClampNeg)) 2) = 1 → (¬ ((V 237 ((x3).toNatClampNeg)) / 2) = x2 → (((V 237 ((x3).toNatClampNeg)) / 2) = x1 → vp_in x3 192 ∧ (c6_visits E ((2 * ((V 237 ((x3).toNatClampNeg)) / 2)) + 1) (V 237 ((x3).toNatClampNeg)) V (fun V263 => w6_findsWay E Q 43 [some (vr 214), some (vi x1), some (vi x2), some (vi (x3 + 1)), none, none, none, none, none] [] V263))) ∧ (¬ ((V 237 ((x3).toNatClampNeg)) / 2) = x1 → vp_in ((V 237 ((x3).toNatClampNeg)) / 2) 96 ∧ (((V 239 (((V 237 ((x3).toNatClampNeg)) / 2).toNatClampNeg)) = (-1) → vp_in x3 192 ∧ (c6_visits E ((2 * ((V 237 ((x3).toNatClampNeg)) / 2)) + 1) (V 237 ((x3).toNatClampNeg)) V (fun V263' => w6_findsWay E Q 43 [some (vr 214), some (vi x1), some (vi x2), some (vi (x3 + 1)), none, none, none, none, none] [] V263'))) ∧ (¬ (V 239 (((V 237 ((x3).toNatClampNeg)) / 2).toNatClampNeg)) = (-1) → vp_in ((V 237 ((x3).toNatClampNeg)) / 2) 96 ∧ (vp_in x3 192 ∧ (c6_visits E ((2 * (V 239 (((V 237 ((x3).toNatClampNeg)) / 2).toNatClampNeg))) + 1) (V 237 ((x3).toNatClampNeg)) V (fun V244 => w6_findsWay E Q 43 [some (vr 214), some (vi x1), some (vi x2), some (vi (x3 + 1)), none, none, none, none, none] [] V244))))))) ∧ (((V 237 ((x3).toNatClampNeg)) / 2) = x2 → Q 1 V)) ∧ ((rmd (V 237 ((x3).toNatClampNeg)) 2) = 1 → (¬ ((V 237 ((x3).toNatClampNeg)) / 2) = x2 → (((V 237 ((x3).toNatClampNeg)) / 2) = x1 → w6_findsWay E Q 120 [some (vr 214), some (vi x1), some (vi x2), some (vi x3), some (vi ((V 237 ((x3).toNatClampNeg)) / 2)), none, some (vi 0), some (vi 0), none] [] V) ∧ (¬ ((V 237 ((x3).toNatClampNeg)) / 2) = x1 → vp_in ((V 237 ((x3).toNatClampNeg)) / 2) 96 ∧ (((V 239 (((V 237 ((x3).toNatClampNeg)) / 2).toNatClampNeg)) = (-1) → w6_findsWay E Q 120 [some (vr 214), some (vi x1), some (vi x2), some (vi x3), some (vi ((V 237 ((x3).toNatClampNeg)) / 2)), none, some (vi 0), some (vi 0), none] [] V) ∧ (¬ (V 239 (((V 237 ((x3).toNatClampNeg)) / 2).toNatClampNeg)) = (-1) → w6_findsWay E Q 120 [some (vr 214), some (vi x1), some (vi x2), some (vi x3), some (vi ((V 237 ((x3).toNatClampNeg)) / 2)), none, some (vi 1), some (vi 0), none] [] V)))) ∧ (((V 237 ((x3).toNatClampNeg)) / 2) = x2 → Q 1 V)))))) : w6_findsWay E Q 43 [some (vr 214), some (vi x1), some (vi x2), some (vi x3), none, none, none, none, none] [] V := by
  refine wp_iload_n dX6_findsWay_43 rfl ?_
  refine wp_aload_n dX6_findsWay_44 rfl ?_
  refine wp_geti dX6_findsWay_45 fk6_349 (tb_214 hT) (tk_214 hT) rfl ?_
  refine wp_icmp_ge 272 dX6_findsWay_48 (by decide) (fun hc => ?_) (fun hc => ?_)
  · replace h := h.1 hc
    refine wp_iconst (v := 0) dX6_findsWay_272 rfl ?_
    exact wp_iret dX6_findsWay_273 rfl ⟨_, rfl, rfl, rfl, rfl, h⟩
  · replace h := h.2 (Int32.not_le.mp hc)
    refine wp_aload_n dX6_findsWay_51 rfl ?_
    refine wp_getrs dX6_findsWay_52 fk6_78 (tb_214 hT) (tk_214 hT) rfl (tr_36 hT) ?_
    refine wp_iload_n dX6_findsWay_55 rfl ?_
    refine wp_iald dX6_findsWay_56 (tb_237 hT).2 (tk_237 hT) h.1 ?_
    replace h := h.2
    refine wp_iconst (v := 2) dX6_findsWay_57 rfl ?_
    refine wp_idiv dX6_findsWay_58 (by decide) ?_
    refine wi9_4 dX6_findsWay_59 ?_
    refine wp_aload_n dX6_findsWay_61 rfl ?_
    refine wp_getrs dX6_findsWay_62 fk6_78 (tb_214 hT) (tk_214 hT) rfl (tr_36 hT) ?_
    refine wp_iload_n dX6_findsWay_65 rfl ?_
    refine wp_iald dX6_findsWay_66 (tb_237 hT).2 (tk_237 hT) h.1 ?_
    replace h := h.2
    refine wp_iconst (v := 2) dX6_findsWay_67 rfl ?_
    refine wp_irm dX6_findsWay_68 (by decide) ?_
    refine wp_iconst (v := 1) dX6_findsWay_69 rfl ?_
    refine wp_icmp_ne 77 dX6_findsWay_70 (by decide) (fun hc => ?_) (fun hc => ?_)
    · replace h := h.1 hc
      refine wp_iconst (v := 0) dX6_findsWay_77 rfl ?_
      refine wi9_5 dX6_findsWay_78 ?_
      refine wp_iload dX6_findsWay_80 rfl ?_
      refine wp_iload_n dX6_findsWay_82 rfl ?_
      refine wp_icmp_ne 88 dX6_findsWay_83 (by decide) (fun hc => ?_) (fun hc => ?_)
      · replace h := h.1 hc
        refine wp_iload dX6_findsWay_88 rfl ?_
        refine wp_iload_n dX6_findsWay_90 rfl ?_
        refine wp_icmp_eq 109 dX6_findsWay_91 (by decide) (fun hc => ?_) (fun hc => ?_)
        · replace h := h.1 hc
          refine wp_iconst (v := 0) dX6_findsWay_109 rfl ?_
          refine wi9_6 dX6_findsWay_110 ?_
          refine wp_iload dX6_findsWay_112 rfl ?_
          refine wp_if_eq 221 dX6_findsWay_114 (by decide) (fun _ => ?_) (fun hc => absurd hc (by decide))
          refine wp_iload dX6_findsWay_221 rfl ?_
          refine wp_if_eq 250 dX6_findsWay_223 (by decide) (fun _ => ?_) (fun hc => absurd hc (by decide))
          refine wp_aload_n dX6_findsWay_250 rfl ?_
          refine wp_iconst (v := 2) dX6_findsWay_251 rfl ?_
          refine wp_iload dX6_findsWay_252 rfl ?_
          refine wp_imul dX6_findsWay_254 ?_
          refine wp_iconst (v := 1) dX6_findsWay_255 rfl ?_
          refine wp_iadd dX6_findsWay_256 ?_
          refine wp_aload_n dX6_findsWay_257 rfl ?_
          refine wp_getrs dX6_findsWay_258 fk6_78 (tb_214 hT) (tk_214 hT) rfl (tr_36 hT) ?_
          refine wp_iload_n dX6_findsWay_261 rfl ?_
          refine wp_iald dX6_findsWay_262 (tb_237 hT).2 (tk_237 hT) h.1 ?_
          replace h := h.2
          refine wq_VV2 lk6_352 rfl (tb_214 hT) (tk_214 hT) dX6_findsWay_263 h (rmQ_ok (by decide) (by decide)) ⟨Nat.le_refl _, Nat.le_refl _⟩ (Nat.le_of_ble_eq_true rfl) (fun V263 h => ?_)
          refine wc9_3 1 dX6_findsWay_266 rfl ?_
          refine wp_goto 43 dX6_findsWay_269 (by decide) ?_
          exact wp_drop [some (vr 214), some (vi x1), some (vi x2), some (vi (x3 + 1)), none, none, none, none, none] ⟨rfl, ⟨rfl, ⟨rfl, ⟨rfl, trivial⟩⟩⟩⟩ h
        · replace h := h.2 hc
          refine wp_aload_n dX6_findsWay_94 rfl ?_
          refine wp_getrs dX6_findsWay_95 fk6_84 (tb_214 hT) (tk_214 hT) rfl (tr_38 hT) ?_
          refine wp_iload dX6_findsWay_98 rfl ?_
          refine wp_iald dX6_findsWay_100 (tb_239 hT).2 (tk_239 hT) h.1 ?_
          replace h := h.2
          refine wp_iconst (v := (-1)) dX6_findsWay_101 rfl ?_
          refine wp_icmp_eq 109 dX6_findsWay_102 (by decide) (fun hc => ?_) (fun hc => ?_)
          · replace h := h.1 hc
            refine wp_iconst (v := 0) dX6_findsWay_109 rfl ?_
            refine wi9_6 dX6_findsWay_110 ?_
            refine wp_iload dX6_findsWay_112 rfl ?_
            refine wp_if_eq 221 dX6_findsWay_114 (by decide) (fun _ => ?_) (fun hc => absurd hc (by decide))
            refine wp_iload dX6_findsWay_221 rfl ?_
            refine wp_if_eq 250 dX6_findsWay_223 (by decide) (fun _ => ?_) (fun hc => absurd hc (by decide))
            refine wp_aload_n dX6_findsWay_250 rfl ?_
            refine wp_iconst (v := 2) dX6_findsWay_251 rfl ?_
            refine wp_iload dX6_findsWay_252 rfl ?_
            refine wp_imul dX6_findsWay_254 ?_
            refine wp_iconst (v := 1) dX6_findsWay_255 rfl ?_
            refine wp_iadd dX6_findsWay_256 ?_
            refine wp_aload_n dX6_findsWay_257 rfl ?_
            refine wp_getrs dX6_findsWay_258 fk6_78 (tb_214 hT) (tk_214 hT) rfl (tr_36 hT) ?_
            refine wp_iload_n dX6_findsWay_261 rfl ?_
            refine wp_iald dX6_findsWay_262 (tb_237 hT).2 (tk_237 hT) h.1 ?_
            replace h := h.2
            refine wq_VV2 lk6_352 rfl (tb_214 hT) (tk_214 hT) dX6_findsWay_263 h (rmQ_ok (by decide) (by decide)) ⟨Nat.le_refl _, Nat.le_refl _⟩ (Nat.le_of_ble_eq_true rfl) (fun V263' h => ?_)
            refine wc9_3 1 dX6_findsWay_266 rfl ?_
            refine wp_goto 43 dX6_findsWay_269 (by decide) ?_
            exact wp_drop [some (vr 214), some (vi x1), some (vi x2), some (vi (x3 + 1)), none, none, none, none, none] ⟨rfl, ⟨rfl, ⟨rfl, ⟨rfl, trivial⟩⟩⟩⟩ h
          · replace h := h.2 hc
            refine wp_iconst (v := 1) dX6_findsWay_105 rfl ?_
            refine wp_goto 110 dX6_findsWay_106 (by decide) ?_
            refine wi9_6 dX6_findsWay_110 ?_
            refine wp_iload dX6_findsWay_112 rfl ?_
            refine wp_if_eq 221 dX6_findsWay_114 (by decide) (fun _ => ?_) (fun hc => absurd hc (by decide))
            refine wp_iload dX6_findsWay_221 rfl ?_
            refine wp_if_eq 250 dX6_findsWay_223 (by decide) (fun hc => absurd hc (by decide)) (fun _ => ?_)
            refine wp_aload_n dX6_findsWay_226 rfl ?_
            refine wp_iconst (v := 2) dX6_findsWay_227 rfl ?_
            refine wp_aload_n dX6_findsWay_228 rfl ?_
            refine wp_getrs dX6_findsWay_229 fk6_84 (tb_214 hT) (tk_214 hT) rfl (tr_38 hT) ?_
            refine wp_iload dX6_findsWay_232 rfl ?_
            refine wp_iald dX6_findsWay_234 (tb_239 hT).2 (tk_239 hT) h.1 ?_
            replace h := h.2
            refine wp_imul dX6_findsWay_235 ?_
            refine wp_iconst (v := 1) dX6_findsWay_236 rfl ?_
            refine wp_iadd dX6_findsWay_237 ?_
            refine wp_aload_n dX6_findsWay_238 rfl ?_
            refine wp_getrs dX6_findsWay_239 fk6_78 (tb_214 hT) (tk_214 hT) rfl (tr_36 hT) ?_
            refine wp_iload_n dX6_findsWay_242 rfl ?_
            refine wp_iald dX6_findsWay_243 (tb_237 hT).2 (tk_237 hT) h.1 ?_
            replace h := h.2
            refine wq_VV2 lk6_352 rfl (tb_214 hT) (tk_214 hT) dX6_findsWay_244 h (rmQ_ok (by decide) (by decide)) ⟨Nat.le_refl _, Nat.le_refl _⟩ (Nat.le_of_ble_eq_true rfl) (fun V244 h => ?_)
            refine wp_goto 266 dX6_findsWay_247 (by decide) ?_
            refine wc9_3 1 dX6_findsWay_266 rfl ?_
            refine wp_goto 43 dX6_findsWay_269 (by decide) ?_
            exact wp_drop [some (vr 214), some (vi x1), some (vi x2), some (vi (x3 + 1)), none, none, none, none, none] ⟨rfl, ⟨rfl, ⟨rfl, ⟨rfl, trivial⟩⟩⟩⟩ h
      · replace h := h.2 hc
        refine wp_iconst (v := 1) dX6_findsWay_86 rfl ?_
        exact wp_iret dX6_findsWay_87 rfl ⟨_, rfl, rfl, rfl, rfl, h⟩
    · replace h := h.2 hc
      refine wp_iconst (v := 1) dX6_findsWay_73 rfl ?_
      refine wp_goto 78 dX6_findsWay_74 (by decide) ?_
      refine wi9_5 dX6_findsWay_78 ?_
      refine wp_iload dX6_findsWay_80 rfl ?_
      refine wp_iload_n dX6_findsWay_82 rfl ?_
      refine wp_icmp_ne 88 dX6_findsWay_83 (by decide) (fun hc => ?_) (fun hc => ?_)
      · replace h := h.1 hc
        refine wp_iload dX6_findsWay_88 rfl ?_
        refine wp_iload_n dX6_findsWay_90 rfl ?_
        refine wp_icmp_eq 109 dX6_findsWay_91 (by decide) (fun hc => ?_) (fun hc => ?_)
        · replace h := h.1 hc
          refine wp_iconst (v := 0) dX6_findsWay_109 rfl ?_
          refine wi9_6 dX6_findsWay_110 ?_
          refine wp_iload dX6_findsWay_112 rfl ?_
          refine wp_if_eq 221 dX6_findsWay_114 (by decide) (fun hc => absurd hc (by decide)) (fun _ => ?_)
          refine wp_iconst (v := 0) dX6_findsWay_117 rfl ?_
          refine wi9_7 dX6_findsWay_118 ?_
          exact wp_drop [some (vr 214), some (vi x1), some (vi x2), some (vi x3), some (vi ((V 237 ((x3).toNatClampNeg)) / 2)), none, some (vi 0), some (vi 0), none] ⟨rfl, ⟨rfl, ⟨rfl, ⟨rfl, ⟨rfl, ⟨rfl, ⟨rfl, trivial⟩⟩⟩⟩⟩⟩⟩ h
        · replace h := h.2 hc
          refine wp_aload_n dX6_findsWay_94 rfl ?_
          refine wp_getrs dX6_findsWay_95 fk6_84 (tb_214 hT) (tk_214 hT) rfl (tr_38 hT) ?_
          refine wp_iload dX6_findsWay_98 rfl ?_
          refine wp_iald dX6_findsWay_100 (tb_239 hT).2 (tk_239 hT) h.1 ?_
          replace h := h.2
          refine wp_iconst (v := (-1)) dX6_findsWay_101 rfl ?_
          refine wp_icmp_eq 109 dX6_findsWay_102 (by decide) (fun hc => ?_) (fun hc => ?_)
          · replace h := h.1 hc
            refine wp_iconst (v := 0) dX6_findsWay_109 rfl ?_
            refine wi9_6 dX6_findsWay_110 ?_
            refine wp_iload dX6_findsWay_112 rfl ?_
            refine wp_if_eq 221 dX6_findsWay_114 (by decide) (fun hc => absurd hc (by decide)) (fun _ => ?_)
            refine wp_iconst (v := 0) dX6_findsWay_117 rfl ?_
            refine wi9_7 dX6_findsWay_118 ?_
            exact wp_drop [some (vr 214), some (vi x1), some (vi x2), some (vi x3), some (vi ((V 237 ((x3).toNatClampNeg)) / 2)), none, some (vi 0), some (vi 0), none] ⟨rfl, ⟨rfl, ⟨rfl, ⟨rfl, ⟨rfl, ⟨rfl, ⟨rfl, trivial⟩⟩⟩⟩⟩⟩⟩ h
          · replace h := h.2 hc
            refine wp_iconst (v := 1) dX6_findsWay_105 rfl ?_
            refine wp_goto 110 dX6_findsWay_106 (by decide) ?_
            refine wi9_6 dX6_findsWay_110 ?_
            refine wp_iload dX6_findsWay_112 rfl ?_
            refine wp_if_eq 221 dX6_findsWay_114 (by decide) (fun hc => absurd hc (by decide)) (fun _ => ?_)
            refine wp_iconst (v := 0) dX6_findsWay_117 rfl ?_
            refine wi9_7 dX6_findsWay_118 ?_
            exact wp_drop [some (vr 214), some (vi x1), some (vi x2), some (vi x3), some (vi ((V 237 ((x3).toNatClampNeg)) / 2)), none, some (vi 1), some (vi 0), none] ⟨rfl, ⟨rfl, ⟨rfl, ⟨rfl, ⟨rfl, ⟨rfl, ⟨rfl, trivial⟩⟩⟩⟩⟩⟩⟩ h
      · replace h := h.2 hc
        refine wp_iconst (v := 1) dX6_findsWay_86 rfl ?_
        exact wp_iret dX6_findsWay_87 rfl ⟨_, rfl, rfl, rfl, rfl, h⟩
theorem b6_findsWay_120 {E : eT} {Q : Int32 → vT → Prop} {V : vT} {x1 x2 x3 x4 x6 x7 : Int32} (hT : TW E) (h : (4 ≤ x7 → (x6 = 0 → w6_findsWay E Q 43 [some (vr 214), some (vi x1), some (vi x2), some (vi (x3 + 1)), none, none, none, none, none] [] V) ∧ (¬ x6 = 0 → vp_in x3 192 ∧ (c6_visits E (2 * x4) (V 237 ((x3).toNatClampNeg)) V (fun V215 => w6_findsWay E Q 43 [some (vr 214), some (vi x1), some (vi x2), some (vi (x3 + 1)), none, none, none, none, none] [] V215)))) ∧ (x7 < 4 → c6_beside E x4 x7 V (fun r130 V130 => c6_isWood E r130 V130 (fun r138 V138 => (r138 = 0 → w6_findsWay E Q 120 [some (vr 214), some (vi x1), some (vi x2), some (vi x3), some (vi x4), none, some (vi x6), some (vi (x7 + 1)), none] [] V138) ∧ (¬ r138 = 0 → (r130 = x1 → w6_findsWay E Q 120 [some (vr 214), some (vi x1), some (vi x2), some (vi x3), some (vi x4), none, some (vi x6), some (vi (x7 + 1)), none] [] V138) ∧ (¬ r130 = x1 → vp_in x4 96 ∧ (((V138 238 ((x4).toNatClampNeg)) = r130 → w6_findsWay E Q 120 [some (vr 214), some (vi x1), some (vi x2), some (vi x3), some (vi x4), none, some (vi x6), some (vi (x7 + 1)), none] [] V138) ∧ (¬ (V138 238 ((x4).toNatClampNeg)) = r130 → (¬ x4 = x1 → vp_in x3 192 ∧ (c6_visits E (2 * r130) (V138 237 ((x3).toNatClampNeg)) V138 (fun V190 => w6_findsWay E Q 120 [some (vr 214), some (vi x1), some (vi x2), some (vi x3), some (vi x4), none, some (vi x6), some (vi (x7 + 1)), none] [] V190))) ∧ (x4 = x1 → vp_in r130 96 ∧ (((V138 239 ((r130).toNatClampNeg)) = x1 → w6_findsWay E Q 120 [some (vr 214), some (vi x1), some (vi x2), some (vi x3), some (vi x4), none, some (vi x6), some (vi (x7 + 1)), none] [] V138) ∧ (¬ (V138 239 ((r130).toNatClampNeg)) = x1 → vp_in x3 192 ∧ (c6_visits E (2 * r130) (V138 237 ((x3).toNatClampNeg)) V138 (fun V190' => w6_findsWay E Q 120 [some (vr 214), some (vi x1), some (vi x2), some (vi x3), some (vi x4), none, some (vi x6), some (vi (x7 + 1)), none] [] V190'))))))))))))) : w6_findsWay E Q 120 [some (vr 214), some (vi x1), some (vi x2), some (vi x3), some (vi x4), none, some (vi x6), some (vi x7), none] [] V := by
  refine wp_iload dX6_findsWay_120 rfl ?_
  refine wp_iconst (v := 4) dX6_findsWay_122 rfl ?_
  refine wp_icmp_ge 199 dX6_findsWay_123 (by decide) (fun hc => ?_) (fun hc => ?_)
  · replace h := h.1 hc
    refine wp_iload dX6_findsWay_199 rfl ?_
    refine wp_if_eq 266 dX6_findsWay_201 (by decide) (fun hc => ?_) (fun hc => ?_)
    · replace h := h.1 hc
      refine wc9_3 1 dX6_findsWay_266 rfl ?_
      refine wp_goto 43 dX6_findsWay_269 (by decide) ?_
      exact wp_drop [some (vr 214), some (vi x1), some (vi x2), some (vi (x3 + 1)), none, none, none, none, none] ⟨rfl, ⟨rfl, ⟨rfl, ⟨rfl, trivial⟩⟩⟩⟩ h
    · replace h := h.2 hc
      refine wp_aload_n dX6_findsWay_204 rfl ?_
      refine wp_iconst (v := 2) dX6_findsWay_205 rfl ?_
      refine wp_iload dX6_findsWay_206 rfl ?_
      refine wp_imul dX6_findsWay_208 ?_
      refine wp_aload_n dX6_findsWay_209 rfl ?_
      refine wp_getrs dX6_findsWay_210 fk6_78 (tb_214 hT) (tk_214 hT) rfl (tr_36 hT) ?_
      refine wp_iload_n dX6_findsWay_213 rfl ?_
      refine wp_iald dX6_findsWay_214 (tb_237 hT).2 (tk_237 hT) h.1 ?_
      replace h := h.2
      refine wq_VV2 lk6_352 rfl (tb_214 hT) (tk_214 hT) dX6_findsWay_215 h (rmQ_ok (by decide) (by decide)) ⟨Nat.le_refl _, Nat.le_refl _⟩ (Nat.le_of_ble_eq_true rfl) (fun V215 h => ?_)
      refine wp_goto 266 dX6_findsWay_218 (by decide) ?_
      refine wc9_3 1 dX6_findsWay_266 rfl ?_
      refine wp_goto 43 dX6_findsWay_269 (by decide) ?_
      exact wp_drop [some (vr 214), some (vi x1), some (vi x2), some (vi (x3 + 1)), none, none, none, none, none] ⟨rfl, ⟨rfl, ⟨rfl, ⟨rfl, trivial⟩⟩⟩⟩ h
  · replace h := h.2 (Int32.not_le.mp hc)
    refine wp_iload dX6_findsWay_126 rfl ?_
    refine wp_iload dX6_findsWay_128 rfl ?_
    refine wq_SI2 lk6_281 dX6_findsWay_130 h (rmQ_ok (by decide) (by decide)) ⟨Nat.le_refl _, Nat.le_refl _⟩ (Nat.le_of_ble_eq_true rfl) (fun r130 V130 h => ?_)
    refine wi9_8 dX6_findsWay_133 ?_
    refine wp_aload_n dX6_findsWay_135 rfl ?_
    refine wp_iload dX6_findsWay_136 rfl ?_
    refine wq_VI1 lk6_241 rfl (tb_214 hT) (tk_214 hT) dX6_findsWay_138 h (rmQ_ok (by decide) (by decide)) ⟨Nat.le_refl _, Nat.le_refl _⟩ (Nat.le_of_ble_eq_true rfl) (fun r138 V138 h => ?_)
    refine wp_if_eq 193 dX6_findsWay_141 (by decide) (fun hc => ?_) (fun hc => ?_)
    · replace h := h.1 hc
      refine wc9_7 1 dX6_findsWay_193 rfl ?_
      refine wp_goto 120 dX6_findsWay_196 (by decide) ?_
      exact wp_drop [some (vr 214), some (vi x1), some (vi x2), some (vi x3), some (vi x4), none, some (vi x6), some (vi (x7 + 1)), none] ⟨rfl, ⟨rfl, ⟨rfl, ⟨rfl, ⟨rfl, ⟨rfl, ⟨rfl, trivial⟩⟩⟩⟩⟩⟩⟩ h
    · replace h := h.2 hc
      refine wp_iload dX6_findsWay_144 rfl ?_
      refine wp_iload_n dX6_findsWay_146 rfl ?_
      refine wp_icmp_eq 193 dX6_findsWay_147 (by decide) (fun hc => ?_) (fun hc => ?_)
      · replace h := h.1 hc
        refine wc9_7 1 dX6_findsWay_193 rfl ?_
        refine wp_goto 120 dX6_findsWay_196 (by decide) ?_
        exact wp_drop [some (vr 214), some (vi x1), some (vi x2), some (vi x3), some (vi x4), none, some (vi x6), some (vi (x7 + 1)), none] ⟨rfl, ⟨rfl, ⟨rfl, ⟨rfl, ⟨rfl, ⟨rfl, ⟨rfl, trivial⟩⟩⟩⟩⟩⟩⟩ h
      · replace h := h.2 hc
        refine wp_aload_n dX6_findsWay_150 rfl ?_
        refine wp_getrs dX6_findsWay_151 fk6_81 (tb_214 hT) (tk_214 hT) rfl (tr_37 hT) ?_
        refine wp_iload dX6_findsWay_154 rfl ?_
        refine wp_iald dX6_findsWay_156 (tb_238 hT).2 (tk_238 hT) h.1 ?_
        replace h := h.2
        refine wp_iload dX6_findsWay_157 rfl ?_
        refine wp_icmp_eq 193 dX6_findsWay_159 (by decide) (fun hc => ?_) (fun hc => ?_)
        · replace h := h.1 hc
          refine wc9_7 1 dX6_findsWay_193 rfl ?_
          refine wp_goto 120 dX6_findsWay_196 (by decide) ?_
          exact wp_drop [some (vr 214), some (vi x1), some (vi x2), some (vi x3), some (vi x4), none, some (vi x6), some (vi (x7 + 1)), none] ⟨rfl, ⟨rfl, ⟨rfl, ⟨rfl, ⟨rfl, ⟨rfl, ⟨rfl, trivial⟩⟩⟩⟩⟩⟩⟩ h
        · replace h := h.2 hc
          refine wp_iload dX6_findsWay_162 rfl ?_
          refine wp_iload_n dX6_findsWay_164 rfl ?_
          refine wp_icmp_ne 179 dX6_findsWay_165 (by decide) (fun hc => ?_) (fun hc => ?_)
          · replace h := h.1 hc
            refine wp_aload_n dX6_findsWay_179 rfl ?_
            refine wp_iconst (v := 2) dX6_findsWay_180 rfl ?_
            refine wp_iload dX6_findsWay_181 rfl ?_
            refine wp_imul dX6_findsWay_183 ?_
            refine wp_aload_n dX6_findsWay_184 rfl ?_
            refine wp_getrs dX6_findsWay_185 fk6_78 (tb_214 hT) (tk_214 hT) rfl (tr_36 hT) ?_
            refine wp_iload_n dX6_findsWay_188 rfl ?_
            refine wp_iald dX6_findsWay_189 (tb_237 hT).2 (tk_237 hT) h.1 ?_
            replace h := h.2
            refine wq_VV2 lk6_352 rfl (tb_214 hT) (tk_214 hT) dX6_findsWay_190 h (rmQ_ok (by decide) (by decide)) ⟨Nat.le_refl _, Nat.le_refl _⟩ (Nat.le_of_ble_eq_true rfl) (fun V190 h => ?_)
            refine wc9_7 1 dX6_findsWay_193 rfl ?_
            refine wp_goto 120 dX6_findsWay_196 (by decide) ?_
            exact wp_drop [some (vr 214), some (vi x1), some (vi x2), some (vi x3), some (vi x4), none, some (vi x6), some (vi (x7 + 1)), none] ⟨rfl, ⟨rfl, ⟨rfl, ⟨rfl, ⟨rfl, ⟨rfl, ⟨rfl, trivial⟩⟩⟩⟩⟩⟩⟩ h
          · replace h := h.2 hc
            refine wp_aload_n dX6_findsWay_168 rfl ?_
            refine wp_getrs dX6_findsWay_169 fk6_84 (tb_214 hT) (tk_214 hT) rfl (tr_38 hT) ?_
            refine wp_iload dX6_findsWay_172 rfl ?_
            refine wp_iald dX6_findsWay_174 (tb_239 hT).2 (tk_239 hT) h.1 ?_
            replace h := h.2
            refine wp_iload_n dX6_findsWay_175 rfl ?_
            refine wp_icmp_eq 193 dX6_findsWay_176 (by decide) (fun hc => ?_) (fun hc => ?_)
            · replace h := h.1 hc
              refine wc9_7 1 dX6_findsWay_193 rfl ?_
              refine wp_goto 120 dX6_findsWay_196 (by decide) ?_
              exact wp_drop [some (vr 214), some (vi x1), some (vi x2), some (vi x3), some (vi x4), none, some (vi x6), some (vi (x7 + 1)), none] ⟨rfl, ⟨rfl, ⟨rfl, ⟨rfl, ⟨rfl, ⟨rfl, ⟨rfl, trivial⟩⟩⟩⟩⟩⟩⟩ h
            · replace h := h.2 hc
              refine wp_aload_n dX6_findsWay_179 rfl ?_
              refine wp_iconst (v := 2) dX6_findsWay_180 rfl ?_
              refine wp_iload dX6_findsWay_181 rfl ?_
              refine wp_imul dX6_findsWay_183 ?_
              refine wp_aload_n dX6_findsWay_184 rfl ?_
              refine wp_getrs dX6_findsWay_185 fk6_78 (tb_214 hT) (tk_214 hT) rfl (tr_36 hT) ?_
              refine wp_iload_n dX6_findsWay_188 rfl ?_
              refine wp_iald dX6_findsWay_189 (tb_237 hT).2 (tk_237 hT) h.1 ?_
              replace h := h.2
              refine wq_VV2 lk6_352 rfl (tb_214 hT) (tk_214 hT) dX6_findsWay_190 h (rmQ_ok (by decide) (by decide)) ⟨Nat.le_refl _, Nat.le_refl _⟩ (Nat.le_of_ble_eq_true rfl) (fun V190' h => ?_)
              refine wc9_7 1 dX6_findsWay_193 rfl ?_
              refine wp_goto 120 dX6_findsWay_196 (by decide) ?_
              exact wp_drop [some (vr 214), some (vi x1), some (vi x2), some (vi x3), some (vi x4), none, some (vi x6), some (vi (x7 + 1)), none] ⟨rfl, ⟨rfl, ⟨rfl, ⟨rfl, ⟨rfl, ⟨rfl, ⟨rfl, trivial⟩⟩⟩⟩⟩⟩⟩ h
theorem n6_findsWay {E : eT} {Q : Int32 → vT → Prop} {V : vT} {x1 x2 : Int32} (h : w6_findsWay E Q 0 [some (vr 214), some (vi x1), some (vi x2), none, none, none, none, none, none] [] V) : c6_findsWay E x1 x2 V Q := MOk.enter [some (vr 214), some (vi x1), some (vi x2), none, none, none, none, none, none] pn_6 rfl rfl (Nat.le_of_ble_eq_true rfl) rfl h
theorem b6_visits_0 {E : eT} {Q : vT → Prop} {V : vT} {x1 x2 : Int32} (hT : TW E) (h : vp_in x1 192 ∧ (((V 240 ((x1).toNatClampNeg)) = (-1) → vp_in x1 192 ∧ (vp_in ((up2 V 240 (x1.toNatClampNeg) x2) 214 40) 192 ∧ (Q (up2 (up2 (up2 V 240 (x1.toNatClampNeg) x2) 237 (((up2 V 240 (x1.toNatClampNeg) x2) 214 40).toNatClampNeg) x1) 214 40 (((up2 (up2 V 240 (x1.toNatClampNeg) x2) 237 (((up2 V 240 (x1.toNatClampNeg) x2) 214 40).toNatClampNeg) x1) 214 40) + 1))))) ∧ (¬ (V 240 ((x1).toNatClampNeg)) = (-1) → Q V))) : w6_visits E Q 0 [some (vr 214), some (vi x1), some (vi x2)] [] V := by
  refine wp_aload_n dX6_visits_0 rfl ?_
  refine wp_getrs dX6_visits_1 fk6_87 (tb_214 hT) (tk_214 hT) rfl (tr_39 hT) ?_
  refine wp_iload_n dX6_visits_4 rfl ?_
  refine wp_iald dX6_visits_5 (tb_240 hT).2 (tk_240 hT) h.1 ?_
  replace h := h.2
  refine wp_iconst (v := (-1)) dX6_visits_6 rfl ?_
  refine wp_icmp_eq 11 dX6_visits_7 (by decide) (fun hc => ?_) (fun hc => ?_)
  · replace h := h.1 hc
    refine wp_aload_n dX6_visits_11 rfl ?_
    refine wp_getrs dX6_visits_12 fk6_87 (tb_214 hT) (tk_214 hT) rfl (tr_39 hT) ?_
    refine wp_iload_n dX6_visits_15 rfl ?_
    refine wp_iload_n dX6_visits_16 rfl ?_
    refine wp_iast dX6_visits_17 (tb_240 hT) (tk_240 hT) h.1 ?_
    replace h := h.2
    refine wp_aload_n dX6_visits_18 rfl ?_
    refine wp_getrs dX6_visits_19 fk6_78 (tb_214 hT) (tk_214 hT) rfl (tr_36 hT) ?_
    refine wp_aload_n dX6_visits_22 rfl ?_
    refine wp_geti dX6_visits_23 fk6_349 (tb_214 hT) (tk_214 hT) rfl ?_
    refine wp_iload_n dX6_visits_26 rfl ?_
    refine wp_iast dX6_visits_27 (tb_237 hT) (tk_237 hT) h.1 ?_
    replace h := h.2
    refine wp_aload_n dX6_visits_28 rfl ?_
    refine wp_aload_n dX6_visits_29 rfl ?_
    refine wp_geti dX6_visits_30 fk6_349 (tb_214 hT) (tk_214 hT) rfl ?_
    refine wp_iconst (v := 1) dX6_visits_33 rfl ?_
    refine wp_iadd dX6_visits_34 ?_
    refine wp_puti dX6_visits_35 fp6_349 (tb_214 hT) (tk_214 hT) rfl ?_
    exact wp_vret dX6_visits_38 ⟨rfl, rfl, rfl, rfl, h⟩
  · replace h := h.2 hc
    exact wp_vret dX6_visits_10 ⟨rfl, rfl, rfl, rfl, h⟩
theorem n6_visits {E : eT} {Q : vT → Prop} {V : vT} {x1 x2 : Int32} (h : w6_visits E Q 0 [some (vr 214), some (vi x1), some (vi x2)] [] V) : c6_visits E x1 x2 V Q := MOk.enter [some (vr 214), some (vi x1), some (vi x2)] pn_6 rfl rfl (Nat.le_of_ble_eq_true rfl) rfl h
theorem b6_goesAlong_0 {E : eT} {Q : vT → Prop} {V : vT} {x1 x2 : Int32} (hT : TW E) (h : w6_goesAlong E Q 7 [some (vr 214), some (vi x1), some (vi x2), some (vi 0), some (vi (2 * x2)), none, none, none] [] V) : w6_goesAlong E Q 0 [some (vr 214), some (vi x1), some (vi x2), none, none, none, none, none] [] V := by
  refine wp_iconst (v := 0) dX6_goesAlong_0 rfl ?_
  refine wi8_3 dX6_goesAlong_1 ?_
  refine wp_iconst (v := 2) dX6_goesAlong_2 rfl ?_
  refine wp_iload_n dX6_goesAlong_3 rfl ?_
  refine wp_imul dX6_goesAlong_4 ?_
  refine wi8_4 dX6_goesAlong_5 ?_
  exact h
theorem b6_goesAlong_7 {E : eT} {Q : vT → Prop} {V : vT} {x1 x2 x3 x4 : Int32} (hT : TW E) (h : (x4 = ((2 * x1) + 1) → vp_in x3 192 ∧ (w6_goesAlong E Q 52 [some (vr 214), some (vi x1), some (vi x2), some (vi x3), none, some (vi x3), none, none] [] (up2 V 241 (x3.toNatClampNeg) x4))) ∧ (¬ x4 = ((2 * x1) + 1) → vp_in x3 192 ∧ (vp_in x4 192 ∧ (w6_goesAlong E Q 7 [some (vr 214), some (vi x1), some (vi x2), some (vi (x3 + 1)), some (vi ((up2 V 241 (x3.toNatClampNeg) x4) 240 ((x4).toNatClampNeg))), none, none, none] [] (up2 V 241 (x3.toNatClampNeg) x4))))) : w6_goesAlong E Q 7 [some (vr 214), some (vi x1), some (vi x2), some (vi x3), some (vi x4), none, none, none] [] V := by
  refine wp_iload dX6_goesAlong_7 rfl ?_
  refine wp_iconst (v := 2) dX6_goesAlong_9 rfl ?_
  refine wp_iload_n dX6_goesAlong_10 rfl ?_
  refine wp_imul dX6_goesAlong_11 ?_
  refine wp_iconst (v := 1) dX6_goesAlong_12 rfl ?_
  refine wp_iadd dX6_goesAlong_13 ?_
  refine wp_icmp_eq 41 dX6_goesAlong_14 (by decide) (fun hc => ?_) (fun hc => ?_)
  · replace h := h.1 hc
    refine wp_aload_n dX6_goesAlong_41 rfl ?_
    refine wp_getrs dX6_goesAlong_42 fk6_90 (tb_214 hT) (tk_214 hT) rfl (tr_41 hT) ?_
    refine wp_iload_n dX6_goesAlong_45 rfl ?_
    refine wp_iload dX6_goesAlong_46 rfl ?_
    refine wp_iast dX6_goesAlong_48 (tb_241 hT) (tk_241 hT) h.1 ?_
    replace h := h.2
    refine wp_iload_n dX6_goesAlong_49 rfl ?_
    refine wi8_5 dX6_goesAlong_50 ?_
    exact wp_drop [some (vr 214), some (vi x1), some (vi x2), some (vi x3), none, some (vi x3), none, none] ⟨rfl, ⟨rfl, ⟨rfl, ⟨rfl, ⟨rfl, trivial⟩⟩⟩⟩⟩ h
  · replace h := h.2 hc
    refine wp_aload_n dX6_goesAlong_17 rfl ?_
    refine wp_getrs dX6_goesAlong_18 fk6_90 (tb_214 hT) (tk_214 hT) rfl (tr_41 hT) ?_
    refine wp_iload_n dX6_goesAlong_21 rfl ?_
    refine wp_iload dX6_goesAlong_22 rfl ?_
    refine wp_iast dX6_goesAlong_24 (tb_241 hT) (tk_241 hT) h.1 ?_
    replace h := h.2
    refine wp_iload_n dX6_goesAlong_25 rfl ?_
    refine wp_iconst (v := 1) dX6_goesAlong_26 rfl ?_
    refine wp_iadd dX6_goesAlong_27 ?_
    refine wi8_3 dX6_goesAlong_28 ?_
    refine wp_aload_n dX6_goesAlong_29 rfl ?_
    refine wp_getrs dX6_goesAlong_30 fk6_87 (tb_214 hT) (tk_214 hT) rfl (tr_39 hT) ?_
    refine wp_iload dX6_goesAlong_33 rfl ?_
    refine wp_iald dX6_goesAlong_35 (tb_240 hT).2 (tk_240 hT) h.1 ?_
    replace h := h.2
    refine wi8_4 dX6_goesAlong_36 ?_
    refine wp_goto 7 dX6_goesAlong_38 (by decide) ?_
    exact h
theorem b6_goesAlong_52 {E : eT} {Q : vT → Prop} {V : vT} {x1 x2 x3 x5 : Int32} (hT : TW E) (h : (x5 ≤ 0 → w6_goesAlong E Q 151 [some (vr 214), some (vi x1), some (vi x2), none, none, some (vi x3), none, none] [] V) ∧ (0 < x5 → vp_in x5 192 ∧ (vp_in (x5 - 1) 192 ∧ (((rmd (V 241 ((x5).toNatClampNeg)) 2) = 1 → w6_goesAlong E Q 52 [some (vr 214), some (vi x1), some (vi x2), some (vi x3), none, some (vi (x5 + (-1))), none, none] [] V) ∧ (¬ (rmd (V 241 ((x5).toNatClampNeg)) 2) = 1 → ((rmd (V 241 ((x5 - 1).toNatClampNeg)) 2) = 0 → w6_goesAlong E Q 52 [some (vr 214), some (vi x1), some (vi x2), some (vi x3), none, some (vi (x5 + (-1))), none, none] [] V) ∧ (¬ (rmd (V 241 ((x5 - 1).toNatClampNeg)) 2) = 0 → (¬ ((V 241 ((x5).toNatClampNeg)) / 2) = ((V 241 ((x5 - 1).toNatClampNeg)) / 2) → vp_in ((V 241 ((x5 - 1).toNatClampNeg)) / 2) 96 ∧ ((¬ (V 238 (((V 241 ((x5 - 1).toNatClampNeg)) / 2).toNatClampNeg)) = ((V 241 ((x5).toNatClampNeg)) / 2) → vp_in ((V 241 ((x5).toNatClampNeg)) / 2) 96 ∧ (w6_goesAlong E Q 52 [some (vr 214), some (vi x1), some (vi x2), some (vi x3), none, some (vi (x5 + (-1))), none, none] [] (up2 V 239 (((V 241 ((x5).toNatClampNeg)) / 2).toNatClampNeg) (-1)))) ∧ ((V 238 (((V 241 ((x5 - 1).toNatClampNeg)) / 2).toNatClampNeg)) = ((V 241 ((x5).toNatClampNeg)) / 2) → vp_in ((V 241 ((x5 - 1).toNatClampNeg)) / 2) 96 ∧ (vp_in ((V 241 ((x5).toNatClampNeg)) / 2) 96 ∧ (w6_goesAlong E Q 52 [some (vr 214), some (vi x1), some (vi x2), some (vi x3), none, some (vi (x5 + (-1))), none, none] [] (up2 (up2 V 238 (((V 241 ((x5 - 1).toNatClampNeg)) / 2).toNatClampNeg) (-1)) 239 (((V 241 ((x5).toNatClampNeg)) / 2).toNatClampNeg) (-1))))))) ∧ (((V 241 ((x5).toNatClampNeg)) / 2) = ((V 241 ((x5 - 1).toNatClampNeg)) / 2) → w6_goesAlong E Q 52 [some (vr 214), some (vi x1), some (vi x2), some (vi x3), none, some (vi (x5 + (-1))), none, none] [] V))))))) : w6_goesAlong E Q 52 [some (vr 214), some (vi x1), some (vi x2), some (vi x3), none, some (vi x5), none, none] [] V := by
  refine wp_iload dX6_goesAlong_52 rfl ?_
  refine wp_if_le 148 dX6_goesAlong_54 (by decide) (fun hc => ?_) (fun hc => ?_)
  · replace h := h.1 hc
    refine wp_iload_n dX6_goesAlong_148 rfl ?_
    refine wi8_5 dX6_goesAlong_149 ?_
    exact wp_drop [some (vr 214), some (vi x1), some (vi x2), none, none, some (vi x3), none, none] ⟨rfl, ⟨rfl, ⟨rfl, ⟨rfl, trivial⟩⟩⟩⟩ h
  · replace h := h.2 (Int32.not_le.mp hc)
    refine wp_aload_n dX6_goesAlong_57 rfl ?_
    refine wp_getrs dX6_goesAlong_58 fk6_90 (tb_214 hT) (tk_214 hT) rfl (tr_41 hT) ?_
    refine wp_iload dX6_goesAlong_61 rfl ?_
    refine wp_iald dX6_goesAlong_63 (tb_241 hT).2 (tk_241 hT) h.1 ?_
    replace h := h.2
    refine wi8_6 dX6_goesAlong_64 ?_
    refine wp_aload_n dX6_goesAlong_66 rfl ?_
    refine wp_getrs dX6_goesAlong_67 fk6_90 (tb_214 hT) (tk_214 hT) rfl (tr_41 hT) ?_
    refine wp_iload dX6_goesAlong_70 rfl ?_
    refine wp_iconst (v := 1) dX6_goesAlong_72 rfl ?_
    refine wp_isub dX6_goesAlong_73 ?_
    refine wp_iald dX6_goesAlong_74 (tb_241 hT).2 (tk_241 hT) h.1 ?_
    replace h := h.2
    refine wi8_7 dX6_goesAlong_75 ?_
    refine wp_iload dX6_goesAlong_77 rfl ?_
    refine wp_iconst (v := 2) dX6_goesAlong_79 rfl ?_
    refine wp_irm dX6_goesAlong_80 (by decide) ?_
    refine wp_iconst (v := 1) dX6_goesAlong_81 rfl ?_
    refine wp_icmp_eq 142 dX6_goesAlong_82 (by decide) (fun hc => ?_) (fun hc => ?_)
    · replace h := h.1 hc
      refine wc8_5 (-1) dX6_goesAlong_142 rfl ?_
      refine wp_goto 52 dX6_goesAlong_145 (by decide) ?_
      exact wp_drop [some (vr 214), some (vi x1), some (vi x2), some (vi x3), none, some (vi (x5 + (-1))), none, none] ⟨rfl, ⟨rfl, ⟨rfl, ⟨rfl, ⟨rfl, trivial⟩⟩⟩⟩⟩ h
    · replace h := h.2 hc
      refine wp_iload dX6_goesAlong_85 rfl ?_
      refine wp_iconst (v := 2) dX6_goesAlong_87 rfl ?_
      refine wp_irm dX6_goesAlong_88 (by decide) ?_
      refine wp_if_eq 142 dX6_goesAlong_89 (by decide) (fun hc => ?_) (fun hc => ?_)
      · replace h := h.1 hc
        refine wc8_5 (-1) dX6_goesAlong_142 rfl ?_
        refine wp_goto 52 dX6_goesAlong_145 (by decide) ?_
        exact wp_drop [some (vr 214), some (vi x1), some (vi x2), some (vi x3), none, some (vi (x5 + (-1))), none, none] ⟨rfl, ⟨rfl, ⟨rfl, ⟨rfl, ⟨rfl, trivial⟩⟩⟩⟩⟩ h
      · replace h := h.2 hc
        refine wp_iload dX6_goesAlong_92 rfl ?_
        refine wp_iconst (v := 2) dX6_goesAlong_94 rfl ?_
        refine wp_idiv dX6_goesAlong_95 (by decide) ?_
        refine wp_iload dX6_goesAlong_96 rfl ?_
        refine wp_iconst (v := 2) dX6_goesAlong_98 rfl ?_
        refine wp_idiv dX6_goesAlong_99 (by decide) ?_
        refine wp_icmp_ne 106 dX6_goesAlong_100 (by decide) (fun hc => ?_) (fun hc => ?_)
        · replace h := h.1 hc
          refine wp_aload_n dX6_goesAlong_106 rfl ?_
          refine wp_getrs dX6_goesAlong_107 fk6_81 (tb_214 hT) (tk_214 hT) rfl (tr_37 hT) ?_
          refine wp_iload dX6_goesAlong_110 rfl ?_
          refine wp_iconst (v := 2) dX6_goesAlong_112 rfl ?_
          refine wp_idiv dX6_goesAlong_113 (by decide) ?_
          refine wp_iald dX6_goesAlong_114 (tb_238 hT).2 (tk_238 hT) h.1 ?_
          replace h := h.2
          refine wp_iload dX6_goesAlong_115 rfl ?_
          refine wp_iconst (v := 2) dX6_goesAlong_117 rfl ?_
          refine wp_idiv dX6_goesAlong_118 (by decide) ?_
          refine wp_icmp_ne 132 dX6_goesAlong_119 (by decide) (fun hc => ?_) (fun hc => ?_)
          · replace h := h.1 hc
            refine wp_aload_n dX6_goesAlong_132 rfl ?_
            refine wp_getrs dX6_goesAlong_133 fk6_84 (tb_214 hT) (tk_214 hT) rfl (tr_38 hT) ?_
            refine wp_iload dX6_goesAlong_136 rfl ?_
            refine wp_iconst (v := 2) dX6_goesAlong_138 rfl ?_
            refine wp_idiv dX6_goesAlong_139 (by decide) ?_
            refine wp_iconst (v := (-1)) dX6_goesAlong_140 rfl ?_
            refine wp_iast dX6_goesAlong_141 (tb_239 hT) (tk_239 hT) h.1 ?_
            replace h := h.2
            refine wc8_5 (-1) dX6_goesAlong_142 rfl ?_
            refine wp_goto 52 dX6_goesAlong_145 (by decide) ?_
            exact wp_drop [some (vr 214), some (vi x1), some (vi x2), some (vi x3), none, some (vi (x5 + (-1))), none, none] ⟨rfl, ⟨rfl, ⟨rfl, ⟨rfl, ⟨rfl, trivial⟩⟩⟩⟩⟩ h
          · replace h := h.2 hc
            refine wp_aload_n dX6_goesAlong_122 rfl ?_
            refine wp_getrs dX6_goesAlong_123 fk6_81 (tb_214 hT) (tk_214 hT) rfl (tr_37 hT) ?_
            refine wp_iload dX6_goesAlong_126 rfl ?_
            refine wp_iconst (v := 2) dX6_goesAlong_128 rfl ?_
            refine wp_idiv dX6_goesAlong_129 (by decide) ?_
            refine wp_iconst (v := (-1)) dX6_goesAlong_130 rfl ?_
            refine wp_iast dX6_goesAlong_131 (tb_238 hT) (tk_238 hT) h.1 ?_
            replace h := h.2
            refine wp_aload_n dX6_goesAlong_132 rfl ?_
            refine wp_getrs dX6_goesAlong_133 fk6_84 (tb_214 hT) (tk_214 hT) rfl (tr_38 hT) ?_
            refine wp_iload dX6_goesAlong_136 rfl ?_
            refine wp_iconst (v := 2) dX6_goesAlong_138 rfl ?_
            refine wp_idiv dX6_goesAlong_139 (by decide) ?_
            refine wp_iconst (v := (-1)) dX6_goesAlong_140 rfl ?_
            refine wp_iast dX6_goesAlong_141 (tb_239 hT) (tk_239 hT) h.1 ?_
            replace h := h.2
            refine wc8_5 (-1) dX6_goesAlong_142 rfl ?_
            refine wp_goto 52 dX6_goesAlong_145 (by decide) ?_
            exact wp_drop [some (vr 214), some (vi x1), some (vi x2), some (vi x3), none, some (vi (x5 + (-1))), none, none] ⟨rfl, ⟨rfl, ⟨rfl, ⟨rfl, ⟨rfl, trivial⟩⟩⟩⟩⟩ h
        · replace h := h.2 hc
          refine wp_goto 142 dX6_goesAlong_103 (by decide) ?_
          refine wc8_5 (-1) dX6_goesAlong_142 rfl ?_
          refine wp_goto 52 dX6_goesAlong_145 (by decide) ?_
          exact wp_drop [some (vr 214), some (vi x1), some (vi x2), some (vi x3), none, some (vi (x5 + (-1))), none, none] ⟨rfl, ⟨rfl, ⟨rfl, ⟨rfl, ⟨rfl, trivial⟩⟩⟩⟩⟩ h
theorem b6_goesAlong_151 {E : eT} {Q : vT → Prop} {V : vT} {x1 x2 x5 : Int32} (hT : TW E) (h : (x5 ≤ 0 → Q V) ∧ (0 < x5 → vp_in x5 192 ∧ (vp_in (x5 - 1) 192 ∧ (((rmd (V 241 ((x5).toNatClampNeg)) 2) = 0 → w6_goesAlong E Q 151 [some (vr 214), some (vi x1), some (vi x2), none, none, some (vi (x5 + (-1))), none, none] [] V) ∧ (¬ (rmd (V 241 ((x5).toNatClampNeg)) 2) = 0 → ((rmd (V 241 ((x5 - 1).toNatClampNeg)) 2) = 1 → w6_goesAlong E Q 151 [some (vr 214), some (vi x1), some (vi x2), none, none, some (vi (x5 + (-1))), none, none] [] V) ∧ (¬ (rmd (V 241 ((x5 - 1).toNatClampNeg)) 2) = 1 → (¬ ((V 241 ((x5).toNatClampNeg)) / 2) = ((V 241 ((x5 - 1).toNatClampNeg)) / 2) → (((V 241 ((x5).toNatClampNeg)) / 2) = x1 → (((V 241 ((x5 - 1).toNatClampNeg)) / 2) = x2 → w6_goesAlong E Q 151 [some (vr 214), some (vi x1), some (vi x2), none, none, some (vi (x5 + (-1))), none, none] [] V) ∧ (¬ ((V 241 ((x5 - 1).toNatClampNeg)) / 2) = x2 → vp_in ((V 241 ((x5 - 1).toNatClampNeg)) / 2) 96 ∧ (w6_goesAlong E Q 151 [some (vr 214), some (vi x1), some (vi x2), none, none, some (vi (x5 + (-1))), none, none] [] (up2 V 239 (((V 241 ((x5 - 1).toNatClampNeg)) / 2).toNatClampNeg) ((V 241 ((x5).toNatClampNeg)) / 2))))) ∧ (¬ ((V 241 ((x5).toNatClampNeg)) / 2) = x1 → vp_in ((V 241 ((x5).toNatClampNeg)) / 2) 96 ∧ ((((V 241 ((x5 - 1).toNatClampNeg)) / 2) = x2 → w6_goesAlong E Q 151 [some (vr 214), some (vi x1), some (vi x2), none, none, some (vi (x5 + (-1))), none, none] [] (up2 V 238 (((V 241 ((x5).toNatClampNeg)) / 2).toNatClampNeg) ((V 241 ((x5 - 1).toNatClampNeg)) / 2))) ∧ (¬ ((V 241 ((x5 - 1).toNatClampNeg)) / 2) = x2 → vp_in ((V 241 ((x5 - 1).toNatClampNeg)) / 2) 96 ∧ (w6_goesAlong E Q 151 [some (vr 214), some (vi x1), some (vi x2), none, none, some (vi (x5 + (-1))), none, none] [] (up2 (up2 V 238 (((V 241 ((x5).toNatClampNeg)) / 2).toNatClampNeg) ((V 241 ((x5 - 1).toNatClampNeg)) / 2)) 239 (((V 241 ((x5 - 1).toNatClampNeg)) / 2).toNatClampNeg) ((V 241 ((x5).toNatClampNeg)) / 2))))))) ∧ (((V 241 ((x5).toNatClampNeg)) / 2) = ((V 241 ((x5 - 1).toNatClampNeg)) / 2) → w6_goesAlong E Q 151 [some (vr 214), some (vi x1), some (vi x2), none, none, some (vi (x5 + (-1))), none, none] [] V))))))) : w6_goesAlong E Q 151 [some (vr 214), some (vi x1), some (vi x2), none, none, some (vi x5), none, none] [] V := by
  refine wp_iload dX6_goesAlong_151 rfl ?_
  refine wp_if_le 253 dX6_goesAlong_153 (by decide) (fun hc => ?_) (fun hc => ?_)
  · replace h := h.1 hc
    exact wp_vret dX6_goesAlong_253 ⟨rfl, rfl, rfl, rfl, h⟩
  · replace h := h.2 (Int32.not_le.mp hc)
    refine wp_aload_n dX6_goesAlong_156 rfl ?_
    refine wp_getrs dX6_goesAlong_157 fk6_90 (tb_214 hT) (tk_214 hT) rfl (tr_41 hT) ?_
    refine wp_iload dX6_goesAlong_160 rfl ?_
    refine wp_iald dX6_goesAlong_162 (tb_241 hT).2 (tk_241 hT) h.1 ?_
    replace h := h.2
    refine wi8_6 dX6_goesAlong_163 ?_
    refine wp_aload_n dX6_goesAlong_165 rfl ?_
    refine wp_getrs dX6_goesAlong_166 fk6_90 (tb_214 hT) (tk_214 hT) rfl (tr_41 hT) ?_
    refine wp_iload dX6_goesAlong_169 rfl ?_
    refine wp_iconst (v := 1) dX6_goesAlong_171 rfl ?_
    refine wp_isub dX6_goesAlong_172 ?_
    refine wp_iald dX6_goesAlong_173 (tb_241 hT).2 (tk_241 hT) h.1 ?_
    replace h := h.2
    refine wi8_7 dX6_goesAlong_174 ?_
    refine wp_iload dX6_goesAlong_176 rfl ?_
    refine wp_iconst (v := 2) dX6_goesAlong_178 rfl ?_
    refine wp_irm dX6_goesAlong_179 (by decide) ?_
    refine wp_if_eq 247 dX6_goesAlong_180 (by decide) (fun hc => ?_) (fun hc => ?_)
    · replace h := h.1 hc
      refine wc8_5 (-1) dX6_goesAlong_247 rfl ?_
      refine wp_goto 151 dX6_goesAlong_250 (by decide) ?_
      exact wp_drop [some (vr 214), some (vi x1), some (vi x2), none, none, some (vi (x5 + (-1))), none, none] ⟨rfl, ⟨rfl, ⟨rfl, ⟨rfl, trivial⟩⟩⟩⟩ h
    · replace h := h.2 hc
      refine wp_iload dX6_goesAlong_183 rfl ?_
      refine wp_iconst (v := 2) dX6_goesAlong_185 rfl ?_
      refine wp_irm dX6_goesAlong_186 (by decide) ?_
      refine wp_iconst (v := 1) dX6_goesAlong_187 rfl ?_
      refine wp_icmp_eq 247 dX6_goesAlong_188 (by decide) (fun hc => ?_) (fun hc => ?_)
      · replace h := h.1 hc
        refine wc8_5 (-1) dX6_goesAlong_247 rfl ?_
        refine wp_goto 151 dX6_goesAlong_250 (by decide) ?_
        exact wp_drop [some (vr 214), some (vi x1), some (vi x2), none, none, some (vi (x5 + (-1))), none, none] ⟨rfl, ⟨rfl, ⟨rfl, ⟨rfl, trivial⟩⟩⟩⟩ h
      · replace h := h.2 hc
        refine wp_iload dX6_goesAlong_191 rfl ?_
        refine wp_iconst (v := 2) dX6_goesAlong_193 rfl ?_
        refine wp_idiv dX6_goesAlong_194 (by decide) ?_
        refine wp_iload dX6_goesAlong_195 rfl ?_
        refine wp_iconst (v := 2) dX6_goesAlong_197 rfl ?_
        refine wp_idiv dX6_goesAlong_198 (by decide) ?_
        refine wp_icmp_ne 205 dX6_goesAlong_199 (by decide) (fun hc => ?_) (fun hc => ?_)
        · replace h := h.1 hc
          refine wp_iload dX6_goesAlong_205 rfl ?_
          refine wp_iconst (v := 2) dX6_goesAlong_207 rfl ?_
          refine wp_idiv dX6_goesAlong_208 (by decide) ?_
          refine wp_iload_n dX6_goesAlong_209 rfl ?_
          refine wp_icmp_eq 226 dX6_goesAlong_210 (by decide) (fun hc => ?_) (fun hc => ?_)
          · replace h := h.1 hc
            refine wp_iload dX6_goesAlong_226 rfl ?_
            refine wp_iconst (v := 2) dX6_goesAlong_228 rfl ?_
            refine wp_idiv dX6_goesAlong_229 (by decide) ?_
            refine wp_iload_n dX6_goesAlong_230 rfl ?_
            refine wp_icmp_eq 247 dX6_goesAlong_231 (by decide) (fun hc => ?_) (fun hc => ?_)
            · replace h := h.1 hc
              refine wc8_5 (-1) dX6_goesAlong_247 rfl ?_
              refine wp_goto 151 dX6_goesAlong_250 (by decide) ?_
              exact wp_drop [some (vr 214), some (vi x1), some (vi x2), none, none, some (vi (x5 + (-1))), none, none] ⟨rfl, ⟨rfl, ⟨rfl, ⟨rfl, trivial⟩⟩⟩⟩ h
            · replace h := h.2 hc
              refine wp_aload_n dX6_goesAlong_234 rfl ?_
              refine wp_getrs dX6_goesAlong_235 fk6_84 (tb_214 hT) (tk_214 hT) rfl (tr_38 hT) ?_
              refine wp_iload dX6_goesAlong_238 rfl ?_
              refine wp_iconst (v := 2) dX6_goesAlong_240 rfl ?_
              refine wp_idiv dX6_goesAlong_241 (by decide) ?_
              refine wp_iload dX6_goesAlong_242 rfl ?_
              refine wp_iconst (v := 2) dX6_goesAlong_244 rfl ?_
              refine wp_idiv dX6_goesAlong_245 (by decide) ?_
              refine wp_iast dX6_goesAlong_246 (tb_239 hT) (tk_239 hT) h.1 ?_
              replace h := h.2
              refine wc8_5 (-1) dX6_goesAlong_247 rfl ?_
              refine wp_goto 151 dX6_goesAlong_250 (by decide) ?_
              exact wp_drop [some (vr 214), some (vi x1), some (vi x2), none, none, some (vi (x5 + (-1))), none, none] ⟨rfl, ⟨rfl, ⟨rfl, ⟨rfl, trivial⟩⟩⟩⟩ h
          · replace h := h.2 hc
            refine wp_aload_n dX6_goesAlong_213 rfl ?_
            refine wp_getrs dX6_goesAlong_214 fk6_81 (tb_214 hT) (tk_214 hT) rfl (tr_37 hT) ?_
            refine wp_iload dX6_goesAlong_217 rfl ?_
            refine wp_iconst (v := 2) dX6_goesAlong_219 rfl ?_
            refine wp_idiv dX6_goesAlong_220 (by decide) ?_
            refine wp_iload dX6_goesAlong_221 rfl ?_
            refine wp_iconst (v := 2) dX6_goesAlong_223 rfl ?_
            refine wp_idiv dX6_goesAlong_224 (by decide) ?_
            refine wp_iast dX6_goesAlong_225 (tb_238 hT) (tk_238 hT) h.1 ?_
            replace h := h.2
            refine wp_iload dX6_goesAlong_226 rfl ?_
            refine wp_iconst (v := 2) dX6_goesAlong_228 rfl ?_
            refine wp_idiv dX6_goesAlong_229 (by decide) ?_
            refine wp_iload_n dX6_goesAlong_230 rfl ?_
            refine wp_icmp_eq 247 dX6_goesAlong_231 (by decide) (fun hc => ?_) (fun hc => ?_)
            · replace h := h.1 hc
              refine wc8_5 (-1) dX6_goesAlong_247 rfl ?_
              refine wp_goto 151 dX6_goesAlong_250 (by decide) ?_
              exact wp_drop [some (vr 214), some (vi x1), some (vi x2), none, none, some (vi (x5 + (-1))), none, none] ⟨rfl, ⟨rfl, ⟨rfl, ⟨rfl, trivial⟩⟩⟩⟩ h
            · replace h := h.2 hc
              refine wp_aload_n dX6_goesAlong_234 rfl ?_
              refine wp_getrs dX6_goesAlong_235 fk6_84 (tb_214 hT) (tk_214 hT) rfl (tr_38 hT) ?_
              refine wp_iload dX6_goesAlong_238 rfl ?_
              refine wp_iconst (v := 2) dX6_goesAlong_240 rfl ?_
              refine wp_idiv dX6_goesAlong_241 (by decide) ?_
              refine wp_iload dX6_goesAlong_242 rfl ?_
              refine wp_iconst (v := 2) dX6_goesAlong_244 rfl ?_
              refine wp_idiv dX6_goesAlong_245 (by decide) ?_
              refine wp_iast dX6_goesAlong_246 (tb_239 hT) (tk_239 hT) h.1 ?_
              replace h := h.2
              refine wc8_5 (-1) dX6_goesAlong_247 rfl ?_
              refine wp_goto 151 dX6_goesAlong_250 (by decide) ?_
              exact wp_drop [some (vr 214), some (vi x1), some (vi x2), none, none, some (vi (x5 + (-1))), none, none] ⟨rfl, ⟨rfl, ⟨rfl, ⟨rfl, trivial⟩⟩⟩⟩ h
        · replace h := h.2 hc
          refine wp_goto 247 dX6_goesAlong_202 (by decide) ?_
          refine wc8_5 (-1) dX6_goesAlong_247 rfl ?_
          refine wp_goto 151 dX6_goesAlong_250 (by decide) ?_
          exact wp_drop [some (vr 214), some (vi x1), some (vi x2), none, none, some (vi (x5 + (-1))), none, none] ⟨rfl, ⟨rfl, ⟨rfl, ⟨rfl, trivial⟩⟩⟩⟩ h
theorem n6_goesAlong {E : eT} {Q : vT → Prop} {V : vT} {x1 x2 : Int32} (h : w6_goesAlong E Q 0 [some (vr 214), some (vi x1), some (vi x2), none, none, none, none, none] [] V) : c6_goesAlong E x1 x2 V Q := MOk.enter [some (vr 214), some (vi x1), some (vi x2), none, none, none, none, none] pn_6 rfl rfl (Nat.le_of_ble_eq_true rfl) rfl h
theorem b6_getsOut_0 {E : eT} {Q : Int32 → vT → Prop} {V : vT} {x1 : Int32} (hT : TW E) (h : c6_isPlace E x1 V (fun r1 V1 => (¬ r1 = 0 → vp_in x1 96 ∧ (((V1 218 ((x1).toNatClampNeg)) = 3 → Q (-3) V1) ∧ (¬ (V1 218 ((x1).toNatClampNeg)) = 3 → vp_in (0 + x1) 315 ∧ ((¬ (V1 215 ((0 + x1).toNatClampNeg)) = 1 → c6_laysFireNow E V1 (fun V35 => w6_getsOut E Q 40 [some (vr 214), some (vi x1), some (vi 0), none, none, none, none] [] V35)) ∧ ((V1 215 ((0 + x1).toNatClampNeg)) = 1 → Q (-3) V1))))) ∧ (r1 = 0 → Q (-1) V1))) : w6_getsOut E Q 0 [some (vr 214), some (vi x1), none, none, none, none, none] [] V := by
  refine wp_iload_n dX6_getsOut_0 rfl ?_
  refine wq_SI1 lk6_110 dX6_getsOut_1 h (rmQ_ok (by decide) (by decide)) ⟨Nat.le_refl _, Nat.le_refl _⟩ (Nat.le_of_ble_eq_true rfl) (fun r1 V1 h => ?_)
  refine wp_if_ne 9 dX6_getsOut_4 (by decide) (fun hc => ?_) (fun hc => ?_)
  · replace h := h.1 hc
    refine wp_aload_n dX6_getsOut_9 rfl ?_
    refine wp_getrs dX6_getsOut_10 fk6_19 (tb_214 hT) (tk_214 hT) rfl (tr_3 hT) ?_
    refine wp_iload_n dX6_getsOut_13 rfl ?_
    refine wp_iald dX6_getsOut_14 (tb_218 hT).2 (tk_218 hT) h.1 ?_
    replace h := h.2
    refine wp_iconst (v := 3) dX6_getsOut_15 rfl ?_
    refine wp_icmp_eq 31 dX6_getsOut_16 (by decide) (fun hc => ?_) (fun hc => ?_)
    · replace h := h.1 hc
      refine wp_bipush (v := (-3)) dX6_getsOut_31 rfl ?_
      exact wp_iret dX6_getsOut_33 rfl ⟨_, rfl, rfl, rfl, rfl, h⟩
    · replace h := h.2 hc
      refine wp_aload_n dX6_getsOut_19 rfl ?_
      refine wp_getrs dX6_getsOut_20 fk6_7 (tb_214 hT) (tk_214 hT) rfl (tr_0 hT) ?_
      refine wp_iconst (v := 0) dX6_getsOut_23 rfl ?_
      refine wp_iload_n dX6_getsOut_24 rfl ?_
      refine wp_iadd dX6_getsOut_25 ?_
      refine wp_iald dX6_getsOut_26 (tb_215 hT).2 (tk_215 hT) h.1 ?_
      replace h := h.2
      refine wp_iconst (v := 1) dX6_getsOut_27 rfl ?_
      refine wp_icmp_ne 34 dX6_getsOut_28 (by decide) (fun hc => ?_) (fun hc => ?_)
      · replace h := h.1 hc
        refine wp_aload_n dX6_getsOut_34 rfl ?_
        refine wq_VV0 lk6_364 rfl (tb_214 hT) (tk_214 hT) dX6_getsOut_35 h (rmQ_ok (by decide) (by decide)) ⟨Nat.le_refl _, Nat.le_refl _⟩ (Nat.le_of_ble_eq_true rfl) (fun V35 h => ?_)
        refine wp_iconst (v := 0) dX6_getsOut_38 rfl ?_
        refine wi7_2 dX6_getsOut_39 ?_
        exact h
      · replace h := h.2 hc
        refine wp_bipush (v := (-3)) dX6_getsOut_31 rfl ?_
        exact wp_iret dX6_getsOut_33 rfl ⟨_, rfl, rfl, rfl, rfl, h⟩
  · replace h := h.2 hc
    refine wp_iconst (v := (-1)) dX6_getsOut_7 rfl ?_
    exact wp_iret dX6_getsOut_8 rfl ⟨_, rfl, rfl, rfl, rfl, h⟩
theorem b6_getsOut_40 {E : eT} {Q : Int32 → vT → Prop} {V : vT} {x1 x2 : Int32} (hT : TW E) (h : (96 ≤ x2 → vp_in x1 96 ∧ (w6_getsOut E Q 77 [some (vr 214), none, some (vi 1), some (vi 0), none, none, none] [] (up2 (up2 V 242 (x1.toNatClampNeg) 0) 243 0 x1))) ∧ (x2 < 96 → vp_in x2 96 ∧ (w6_getsOut E Q 40 [some (vr 214), some (vi x1), some (vi (x2 + 1)), none, none, none, none] [] (up2 V 242 (x2.toNatClampNeg) (-1))))) : w6_getsOut E Q 40 [some (vr 214), some (vi x1), some (vi x2), none, none, none, none] [] V := by
  refine wp_iload_n dX6_getsOut_40 rfl ?_
  refine wp_bipush (v := 96) dX6_getsOut_41 rfl ?_
  refine wp_icmp_ge 59 dX6_getsOut_43 (by decide) (fun hc => ?_) (fun hc => ?_)
  · replace h := h.1 hc
    refine wp_aload_n dX6_getsOut_59 rfl ?_
    refine wp_getrs dX6_getsOut_60 fk6_93 (tb_214 hT) (tk_214 hT) rfl (tr_42 hT) ?_
    refine wp_iload_n dX6_getsOut_63 rfl ?_
    refine wp_iconst (v := 0) dX6_getsOut_64 rfl ?_
    refine wp_iast dX6_getsOut_65 (tb_242 hT) (tk_242 hT) h.1 ?_
    replace h := h.2
    refine wp_aload_n dX6_getsOut_66 rfl ?_
    refine wp_getrs dX6_getsOut_67 fk6_96 (tb_214 hT) (tk_214 hT) rfl (tr_43 hT) ?_
    refine wp_iconst (v := 0) dX6_getsOut_70 rfl ?_
    refine wp_iload_n dX6_getsOut_71 rfl ?_
    refine wp_iast_k 0 dX6_getsOut_72 (tb_243 hT) (tk_243 hT) rfl (by decide) (by decide) ?_
    refine wp_iconst (v := 1) dX6_getsOut_73 rfl ?_
    refine wi7_2 dX6_getsOut_74 ?_
    refine wp_iconst (v := 0) dX6_getsOut_75 rfl ?_
    refine wi7_3 dX6_getsOut_76 ?_
    exact wp_drop [some (vr 214), none, some (vi 1), some (vi 0), none, none, none] ⟨rfl, ⟨rfl, ⟨rfl, trivial⟩⟩⟩ h
  · replace h := h.2 (Int32.not_le.mp hc)
    refine wp_aload_n dX6_getsOut_46 rfl ?_
    refine wp_getrs dX6_getsOut_47 fk6_93 (tb_214 hT) (tk_214 hT) rfl (tr_42 hT) ?_
    refine wp_iload_n dX6_getsOut_50 rfl ?_
    refine wp_iconst (v := (-1)) dX6_getsOut_51 rfl ?_
    refine wp_iast dX6_getsOut_52 (tb_242 hT) (tk_242 hT) h.1 ?_
    replace h := h.2
    refine wc7_2 1 dX6_getsOut_53 rfl ?_
    refine wp_goto 40 dX6_getsOut_56 (by decide) ?_
    exact h
theorem b6_getsOut_77 {E : eT} {Q : Int32 → vT → Prop} {V : vT} {x2 x3 : Int32} (hT : TW E) (h : (x2 ≤ x3 → Q (-2) V) ∧ (x3 < x2 → vp_in x3 96 ∧ (c6_isAtEdge E (V 243 ((x3).toNatClampNeg)) V (fun r92 V92 => (r92 = 0 → w6_getsOut E Q 109 [some (vr 214), none, some (vi x2), some (vi x3), some (vi (V 243 ((x3).toNatClampNeg))), some (vi 0), none] [] V92) ∧ (¬ r92 = 0 → vp_in (V 243 ((x3).toNatClampNeg)) 96 ∧ (Q (V92 242 ((V 243 ((x3).toNatClampNeg)).toNatClampNeg)) V92)))))) : w6_getsOut E Q 77 [some (vr 214), none, some (vi x2), some (vi x3), none, none, none] [] V := by
  refine wp_iload_n dX6_getsOut_77 rfl ?_
  refine wp_iload_n dX6_getsOut_78 rfl ?_
  refine wp_icmp_ge 228 dX6_getsOut_79 (by decide) (fun hc => ?_) (fun hc => ?_)
  · replace h := h.1 hc
    refine wp_bipush (v := (-2)) dX6_getsOut_228 rfl ?_
    exact wp_iret dX6_getsOut_230 rfl ⟨_, rfl, rfl, rfl, rfl, h⟩
  · replace h := h.2 (Int32.not_le.mp hc)
    refine wp_aload_n dX6_getsOut_82 rfl ?_
    refine wp_getrs dX6_getsOut_83 fk6_96 (tb_214 hT) (tk_214 hT) rfl (tr_43 hT) ?_
    refine wp_iload_n dX6_getsOut_86 rfl ?_
    refine wp_iald dX6_getsOut_87 (tb_243 hT).2 (tk_243 hT) h.1 ?_
    replace h := h.2
    refine wi7_4 dX6_getsOut_88 ?_
    refine wp_iload dX6_getsOut_90 rfl ?_
    refine wq_SI1 lk6_367 dX6_getsOut_92 h (rmQ_ok (by decide) (by decide)) ⟨Nat.le_refl _, Nat.le_refl _⟩ (Nat.le_of_ble_eq_true rfl) (fun r92 V92 h => ?_)
    refine wp_if_eq 106 dX6_getsOut_95 (by decide) (fun hc => ?_) (fun hc => ?_)
    · replace h := h.1 hc
      refine wp_iconst (v := 0) dX6_getsOut_106 rfl ?_
      refine wi7_5 dX6_getsOut_107 ?_
      exact h
    · replace h := h.2 hc
      refine wp_aload_n dX6_getsOut_98 rfl ?_
      refine wp_getrs dX6_getsOut_99 fk6_93 (tb_214 hT) (tk_214 hT) rfl (tr_42 hT) ?_
      refine wp_iload dX6_getsOut_102 rfl ?_
      refine wp_iald dX6_getsOut_104 (tb_242 hT).2 (tk_242 hT) h.1 ?_
      replace h := h.2
      exact wp_iret dX6_getsOut_105 rfl ⟨_, rfl, rfl, rfl, rfl, h⟩
theorem b6_getsOut_109 {E : eT} {Q : Int32 → vT → Prop} {V : vT} {x2 x3 x4 x5 : Int32} (hT : TW E) (h : (4 ≤ x5 → w6_getsOut E Q 77 [some (vr 214), none, some (vi x2), some (vi (x3 + 1)), none, none, none] [] V) ∧ (x5 < 4 → c6_beside E x4 x5 V (fun r119 V119 => (r119 = (-1) → w6_getsOut E Q 109 [some (vr 214), none, some (vi x2), some (vi x3), some (vi x4), some (vi (x5 + 1)), none] [] V119) ∧ (¬ r119 = (-1) → vp_in r119 96 ∧ (((V119 218 ((r119).toNatClampNeg)) = 3 → w6_getsOut E Q 109 [some (vr 214), none, some (vi x2), some (vi x3), some (vi x4), some (vi (x5 + 1)), none] [] V119) ∧ (¬ (V119 218 ((r119).toNatClampNeg)) = 3 → vp_in r119 96 ∧ (((V119 242 ((r119).toNatClampNeg)) = (-1) → vp_in r119 96 ∧ (((V119 236 ((r119).toNatClampNeg)) = (-1) → vp_in x4 96 ∧ (vp_in r119 96 ∧ (vp_in x2 96 ∧ (w6_getsOut E Q 109 [some (vr 214), none, some (vi (x2 + 1)), some (vi x3), some (vi x4), some (vi (x5 + 1)), none] [] (up2 (up2 V119 242 (r119.toNatClampNeg) ((V119 242 ((x4).toNatClampNeg)) + 1)) 243 (x2.toNatClampNeg) r119))))) ∧ (¬ (V119 236 ((r119).toNatClampNeg)) = (-1) → vp_in r119 96 ∧ (vp_in x4 96 ∧ ((((V119 242 ((x4).toNatClampNeg)) + 1) < (V119 236 ((r119).toNatClampNeg)) → vp_in x4 96 ∧ (vp_in r119 96 ∧ (vp_in x2 96 ∧ (w6_getsOut E Q 109 [some (vr 214), none, some (vi (x2 + 1)), some (vi x3), some (vi x4), some (vi (x5 + 1)), none] [] (up2 (up2 V119 242 (r119.toNatClampNeg) ((V119 242 ((x4).toNatClampNeg)) + 1)) 243 (x2.toNatClampNeg) r119))))) ∧ ((V119 236 ((r119).toNatClampNeg)) ≤ ((V119 242 ((x4).toNatClampNeg)) + 1) → w6_getsOut E Q 109 [some (vr 214), none, some (vi x2), some (vi x3), some (vi x4), some (vi (x5 + 1)), none] [] V119)))))) ∧ (¬ (V119 242 ((r119).toNatClampNeg)) = (-1) → w6_getsOut E Q 109 [some (vr 214), none, some (vi x2), some (vi x3), some (vi x4), some (vi (x5 + 1)), none] [] V119)))))))) : w6_getsOut E Q 109 [some (vr 214), none, some (vi x2), some (vi x3), some (vi x4), some (vi x5), none] [] V := by
  refine wp_iload dX6_getsOut_109 rfl ?_
  refine wp_iconst (v := 4) dX6_getsOut_111 rfl ?_
  refine wp_icmp_ge 222 dX6_getsOut_112 (by decide) (fun hc => ?_) (fun hc => ?_)
  · replace h := h.1 hc
    refine wc7_3 1 dX6_getsOut_222 rfl ?_
    refine wp_goto 77 dX6_getsOut_225 (by decide) ?_
    exact wp_drop [some (vr 214), none, some (vi x2), some (vi (x3 + 1)), none, none, none] ⟨rfl, ⟨rfl, ⟨rfl, trivial⟩⟩⟩ h
  · replace h := h.2 (Int32.not_le.mp hc)
    refine wp_iload dX6_getsOut_115 rfl ?_
    refine wp_iload dX6_getsOut_117 rfl ?_
    refine wq_SI2 lk6_281 dX6_getsOut_119 h (rmQ_ok (by decide) (by decide)) ⟨Nat.le_refl _, Nat.le_refl _⟩ (Nat.le_of_ble_eq_true rfl) (fun r119 V119 h => ?_)
    refine wi7_6 dX6_getsOut_122 ?_
    refine wp_iload dX6_getsOut_124 rfl ?_
    refine wp_iconst (v := (-1)) dX6_getsOut_126 rfl ?_
    refine wp_icmp_eq 216 dX6_getsOut_127 (by decide) (fun hc => ?_) (fun hc => ?_)
    · replace h := h.1 hc
      refine wc7_5 1 dX6_getsOut_216 rfl ?_
      refine wp_goto 109 dX6_getsOut_219 (by decide) ?_
      exact wp_drop [some (vr 214), none, some (vi x2), some (vi x3), some (vi x4), some (vi (x5 + 1)), none] ⟨rfl, ⟨rfl, ⟨rfl, ⟨rfl, ⟨rfl, trivial⟩⟩⟩⟩⟩ h
    · replace h := h.2 hc
      refine wp_aload_n dX6_getsOut_130 rfl ?_
      refine wp_getrs dX6_getsOut_131 fk6_19 (tb_214 hT) (tk_214 hT) rfl (tr_3 hT) ?_
      refine wp_iload dX6_getsOut_134 rfl ?_
      refine wp_iald dX6_getsOut_136 (tb_218 hT).2 (tk_218 hT) h.1 ?_
      replace h := h.2
      refine wp_iconst (v := 3) dX6_getsOut_137 rfl ?_
      refine wp_icmp_eq 216 dX6_getsOut_138 (by decide) (fun hc => ?_) (fun hc => ?_)
      · replace h := h.1 hc
        refine wc7_5 1 dX6_getsOut_216 rfl ?_
        refine wp_goto 109 dX6_getsOut_219 (by decide) ?_
        exact wp_drop [some (vr 214), none, some (vi x2), some (vi x3), some (vi x4), some (vi (x5 + 1)), none] ⟨rfl, ⟨rfl, ⟨rfl, ⟨rfl, ⟨rfl, trivial⟩⟩⟩⟩⟩ h
      · replace h := h.2 hc
        refine wp_aload_n dX6_getsOut_141 rfl ?_
        refine wp_getrs dX6_getsOut_142 fk6_93 (tb_214 hT) (tk_214 hT) rfl (tr_42 hT) ?_
        refine wp_iload dX6_getsOut_145 rfl ?_
        refine wp_iald dX6_getsOut_147 (tb_242 hT).2 (tk_242 hT) h.1 ?_
        replace h := h.2
        refine wp_iconst (v := (-1)) dX6_getsOut_148 rfl ?_
        refine wp_icmp_eq 155 dX6_getsOut_149 (by decide) (fun hc => ?_) (fun hc => ?_)
        · replace h := h.1 hc
          refine wp_aload_n dX6_getsOut_155 rfl ?_
          refine wp_getrs dX6_getsOut_156 fk6_75 (tb_214 hT) (tk_214 hT) rfl (tr_35 hT) ?_
          refine wp_iload dX6_getsOut_159 rfl ?_
          refine wp_iald dX6_getsOut_161 (tb_236 hT).2 (tk_236 hT) h.1 ?_
          replace h := h.2
          refine wp_iconst (v := (-1)) dX6_getsOut_162 rfl ?_
          refine wp_icmp_eq 188 dX6_getsOut_163 (by decide) (fun hc => ?_) (fun hc => ?_)
          · replace h := h.1 hc
            refine wp_aload_n dX6_getsOut_188 rfl ?_
            refine wp_getrs dX6_getsOut_189 fk6_93 (tb_214 hT) (tk_214 hT) rfl (tr_42 hT) ?_
            refine wp_iload dX6_getsOut_192 rfl ?_
            refine wp_aload_n dX6_getsOut_194 rfl ?_
            refine wp_getrs dX6_getsOut_195 fk6_93 (tb_214 hT) (tk_214 hT) rfl (tr_42 hT) ?_
            refine wp_iload dX6_getsOut_198 rfl ?_
            refine wp_iald dX6_getsOut_200 (tb_242 hT).2 (tk_242 hT) h.1 ?_
            replace h := h.2
            refine wp_iconst (v := 1) dX6_getsOut_201 rfl ?_
            refine wp_iadd dX6_getsOut_202 ?_
            refine wp_iast dX6_getsOut_203 (tb_242 hT) (tk_242 hT) h.1 ?_
            replace h := h.2
            refine wp_aload_n dX6_getsOut_204 rfl ?_
            refine wp_getrs dX6_getsOut_205 fk6_96 (tb_214 hT) (tk_214 hT) rfl (tr_43 hT) ?_
            refine wp_iload_n dX6_getsOut_208 rfl ?_
            refine wp_iload dX6_getsOut_209 rfl ?_
            refine wp_iast dX6_getsOut_211 (tb_243 hT) (tk_243 hT) h.1 ?_
            replace h := h.2
            refine wp_iload_n dX6_getsOut_212 rfl ?_
            refine wp_iconst (v := 1) dX6_getsOut_213 rfl ?_
            refine wp_iadd dX6_getsOut_214 ?_
            refine wi7_2 dX6_getsOut_215 ?_
            refine wc7_5 1 dX6_getsOut_216 rfl ?_
            refine wp_goto 109 dX6_getsOut_219 (by decide) ?_
            exact wp_drop [some (vr 214), none, some (vi (x2 + 1)), some (vi x3), some (vi x4), some (vi (x5 + 1)), none] ⟨rfl, ⟨rfl, ⟨rfl, ⟨rfl, ⟨rfl, trivial⟩⟩⟩⟩⟩ h
          · replace h := h.2 hc
            refine wp_aload_n dX6_getsOut_166 rfl ?_
            refine wp_getrs dX6_getsOut_167 fk6_75 (tb_214 hT) (tk_214 hT) rfl (tr_35 hT) ?_
            refine wp_iload dX6_getsOut_170 rfl ?_
            refine wp_iald dX6_getsOut_172 (tb_236 hT).2 (tk_236 hT) h.1 ?_
            replace h := h.2
            refine wp_aload_n dX6_getsOut_173 rfl ?_
            refine wp_getrs dX6_getsOut_174 fk6_93 (tb_214 hT) (tk_214 hT) rfl (tr_42 hT) ?_
            refine wp_iload dX6_getsOut_177 rfl ?_
            refine wp_iald dX6_getsOut_179 (tb_242 hT).2 (tk_242 hT) h.1 ?_
            replace h := h.2
            refine wp_iconst (v := 1) dX6_getsOut_180 rfl ?_
            refine wp_iadd dX6_getsOut_181 ?_
            refine wp_icmp_gt 188 dX6_getsOut_182 (by decide) (fun hc => ?_) (fun hc => ?_)
            · replace h := h.1 hc
              refine wp_aload_n dX6_getsOut_188 rfl ?_
              refine wp_getrs dX6_getsOut_189 fk6_93 (tb_214 hT) (tk_214 hT) rfl (tr_42 hT) ?_
              refine wp_iload dX6_getsOut_192 rfl ?_
              refine wp_aload_n dX6_getsOut_194 rfl ?_
              refine wp_getrs dX6_getsOut_195 fk6_93 (tb_214 hT) (tk_214 hT) rfl (tr_42 hT) ?_
              refine wp_iload dX6_getsOut_198 rfl ?_
              refine wp_iald dX6_getsOut_200 (tb_242 hT).2 (tk_242 hT) h.1 ?_
              replace h := h.2
              refine wp_iconst (v := 1) dX6_getsOut_201 rfl ?_
              refine wp_iadd dX6_getsOut_202 ?_
              refine wp_iast dX6_getsOut_203 (tb_242 hT) (tk_242 hT) h.1 ?_
              replace h := h.2
              refine wp_aload_n dX6_getsOut_204 rfl ?_
              refine wp_getrs dX6_getsOut_205 fk6_96 (tb_214 hT) (tk_214 hT) rfl (tr_43 hT) ?_
              refine wp_iload_n dX6_getsOut_208 rfl ?_
              refine wp_iload dX6_getsOut_209 rfl ?_
              refine wp_iast dX6_getsOut_211 (tb_243 hT) (tk_243 hT) h.1 ?_
              replace h := h.2
              refine wp_iload_n dX6_getsOut_212 rfl ?_
              refine wp_iconst (v := 1) dX6_getsOut_213 rfl ?_
              refine wp_iadd dX6_getsOut_214 ?_
              refine wi7_2 dX6_getsOut_215 ?_
              refine wc7_5 1 dX6_getsOut_216 rfl ?_
              refine wp_goto 109 dX6_getsOut_219 (by decide) ?_
              exact wp_drop [some (vr 214), none, some (vi (x2 + 1)), some (vi x3), some (vi x4), some (vi (x5 + 1)), none] ⟨rfl, ⟨rfl, ⟨rfl, ⟨rfl, ⟨rfl, trivial⟩⟩⟩⟩⟩ h
            · replace h := h.2 (Int32.not_lt.mp hc)
              refine wp_goto 216 dX6_getsOut_185 (by decide) ?_
              refine wc7_5 1 dX6_getsOut_216 rfl ?_
              refine wp_goto 109 dX6_getsOut_219 (by decide) ?_
              exact wp_drop [some (vr 214), none, some (vi x2), some (vi x3), some (vi x4), some (vi (x5 + 1)), none] ⟨rfl, ⟨rfl, ⟨rfl, ⟨rfl, ⟨rfl, trivial⟩⟩⟩⟩⟩ h
        · replace h := h.2 hc
          refine wp_goto 216 dX6_getsOut_152 (by decide) ?_
          refine wc7_5 1 dX6_getsOut_216 rfl ?_
          refine wp_goto 109 dX6_getsOut_219 (by decide) ?_
          exact wp_drop [some (vr 214), none, some (vi x2), some (vi x3), some (vi x4), some (vi (x5 + 1)), none] ⟨rfl, ⟨rfl, ⟨rfl, ⟨rfl, ⟨rfl, trivial⟩⟩⟩⟩⟩ h
theorem n6_getsOut {E : eT} {Q : Int32 → vT → Prop} {V : vT} {x1 : Int32} (h : w6_getsOut E Q 0 [some (vr 214), some (vi x1), none, none, none, none, none] [] V) : c6_getsOut E x1 V Q := MOk.enter [some (vr 214), some (vi x1), none, none, none, none, none] pn_6 rfl rfl (Nat.le_of_ble_eq_true rfl) rfl h
theorem b6_laysFireNow_0 {E : eT} {Q : vT → Prop} {V : vT} (hT : TW E) (h : c6_clearsFire E V (fun V1 => w6_laysFireNow E Q 8 [some (vr 214), some (vi 0), some (vi 0)] [] V1)) : w6_laysFireNow E Q 0 [some (vr 214), none, none] [] V := by
  refine wp_aload_n dX6_laysFireNow_0 rfl ?_
  refine wq_VV0 lk6_337 rfl (tb_214 hT) (tk_214 hT) dX6_laysFireNow_1 h (rmQ_ok (by decide) (by decide)) ⟨Nat.le_refl _, Nat.le_refl _⟩ (Nat.le_of_ble_eq_true rfl) (fun V1 h => ?_)
  refine wp_iconst (v := 0) dX6_laysFireNow_4 rfl ?_
  refine wi3_1 dX6_laysFireNow_5 ?_
  refine wp_iconst (v := 0) dX6_laysFireNow_6 rfl ?_
  refine wi3_2 dX6_laysFireNow_7 ?_
  exact h
theorem b6_laysFireNow_8 {E : eT} {Q : vT → Prop} {V : vT} {x1 x2 : Int32} (hT : TW E) (h : (96 ≤ x2 → c6_laysFire E x1 V (fun V55 => Q V55)) ∧ (x2 < 96 → vp_in (0 + x2) 315 ∧ (((V 215 ((0 + x2).toNatClampNeg)) = 1 → vp_in x2 96 ∧ (vp_in x1 192 ∧ (w6_laysFireNow E Q 8 [some (vr 214), some (vi (x1 + 1)), some (vi (x2 + 1))] [] (up2 (up2 V 236 (x2.toNatClampNeg) 0) 237 (x1.toNatClampNeg) x2)))) ∧ (¬ (V 215 ((0 + x2).toNatClampNeg)) = 1 → w6_laysFireNow E Q 8 [some (vr 214), some (vi x1), some (vi (x2 + 1))] [] V)))) : w6_laysFireNow E Q 8 [some (vr 214), some (vi x1), some (vi x2)] [] V := by
  refine wp_iload_n dX6_laysFireNow_8 rfl ?_
  refine wp_bipush (v := 96) dX6_laysFireNow_9 rfl ?_
  refine wp_icmp_ge 53 dX6_laysFireNow_11 (by decide) (fun hc => ?_) (fun hc => ?_)
  · replace h := h.1 hc
    refine wp_aload_n dX6_laysFireNow_53 rfl ?_
    refine wp_iload_n dX6_laysFireNow_54 rfl ?_
    refine wq_VV1 lk6_340 rfl (tb_214 hT) (tk_214 hT) dX6_laysFireNow_55 h (rmQ_ok (by decide) (by decide)) ⟨Nat.le_refl _, Nat.le_refl _⟩ (Nat.le_of_ble_eq_true rfl) (fun V55 h => ?_)
    exact wp_vret dX6_laysFireNow_58 ⟨rfl, rfl, rfl, rfl, h⟩
  · replace h := h.2 (Int32.not_le.mp hc)
    refine wp_aload_n dX6_laysFireNow_14 rfl ?_
    refine wp_getrs dX6_laysFireNow_15 fk6_7 (tb_214 hT) (tk_214 hT) rfl (tr_0 hT) ?_
    refine wp_iconst (v := 0) dX6_laysFireNow_18 rfl ?_
    refine wp_iload_n dX6_laysFireNow_19 rfl ?_
    refine wp_iadd dX6_laysFireNow_20 ?_
    refine wp_iald dX6_laysFireNow_21 (tb_215 hT).2 (tk_215 hT) h.1 ?_
    replace h := h.2
    refine wp_iconst (v := 1) dX6_laysFireNow_22 rfl ?_
    refine wp_icmp_eq 29 dX6_laysFireNow_23 (by decide) (fun hc => ?_) (fun hc => ?_)
    · replace h := h.1 hc
      refine wp_aload_n dX6_laysFireNow_29 rfl ?_
      refine wp_getrs dX6_laysFireNow_30 fk6_75 (tb_214 hT) (tk_214 hT) rfl (tr_35 hT) ?_
      refine wp_iload_n dX6_laysFireNow_33 rfl ?_
      refine wp_iconst (v := 0) dX6_laysFireNow_34 rfl ?_
      refine wp_iast dX6_laysFireNow_35 (tb_236 hT) (tk_236 hT) h.1 ?_
      replace h := h.2
      refine wp_aload_n dX6_laysFireNow_36 rfl ?_
      refine wp_getrs dX6_laysFireNow_37 fk6_78 (tb_214 hT) (tk_214 hT) rfl (tr_36 hT) ?_
      refine wp_iload_n dX6_laysFireNow_40 rfl ?_
      refine wp_iload_n dX6_laysFireNow_41 rfl ?_
      refine wp_iast dX6_laysFireNow_42 (tb_237 hT) (tk_237 hT) h.1 ?_
      replace h := h.2
      refine wp_iload_n dX6_laysFireNow_43 rfl ?_
      refine wp_iconst (v := 1) dX6_laysFireNow_44 rfl ?_
      refine wp_iadd dX6_laysFireNow_45 ?_
      refine wi3_1 dX6_laysFireNow_46 ?_
      refine wc3_2 1 dX6_laysFireNow_47 rfl ?_
      refine wp_goto 8 dX6_laysFireNow_50 (by decide) ?_
      exact h
    · replace h := h.2 hc
      refine wp_goto 47 dX6_laysFireNow_26 (by decide) ?_
      refine wc3_2 1 dX6_laysFireNow_47 rfl ?_
      refine wp_goto 8 dX6_laysFireNow_50 (by decide) ?_
      exact h
theorem n6_laysFireNow {E : eT} {Q : vT → Prop} {V : vT} (h : w6_laysFireNow E Q 0 [some (vr 214), none, none] [] V) : c6_laysFireNow E V Q := MOk.enter [some (vr 214), none, none] pn_6 rfl rfl (Nat.le_of_ble_eq_true rfl) rfl h
theorem b6_isAtEdge_0 {E : eT} {Q : Int32 → vT → Prop} {V : vT} {x1 : Int32} (hT : TW E) (h : ((rmd x1 12) = 0 → Q 1 V) ∧ (¬ (rmd x1 12) = 0 → ((rmd x1 12) = 11 → Q 1 V) ∧ (¬ (rmd x1 12) = 11 → ((x1 / 12) = 0 → Q 1 V) ∧ (¬ (x1 / 12) = 0 → (¬ (x1 / 12) = 7 → Q 0 V) ∧ ((x1 / 12) = 7 → Q 1 V))))) : w6_isAtEdge E Q 0 [some (vi x1)] [] V := by
  refine wp_iload_n dX6_isAtEdge_0 rfl ?_
  refine wp_bipush (v := 12) dX6_isAtEdge_1 rfl ?_
  refine wp_irm dX6_isAtEdge_3 (by decide) ?_
  refine wp_if_eq 32 dX6_isAtEdge_4 (by decide) (fun hc => ?_) (fun hc => ?_)
  · replace h := h.1 hc
    refine wp_iconst (v := 1) dX6_isAtEdge_32 rfl ?_
    refine wp_goto 37 dX6_isAtEdge_33 (by decide) ?_
    exact wp_iret dX6_isAtEdge_37 rfl ⟨_, rfl, rfl, rfl, rfl, h⟩
  · replace h := h.2 hc
    refine wp_iload_n dX6_isAtEdge_7 rfl ?_
    refine wp_bipush (v := 12) dX6_isAtEdge_8 rfl ?_
    refine wp_irm dX6_isAtEdge_10 (by decide) ?_
    refine wp_bipush (v := 11) dX6_isAtEdge_11 rfl ?_
    refine wp_icmp_eq 32 dX6_isAtEdge_13 (by decide) (fun hc => ?_) (fun hc => ?_)
    · replace h := h.1 hc
      refine wp_iconst (v := 1) dX6_isAtEdge_32 rfl ?_
      refine wp_goto 37 dX6_isAtEdge_33 (by decide) ?_
      exact wp_iret dX6_isAtEdge_37 rfl ⟨_, rfl, rfl, rfl, rfl, h⟩
    · replace h := h.2 hc
      refine wp_iload_n dX6_isAtEdge_16 rfl ?_
      refine wp_bipush (v := 12) dX6_isAtEdge_17 rfl ?_
      refine wp_idiv dX6_isAtEdge_19 (by decide) ?_
      refine wp_if_eq 32 dX6_isAtEdge_20 (by decide) (fun hc => ?_) (fun hc => ?_)
      · replace h := h.1 hc
        refine wp_iconst (v := 1) dX6_isAtEdge_32 rfl ?_
        refine wp_goto 37 dX6_isAtEdge_33 (by decide) ?_
        exact wp_iret dX6_isAtEdge_37 rfl ⟨_, rfl, rfl, rfl, rfl, h⟩
      · replace h := h.2 hc
        refine wp_iload_n dX6_isAtEdge_23 rfl ?_
        refine wp_bipush (v := 12) dX6_isAtEdge_24 rfl ?_
        refine wp_idiv dX6_isAtEdge_26 (by decide) ?_
        refine wp_bipush (v := 7) dX6_isAtEdge_27 rfl ?_
        refine wp_icmp_ne 36 dX6_isAtEdge_29 (by decide) (fun hc => ?_) (fun hc => ?_)
        · replace h := h.1 hc
          refine wp_iconst (v := 0) dX6_isAtEdge_36 rfl ?_
          exact wp_iret dX6_isAtEdge_37 rfl ⟨_, rfl, rfl, rfl, rfl, h⟩
        · replace h := h.2 hc
          refine wp_iconst (v := 1) dX6_isAtEdge_32 rfl ?_
          refine wp_goto 37 dX6_isAtEdge_33 (by decide) ?_
          exact wp_iret dX6_isAtEdge_37 rfl ⟨_, rfl, rfl, rfl, rfl, h⟩
theorem n6_isAtEdge {E : eT} {Q : Int32 → vT → Prop} {V : vT} {x1 : Int32} (h : w6_isAtEdge E Q 0 [some (vi x1)] [] V) : c6_isAtEdge E x1 V Q := MOk.enter [some (vi x1)] pn_6 rfl rfl (Nat.le_of_ble_eq_true rfl) rfl h
theorem b6_safe_0 {E : eT} {Q : Int32 → vT → Prop} {V : vT} {x1 : Int32} (hT : TW E) (h : c6_in E x1 0 1 V (fun r3 V3 => (¬ r3 = 0 → c6_laysFireNow E V3 (fun V12 => w6_safe E Q 24 [some (vr 214), some (vi x1), some (vi 0), some (vi (-2)), some (vi 95)] [] V12)) ∧ (r3 = 0 → Q (-1) V3))) : w6_safe E Q 0 [some (vr 214), some (vi x1), none, none, none] [] V := by
  refine wp_iload_n dX6_safe_0 rfl ?_
  refine wp_iconst (v := 0) dX6_safe_1 rfl ?_
  refine wp_iconst (v := 1) dX6_safe_2 rfl ?_
  refine wq_SI3 lk6_102 dX6_safe_3 h (rmQ_ok (by decide) (by decide)) ⟨Nat.le_refl _, Nat.le_refl _⟩ (Nat.le_of_ble_eq_true rfl) (fun r3 V3 h => ?_)
  refine wp_if_ne 11 dX6_safe_6 (by decide) (fun hc => ?_) (fun hc => ?_)
  · replace h := h.1 hc
    refine wp_aload_n dX6_safe_11 rfl ?_
    refine wq_VV0 lk6_364 rfl (tb_214 hT) (tk_214 hT) dX6_safe_12 h (rmQ_ok (by decide) (by decide)) ⟨Nat.le_refl _, Nat.le_refl _⟩ (Nat.le_of_ble_eq_true rfl) (fun V12 h => ?_)
    refine wp_iconst (v := 0) dX6_safe_15 rfl ?_
    refine wi5_2 dX6_safe_16 ?_
    refine wp_bipush (v := (-2)) dX6_safe_17 rfl ?_
    refine wi5_3 dX6_safe_19 ?_
    refine wp_bipush (v := 95) dX6_safe_20 rfl ?_
    refine wi5_4 dX6_safe_22 ?_
    exact h
  · replace h := h.2 hc
    refine wp_iconst (v := (-1)) dX6_safe_9 rfl ?_
    exact wp_iret dX6_safe_10 rfl ⟨_, rfl, rfl, rfl, rfl, h⟩
theorem b6_safe_24 {E : eT} {Q : Int32 → vT → Prop} {V : vT} {x1 x2 x3 x4 : Int32} (hT : TW E) (h : (x4 < 0 → (¬ x1 = 0 → Q x3 V) ∧ (x1 = 0 → Q x2 V)) ∧ (0 ≤ x4 → c6_isWood E x4 V (fun r32 V32 => (r32 = 0 → w6_safe E Q 24 [some (vr 214), some (vi x1), some (vi x2), some (vi x3), some (vi (x4 + (-1)))] [] V32) ∧ (¬ r32 = 0 → vp_in x4 96 ∧ (((V32 236 ((x4).toNatClampNeg)) = (-1) → w6_safe E Q 24 [some (vr 214), some (vi x1), some (vi (x2 + 1)), some (vi x4), some (vi (x4 + (-1)))] [] V32) ∧ (¬ (V32 236 ((x4).toNatClampNeg)) = (-1) → w6_safe E Q 24 [some (vr 214), some (vi x1), some (vi x2), some (vi x3), some (vi (x4 + (-1)))] [] V32)))))) : w6_safe E Q 24 [some (vr 214), some (vi x1), some (vi x2), some (vi x3), some (vi x4)] [] V := by
  refine wp_iload dX6_safe_24 rfl ?_
  refine wp_if_lt 65 dX6_safe_26 (by decide) (fun hc => ?_) (fun hc => ?_)
  · replace h := h.1 hc
    refine wp_iload_n dX6_safe_65 rfl ?_
    refine wp_if_ne 73 dX6_safe_66 (by decide) (fun hc => ?_) (fun hc => ?_)
    · replace h := h.1 hc
      refine wp_iload_n dX6_safe_73 rfl ?_
      exact wp_iret dX6_safe_74 rfl ⟨_, rfl, rfl, rfl, rfl, h⟩
    · replace h := h.2 hc
      refine wp_iload_n dX6_safe_69 rfl ?_
      refine wp_goto 74 dX6_safe_70 (by decide) ?_
      exact wp_iret dX6_safe_74 rfl ⟨_, rfl, rfl, rfl, rfl, h⟩
  · replace h := h.2 (Int32.not_lt.mp hc)
    refine wp_aload_n dX6_safe_29 rfl ?_
    refine wp_iload dX6_safe_30 rfl ?_
    refine wq_VI1 lk6_241 rfl (tb_214 hT) (tk_214 hT) dX6_safe_32 h (rmQ_ok (by decide) (by decide)) ⟨Nat.le_refl _, Nat.le_refl _⟩ (Nat.le_of_ble_eq_true rfl) (fun r32 V32 h => ?_)
    refine wp_if_eq 59 dX6_safe_35 (by decide) (fun hc => ?_) (fun hc => ?_)
    · replace h := h.1 hc
      refine wc5_4 (-1) dX6_safe_59 rfl ?_
      refine wp_goto 24 dX6_safe_62 (by decide) ?_
      exact h
    · replace h := h.2 hc
      refine wp_aload_n dX6_safe_38 rfl ?_
      refine wp_getrs dX6_safe_39 fk6_75 (tb_214 hT) (tk_214 hT) rfl (tr_35 hT) ?_
      refine wp_iload dX6_safe_42 rfl ?_
      refine wp_iald dX6_safe_44 (tb_236 hT).2 (tk_236 hT) h.1 ?_
      replace h := h.2
      refine wp_iconst (v := (-1)) dX6_safe_45 rfl ?_
      refine wp_icmp_eq 52 dX6_safe_46 (by decide) (fun hc => ?_) (fun hc => ?_)
      · replace h := h.1 hc
        refine wp_iload_n dX6_safe_52 rfl ?_
        refine wp_iconst (v := 1) dX6_safe_53 rfl ?_
        refine wp_iadd dX6_safe_54 ?_
        refine wi5_2 dX6_safe_55 ?_
        refine wp_iload dX6_safe_56 rfl ?_
        refine wi5_3 dX6_safe_58 ?_
        refine wc5_4 (-1) dX6_safe_59 rfl ?_
        refine wp_goto 24 dX6_safe_62 (by decide) ?_
        exact h
      · replace h := h.2 hc
        refine wp_goto 59 dX6_safe_49 (by decide) ?_
        refine wc5_4 (-1) dX6_safe_59 rfl ?_
        refine wp_goto 24 dX6_safe_62 (by decide) ?_
        exact h
theorem n6_safe {E : eT} {Q : Int32 → vT → Prop} {V : vT} {x1 : Int32} (h : w6_safe E Q 0 [some (vr 214), some (vi x1), none, none, none] [] V) : c6_safe E x1 V Q := MOk.enter [some (vr 214), some (vi x1), none, none, none] pn_6 rfl rfl (Nat.le_of_ble_eq_true rfl) rfl h
theorem b6_woods_0 {E : eT} {Q : Int32 → vT → Prop} {V : vT} {x1 : Int32} (hT : TW E) (h : c6_in E x1 0 1 V (fun r3 V3 => (¬ r3 = 0 → c6_clearsFire E V3 (fun V12 => w6_woods E Q 22 [some (vr 214), some (vi x1), some (vi 0), some (vi 0), some (vi 0), none] [] V12)) ∧ (r3 = 0 → Q (-1) V3))) : w6_woods E Q 0 [some (vr 214), some (vi x1), none, none, none, none] [] V := by
  refine wp_iload_n dX6_woods_0 rfl ?_
  refine wp_iconst (v := 0) dX6_woods_1 rfl ?_
  refine wp_iconst (v := 1) dX6_woods_2 rfl ?_
  refine wq_SI3 lk6_102 dX6_woods_3 h (rmQ_ok (by decide) (by decide)) ⟨Nat.le_refl _, Nat.le_refl _⟩ (Nat.le_of_ble_eq_true rfl) (fun r3 V3 h => ?_)
  refine wp_if_ne 11 dX6_woods_6 (by decide) (fun hc => ?_) (fun hc => ?_)
  · replace h := h.1 hc
    refine wp_aload_n dX6_woods_11 rfl ?_
    refine wq_VV0 lk6_337 rfl (tb_214 hT) (tk_214 hT) dX6_woods_12 h (rmQ_ok (by decide) (by decide)) ⟨Nat.le_refl _, Nat.le_refl _⟩ (Nat.le_of_ble_eq_true rfl) (fun V12 h => ?_)
    refine wp_iconst (v := 0) dX6_woods_15 rfl ?_
    refine wi6_2 dX6_woods_16 ?_
    refine wp_iconst (v := 0) dX6_woods_17 rfl ?_
    refine wi6_3 dX6_woods_18 ?_
    refine wp_iconst (v := 0) dX6_woods_19 rfl ?_
    refine wi6_4 dX6_woods_20 ?_
    exact h
  · replace h := h.2 hc
    refine wp_iconst (v := (-1)) dX6_woods_9 rfl ?_
    exact wp_iret dX6_woods_10 rfl ⟨_, rfl, rfl, rfl, rfl, h⟩
theorem b6_woods_22 {E : eT} {Q : Int32 → vT → Prop} {V : vT} {x1 x2 x3 x4 : Int32} (hT : TW E) (h : (96 ≤ x4 → (¬ x1 = 0 → Q x3 V) ∧ (x1 = 0 → Q x2 V)) ∧ (x4 < 96 → c6_isWood E x4 V (fun r32 V32 => (r32 = 0 → w6_woods E Q 22 [some (vr 214), some (vi x1), some (vi x2), some (vi x3), some (vi (x4 + 1)), none] [] V32) ∧ (¬ r32 = 0 → vp_in x4 96 ∧ (((V32 236 ((x4).toNatClampNeg)) = (-1) → c6_woodSeen E V32 (fun r53 V53 => vp_in x4 96 ∧ (c6_laysFire E 1 (up2 (up2 V53 236 (x4.toNatClampNeg) 0) 237 0 x4) (fun V76 => c6_woodSeen E V76 (fun r85 V85 => c6_max E x3 (r85 - r53) V85 (fun r91 V91 => w6_woods E Q 22 [some (vr 214), some (vi x1), some (vi (x2 + 1)), some (vi r91), some (vi (x4 + 1)), none] [] V91)))))) ∧ (¬ (V32 236 ((x4).toNatClampNeg)) = (-1) → w6_woods E Q 22 [some (vr 214), some (vi x1), some (vi x2), some (vi x3), some (vi (x4 + 1)), none] [] V32)))))) : w6_woods E Q 22 [some (vr 214), some (vi x1), some (vi x2), some (vi x3), some (vi x4), none] [] V := by
  refine wp_iload dX6_woods_22 rfl ?_
  refine wp_bipush (v := 96) dX6_woods_24 rfl ?_
  refine wp_icmp_ge 101 dX6_woods_26 (by decide) (fun hc => ?_) (fun hc => ?_)
  · replace h := h.1 hc
    refine wp_iload_n dX6_woods_101 rfl ?_
    refine wp_if_ne 109 dX6_woods_102 (by decide) (fun hc => ?_) (fun hc => ?_)
    · replace h := h.1 hc
      refine wp_iload_n dX6_woods_109 rfl ?_
      exact wp_iret dX6_woods_110 rfl ⟨_, rfl, rfl, rfl, rfl, h⟩
    · replace h := h.2 hc
      refine wp_iload_n dX6_woods_105 rfl ?_
      refine wp_goto 110 dX6_woods_106 (by decide) ?_
      exact wp_iret dX6_woods_110 rfl ⟨_, rfl, rfl, rfl, rfl, h⟩
  · replace h := h.2 (Int32.not_le.mp hc)
    refine wp_aload_n dX6_woods_29 rfl ?_
    refine wp_iload dX6_woods_30 rfl ?_
    refine wq_VI1 lk6_241 rfl (tb_214 hT) (tk_214 hT) dX6_woods_32 h (rmQ_ok (by decide) (by decide)) ⟨Nat.le_refl _, Nat.le_refl _⟩ (Nat.le_of_ble_eq_true rfl) (fun r32 V32 h => ?_)
    refine wp_if_eq 95 dX6_woods_35 (by decide) (fun hc => ?_) (fun hc => ?_)
    · replace h := h.1 hc
      refine wc6_4 1 dX6_woods_95 rfl ?_
      refine wp_goto 22 dX6_woods_98 (by decide) ?_
      exact h
    · replace h := h.2 hc
      refine wp_aload_n dX6_woods_38 rfl ?_
      refine wp_getrs dX6_woods_39 fk6_75 (tb_214 hT) (tk_214 hT) rfl (tr_35 hT) ?_
      refine wp_iload dX6_woods_42 rfl ?_
      refine wp_iald dX6_woods_44 (tb_236 hT).2 (tk_236 hT) h.1 ?_
      replace h := h.2
      refine wp_iconst (v := (-1)) dX6_woods_45 rfl ?_
      refine wp_icmp_eq 52 dX6_woods_46 (by decide) (fun hc => ?_) (fun hc => ?_)
      · replace h := h.1 hc
        refine wp_aload_n dX6_woods_52 rfl ?_
        refine wq_VI0 lk6_370 rfl (tb_214 hT) (tk_214 hT) dX6_woods_53 h (rmQ_ok (by decide) (by decide)) ⟨Nat.le_refl _, Nat.le_refl _⟩ (Nat.le_of_ble_eq_true rfl) (fun r53 V53 h => ?_)
        refine wi6_5 dX6_woods_56 ?_
        refine wp_aload_n dX6_woods_58 rfl ?_
        refine wp_getrs dX6_woods_59 fk6_75 (tb_214 hT) (tk_214 hT) rfl (tr_35 hT) ?_
        refine wp_iload dX6_woods_62 rfl ?_
        refine wp_iconst (v := 0) dX6_woods_64 rfl ?_
        refine wp_iast dX6_woods_65 (tb_236 hT) (tk_236 hT) h.1 ?_
        replace h := h.2
        refine wp_aload_n dX6_woods_66 rfl ?_
        refine wp_getrs dX6_woods_67 fk6_78 (tb_214 hT) (tk_214 hT) rfl (tr_36 hT) ?_
        refine wp_iconst (v := 0) dX6_woods_70 rfl ?_
        refine wp_iload dX6_woods_71 rfl ?_
        refine wp_iast_k 0 dX6_woods_73 (tb_237 hT) (tk_237 hT) rfl (by decide) (by decide) ?_
        refine wp_aload_n dX6_woods_74 rfl ?_
        refine wp_iconst (v := 1) dX6_woods_75 rfl ?_
        refine wq_VV1 lk6_340 rfl (tb_214 hT) (tk_214 hT) dX6_woods_76 h (rmQ_ok (by decide) (by decide)) ⟨Nat.le_refl _, Nat.le_refl _⟩ (Nat.le_of_ble_eq_true rfl) (fun V76 h => ?_)
        refine wp_iload_n dX6_woods_79 rfl ?_
        refine wp_iconst (v := 1) dX6_woods_80 rfl ?_
        refine wp_iadd dX6_woods_81 ?_
        refine wi6_2 dX6_woods_82 ?_
        refine wp_iload_n dX6_woods_83 rfl ?_
        refine wp_aload_n dX6_woods_84 rfl ?_
        refine wq_VI0 lk6_370 rfl (tb_214 hT) (tk_214 hT) dX6_woods_85 h (rmQ_ok (by decide) (by decide)) ⟨Nat.le_refl _, Nat.le_refl _⟩ (Nat.le_of_ble_eq_true rfl) (fun r85 V85 h => ?_)
        refine wp_iload dX6_woods_88 rfl ?_
        refine wp_isub dX6_woods_90 ?_
        refine wq_SI2 lk6_373 dX6_woods_91 h (rmQ_ok (by decide) (by decide)) ⟨Nat.le_refl _, Nat.le_refl _⟩ (Nat.le_of_ble_eq_true rfl) (fun r91 V91 h => ?_)
        refine wi6_3 dX6_woods_94 ?_
        refine wc6_4 1 dX6_woods_95 rfl ?_
        refine wp_goto 22 dX6_woods_98 (by decide) ?_
        exact wp_drop [some (vr 214), some (vi x1), some (vi (x2 + 1)), some (vi r91), some (vi (x4 + 1)), none] ⟨rfl, ⟨rfl, ⟨rfl, ⟨rfl, ⟨rfl, trivial⟩⟩⟩⟩⟩ h
      · replace h := h.2 hc
        refine wp_goto 95 dX6_woods_49 (by decide) ?_
        refine wc6_4 1 dX6_woods_95 rfl ?_
        refine wp_goto 22 dX6_woods_98 (by decide) ?_
        exact h
theorem n6_woods {E : eT} {Q : Int32 → vT → Prop} {V : vT} {x1 : Int32} (h : w6_woods E Q 0 [some (vr 214), some (vi x1), none, none, none, none] [] V) : c6_woods E x1 V Q := MOk.enter [some (vr 214), some (vi x1), none, none, none, none] pn_6 rfl rfl (Nat.le_of_ble_eq_true rfl) rfl h
theorem b6_woodSeen_0 {E : eT} {Q : Int32 → vT → Prop} {V : vT} (hT : TW E) (h : w6_woodSeen E Q 4 [some (vr 214), some (vi 0), some (vi 0)] [] V) : w6_woodSeen E Q 0 [some (vr 214), none, none] [] V := by
  refine wp_iconst (v := 0) dX6_woodSeen_0 rfl ?_
  refine wi3_1 dX6_woodSeen_1 ?_
  refine wp_iconst (v := 0) dX6_woodSeen_2 rfl ?_
  refine wi3_2 dX6_woodSeen_3 ?_
  exact h
theorem b6_woodSeen_4 {E : eT} {Q : Int32 → vT → Prop} {V : vT} {x1 x2 : Int32} (hT : TW E) (h : (96 ≤ x2 → Q x1 V) ∧ (x2 < 96 → vp_in x2 96 ∧ (((V 236 ((x2).toNatClampNeg)) = (-1) → w6_woodSeen E Q 4 [some (vr 214), some (vi x1), some (vi (x2 + 1))] [] V) ∧ (¬ (V 236 ((x2).toNatClampNeg)) = (-1) → w6_woodSeen E Q 4 [some (vr 214), some (vi (x1 + 1)), some (vi (x2 + 1))] [] V)))) : w6_woodSeen E Q 4 [some (vr 214), some (vi x1), some (vi x2)] [] V := by
  refine wp_iload_n dX6_woodSeen_4 rfl ?_
  refine wp_bipush (v := 96) dX6_woodSeen_5 rfl ?_
  refine wp_icmp_ge 30 dX6_woodSeen_7 (by decide) (fun hc => ?_) (fun hc => ?_)
  · replace h := h.1 hc
    refine wp_iload_n dX6_woodSeen_30 rfl ?_
    exact wp_iret dX6_woodSeen_31 rfl ⟨_, rfl, rfl, rfl, rfl, h⟩
  · replace h := h.2 (Int32.not_le.mp hc)
    refine wp_aload_n dX6_woodSeen_10 rfl ?_
    refine wp_getrs dX6_woodSeen_11 fk6_75 (tb_214 hT) (tk_214 hT) rfl (tr_35 hT) ?_
    refine wp_iload_n dX6_woodSeen_14 rfl ?_
    refine wp_iald dX6_woodSeen_15 (tb_236 hT).2 (tk_236 hT) h.1 ?_
    replace h := h.2
    refine wp_iconst (v := (-1)) dX6_woodSeen_16 rfl ?_
    refine wp_icmp_eq 24 dX6_woodSeen_17 (by decide) (fun hc => ?_) (fun hc => ?_)
    · replace h := h.1 hc
      refine wc3_2 1 dX6_woodSeen_24 rfl ?_
      refine wp_goto 4 dX6_woodSeen_27 (by decide) ?_
      exact h
    · replace h := h.2 hc
      refine wp_iload_n dX6_woodSeen_20 rfl ?_
      refine wp_iconst (v := 1) dX6_woodSeen_21 rfl ?_
      refine wp_iadd dX6_woodSeen_22 ?_
      refine wi3_1 dX6_woodSeen_23 ?_
      refine wc3_2 1 dX6_woodSeen_24 rfl ?_
      refine wp_goto 4 dX6_woodSeen_27 (by decide) ?_
      exact h
theorem n6_woodSeen {E : eT} {Q : Int32 → vT → Prop} {V : vT} (h : w6_woodSeen E Q 0 [some (vr 214), none, none] [] V) : c6_woodSeen E V Q := MOk.enter [some (vr 214), none, none] pn_6 rfl rfl (Nat.le_of_ble_eq_true rfl) rfl h
theorem b6_max_0 {E : eT} {Q : Int32 → vT → Prop} {V : vT} {x1 x2 : Int32} (hT : TW E) (h : (x1 ≤ x2 → Q x2 V) ∧ (x2 < x1 → Q x1 V)) : w6_max E Q 0 [some (vi x1), some (vi x2)] [] V := by
  refine wp_iload_n dX6_max_0 rfl ?_
  refine wp_iload_n dX6_max_1 rfl ?_
  refine wp_icmp_le 9 dX6_max_2 (by decide) (fun hc => ?_) (fun hc => ?_)
  · replace h := h.1 hc
    refine wp_iload_n dX6_max_9 rfl ?_
    exact wp_iret dX6_max_10 rfl ⟨_, rfl, rfl, rfl, rfl, h⟩
  · replace h := h.2 (Int32.not_le.mp hc)
    refine wp_iload_n dX6_max_5 rfl ?_
    refine wp_goto 10 dX6_max_6 (by decide) ?_
    exact wp_iret dX6_max_10 rfl ⟨_, rfl, rfl, rfl, rfl, h⟩
theorem n6_max {E : eT} {Q : Int32 → vT → Prop} {V : vT} {x1 x2 : Int32} (h : w6_max E Q 0 [some (vi x1), some (vi x2)] [] V) : c6_max E x1 x2 V Q := MOk.enter [some (vi x1), some (vi x2)] pn_6 rfl rfl (Nat.le_of_ble_eq_true rfl) rfl h
theorem b6_insure_0 {E : eT} {Q : Int32 → vT → Prop} {V : vT} {x1 x2 x3 : Int32} (hT : TW E) (h : c6_in E x1 1 10 V (fun r4 V4 => (r4 = 0 → Q (-1) V4) ∧ (¬ r4 = 0 → c6_in E x2 0 2550 V4 (fun r15 V15 => (r15 = 0 → Q (-1) V15) ∧ (¬ r15 = 0 → c6_in E x3 0 2 V15 (fun r24 V24 => (r24 = 0 → Q (-1) V24) ∧ (¬ r24 = 0 → ((2 * x1) ≤ (V24 214 6) → w6_insure E Q 59 [some (vr 214), some (vi x1), some (vi x2), some (vi x3), some (vi 0), some (vi 0), some (vi 0), some (vi 1), none, none, none] [] (up2 V24 214 6 0)) ∧ ((V24 214 6) < (2 * x1) → Q (-1) V24)))))))) : w6_insure E Q 0 [some (vr 214), some (vi x1), some (vi x2), some (vi x3), none, none, none, none, none, none, none] [] V := by
  refine wp_iload_n dX6_insure_0 rfl ?_
  refine wp_iconst (v := 1) dX6_insure_1 rfl ?_
  refine wp_bipush (v := 10) dX6_insure_2 rfl ?_
  refine wq_SI3 lk6_102 dX6_insure_4 h (rmQ_ok (by decide) (by decide)) ⟨Nat.le_refl _, Nat.le_refl _⟩ (Nat.le_of_ble_eq_true rfl) (fun r4 V4 h => ?_)
  refine wp_if_eq 40 dX6_insure_7 (by decide) (fun hc => ?_) (fun hc => ?_)
  · replace h := h.1 hc
    refine wp_iconst (v := (-1)) dX6_insure_40 rfl ?_
    exact wp_iret dX6_insure_41 rfl ⟨_, rfl, rfl, rfl, rfl, h⟩
  · replace h := h.2 hc
    refine wp_iload_n dX6_insure_10 rfl ?_
    refine wp_iconst (v := 0) dX6_insure_11 rfl ?_
    refine wp_sipush (v := 2550) dX6_insure_12 rfl ?_
    refine wq_SI3 lk6_102 dX6_insure_15 h (rmQ_ok (by decide) (by decide)) ⟨Nat.le_refl _, Nat.le_refl _⟩ (Nat.le_of_ble_eq_true rfl) (fun r15 V15 h => ?_)
    refine wp_if_eq 40 dX6_insure_18 (by decide) (fun hc => ?_) (fun hc => ?_)
    · replace h := h.1 hc
      refine wp_iconst (v := (-1)) dX6_insure_40 rfl ?_
      exact wp_iret dX6_insure_41 rfl ⟨_, rfl, rfl, rfl, rfl, h⟩
    · replace h := h.2 hc
      refine wp_iload_n dX6_insure_21 rfl ?_
      refine wp_iconst (v := 0) dX6_insure_22 rfl ?_
      refine wp_iconst (v := 2) dX6_insure_23 rfl ?_
      refine wq_SI3 lk6_102 dX6_insure_24 h (rmQ_ok (by decide) (by decide)) ⟨Nat.le_refl _, Nat.le_refl _⟩ (Nat.le_of_ble_eq_true rfl) (fun r24 V24 h => ?_)
      refine wp_if_eq 40 dX6_insure_27 (by decide) (fun hc => ?_) (fun hc => ?_)
      · replace h := h.1 hc
        refine wp_iconst (v := (-1)) dX6_insure_40 rfl ?_
        exact wp_iret dX6_insure_41 rfl ⟨_, rfl, rfl, rfl, rfl, h⟩
      · replace h := h.2 hc
        refine wp_iconst (v := 2) dX6_insure_30 rfl ?_
        refine wp_iload_n dX6_insure_31 rfl ?_
        refine wp_imul dX6_insure_32 ?_
        refine wp_aload_n dX6_insure_33 rfl ?_
        refine wp_geti dX6_insure_34 fk6_117 (tb_214 hT) (tk_214 hT) rfl ?_
        refine wp_icmp_le 42 dX6_insure_37 (by decide) (fun hc => ?_) (fun hc => ?_)
        · replace h := h.1 hc
          refine wp_aload_n dX6_insure_42 rfl ?_
          refine wp_iconst (v := 0) dX6_insure_43 rfl ?_
          refine wp_puti dX6_insure_44 fp6_117 (tb_214 hT) (tk_214 hT) rfl ?_
          refine wp_iconst (v := 0) dX6_insure_47 rfl ?_
          refine wi11_4 dX6_insure_48 ?_
          refine wp_iconst (v := 0) dX6_insure_50 rfl ?_
          refine wi11_5 dX6_insure_51 ?_
          refine wp_iconst (v := 0) dX6_insure_53 rfl ?_
          refine wi11_6 dX6_insure_54 ?_
          refine wp_iconst (v := 1) dX6_insure_56 rfl ?_
          refine wi11_7 dX6_insure_57 ?_
          exact h
        · replace h := h.2 (Int32.not_le.mp hc)
          refine wp_iconst (v := (-1)) dX6_insure_40 rfl ?_
          exact wp_iret dX6_insure_41 rfl ⟨_, rfl, rfl, rfl, rfl, h⟩
theorem b6_insure_59 {E : eT} {Q : Int32 → vT → Prop} {V : vT} {x1 x2 x3 x4 x5 x6 x7 : Int32} (hT : TW E) (h : (((1 : Int32) <<< (x1 &&& 31)) ≤ x7 → (¬ x3 = 0 → (¬ x3 = 1 → Q x4 V) ∧ (x3 = 1 → Q x6 V)) ∧ (x3 = 0 → Q x5 V)) ∧ (x7 < ((1 : Int32) <<< (x1 &&& 31)) → w6_insure E Q 76 [some (vr 214), some (vi x1), some (vi x2), some (vi x3), some (vi x4), some (vi x5), some (vi x6), some (vi x7), some (vi 0), some (vi 0), some (vi 0)] [] V)) : w6_insure E Q 59 [some (vr 214), some (vi x1), some (vi x2), some (vi x3), some (vi x4), some (vi x5), some (vi x6), some (vi x7), none, none, none] [] V := by
  refine wp_iload dX6_insure_59 rfl ?_
  refine wp_iconst (v := 1) dX6_insure_61 rfl ?_
  refine wp_iload_n dX6_insure_62 rfl ?_
  refine wp_ishl dX6_insure_63 ?_
  refine wp_icmp_ge 177 dX6_insure_64 (by decide) (fun hc => ?_) (fun hc => ?_)
  · replace h := h.1 hc
    refine wp_iload_n dX6_insure_177 rfl ?_
    refine wp_if_ne 186 dX6_insure_178 (by decide) (fun hc => ?_) (fun hc => ?_)
    · replace h := h.1 hc
      refine wp_iload_n dX6_insure_186 rfl ?_
      refine wp_iconst (v := 1) dX6_insure_187 rfl ?_
      refine wp_icmp_ne 196 dX6_insure_188 (by decide) (fun hc => ?_) (fun hc => ?_)
      · replace h := h.1 hc
        refine wp_iload dX6_insure_196 rfl ?_
        exact wp_iret dX6_insure_198 rfl ⟨_, rfl, rfl, rfl, rfl, h⟩
      · replace h := h.2 hc
        refine wp_iload dX6_insure_191 rfl ?_
        refine wp_goto 198 dX6_insure_193 (by decide) ?_
        exact wp_iret dX6_insure_198 rfl ⟨_, rfl, rfl, rfl, rfl, h⟩
    · replace h := h.2 hc
      refine wp_iload dX6_insure_181 rfl ?_
      refine wp_goto 198 dX6_insure_183 (by decide) ?_
      exact wp_iret dX6_insure_198 rfl ⟨_, rfl, rfl, rfl, rfl, h⟩
  · replace h := h.2 (Int32.not_le.mp hc)
    refine wp_iconst (v := 0) dX6_insure_67 rfl ?_
    refine wi11_8 dX6_insure_68 ?_
    refine wp_iconst (v := 0) dX6_insure_70 rfl ?_
    refine wi11_9 dX6_insure_71 ?_
    refine wp_iconst (v := 0) dX6_insure_73 rfl ?_
    refine wi11_10 dX6_insure_74 ?_
    exact h
theorem b6_insure_76 {E : eT} {Q : Int32 → vT → Prop} {V : vT} {x1 x2 x3 x4 x5 x6 x7 x8 x9 x10 : Int32} (hT : TW E) (h : (x1 ≤ x10 → (x2 < x9 → w6_insure E Q 59 [some (vr 214), some (vi x1), some (vi x2), some (vi x3), some (vi x4), some (vi x5), some (vi x6), some (vi (x7 + 1)), none, none, none] [] V) ∧ (x9 ≤ x2 → (x8 < x5 → w6_insure E Q 59 [some (vr 214), some (vi x1), some (vi x2), some (vi x3), some (vi x4), some (vi x5), some (vi x6), some (vi (x7 + 1)), none, none, none] [] V) ∧ (x5 ≤ x8 → (¬ x8 = x5 → w6_insure E Q 59 [some (vr 214), some (vi x1), some (vi x2), some (vi x3), some (vi x7), some (vi x8), some (vi x9), some (vi (x7 + 1)), none, none, none] [] V) ∧ (x8 = x5 → (x9 < x6 → w6_insure E Q 59 [some (vr 214), some (vi x1), some (vi x2), some (vi x3), some (vi x7), some (vi x8), some (vi x9), some (vi (x7 + 1)), none, none, none] [] V) ∧ (x6 ≤ x9 → w6_insure E Q 59 [some (vr 214), some (vi x1), some (vi x2), some (vi x3), some (vi x4), some (vi x5), some (vi x6), some (vi (x7 + 1)), none, none, none] [] V))))) ∧ (x10 < x1 → c6_has E x7 x10 V (fun r86 V86 => (¬ r86 = 0 → c6_octet E (2 * x10) V86 (fun r102 V102 => c6_octet E ((2 * x10) + 1) V102 (fun r117 V117 => w6_insure E Q 76 [some (vr 214), some (vi x1), some (vi x2), some (vi x3), some (vi x4), some (vi x5), some (vi x6), some (vi x7), some (vi (x8 + r102)), some (vi (x9 + r117)), some (vi (x10 + 1))] [] V117))) ∧ (r86 = 0 → w6_insure E Q 76 [some (vr 214), some (vi x1), some (vi x2), some (vi x3), some (vi x4), some (vi x5), some (vi x6), some (vi x7), some (vi x8), some (vi x9), some (vi (x10 + 1))] [] V86)))) : w6_insure E Q 76 [some (vr 214), some (vi x1), some (vi x2), some (vi x3), some (vi x4), some (vi x5), some (vi x6), some (vi x7), some (vi x8), some (vi x9), some (vi x10)] [] V := by
  refine wp_iload dX6_insure_76 rfl ?_
  refine wp_iload_n dX6_insure_78 rfl ?_
  refine wp_icmp_ge 129 dX6_insure_79 (by decide) (fun hc => ?_) (fun hc => ?_)
  · replace h := h.1 hc
    refine wp_iload dX6_insure_129 rfl ?_
    refine wp_iload_n dX6_insure_131 rfl ?_
    refine wp_icmp_gt 171 dX6_insure_132 (by decide) (fun hc => ?_) (fun hc => ?_)
    · replace h := h.1 hc
      refine wc11_7 1 dX6_insure_171 rfl ?_
      refine wp_goto 59 dX6_insure_174 (by decide) ?_
      exact wp_drop [some (vr 214), some (vi x1), some (vi x2), some (vi x3), some (vi x4), some (vi x5), some (vi x6), some (vi (x7 + 1)), none, none, none] ⟨rfl, ⟨rfl, ⟨rfl, ⟨rfl, ⟨rfl, ⟨rfl, ⟨rfl, ⟨rfl, trivial⟩⟩⟩⟩⟩⟩⟩⟩ h
    · replace h := h.2 (Int32.not_lt.mp hc)
      refine wp_iload dX6_insure_135 rfl ?_
      refine wp_iload dX6_insure_137 rfl ?_
      refine wp_icmp_lt 171 dX6_insure_139 (by decide) (fun hc => ?_) (fun hc => ?_)
      · replace h := h.1 hc
        refine wc11_7 1 dX6_insure_171 rfl ?_
        refine wp_goto 59 dX6_insure_174 (by decide) ?_
        exact wp_drop [some (vr 214), some (vi x1), some (vi x2), some (vi x3), some (vi x4), some (vi x5), some (vi x6), some (vi (x7 + 1)), none, none, none] ⟨rfl, ⟨rfl, ⟨rfl, ⟨rfl, ⟨rfl, ⟨rfl, ⟨rfl, ⟨rfl, trivial⟩⟩⟩⟩⟩⟩⟩⟩ h
      · replace h := h.2 (Int32.not_lt.mp hc)
        refine wp_iload dX6_insure_142 rfl ?_
        refine wp_iload dX6_insure_144 rfl ?_
        refine wp_icmp_ne 159 dX6_insure_146 (by decide) (fun hc => ?_) (fun hc => ?_)
        · replace h := h.1 hc
          refine wp_iload dX6_insure_159 rfl ?_
          refine wi11_4 dX6_insure_161 ?_
          refine wp_iload dX6_insure_163 rfl ?_
          refine wi11_5 dX6_insure_165 ?_
          refine wp_iload dX6_insure_167 rfl ?_
          refine wi11_6 dX6_insure_169 ?_
          refine wc11_7 1 dX6_insure_171 rfl ?_
          refine wp_goto 59 dX6_insure_174 (by decide) ?_
          exact wp_drop [some (vr 214), some (vi x1), some (vi x2), some (vi x3), some (vi x7), some (vi x8), some (vi x9), some (vi (x7 + 1)), none, none, none] ⟨rfl, ⟨rfl, ⟨rfl, ⟨rfl, ⟨rfl, ⟨rfl, ⟨rfl, ⟨rfl, trivial⟩⟩⟩⟩⟩⟩⟩⟩ h
        · replace h := h.2 hc
          refine wp_iload dX6_insure_149 rfl ?_
          refine wp_iload dX6_insure_151 rfl ?_
          refine wp_icmp_lt 159 dX6_insure_153 (by decide) (fun hc => ?_) (fun hc => ?_)
          · replace h := h.1 hc
            refine wp_iload dX6_insure_159 rfl ?_
            refine wi11_4 dX6_insure_161 ?_
            refine wp_iload dX6_insure_163 rfl ?_
            refine wi11_5 dX6_insure_165 ?_
            refine wp_iload dX6_insure_167 rfl ?_
            refine wi11_6 dX6_insure_169 ?_
            refine wc11_7 1 dX6_insure_171 rfl ?_
            refine wp_goto 59 dX6_insure_174 (by decide) ?_
            exact wp_drop [some (vr 214), some (vi x1), some (vi x2), some (vi x3), some (vi x7), some (vi x8), some (vi x9), some (vi (x7 + 1)), none, none, none] ⟨rfl, ⟨rfl, ⟨rfl, ⟨rfl, ⟨rfl, ⟨rfl, ⟨rfl, ⟨rfl, trivial⟩⟩⟩⟩⟩⟩⟩⟩ h
          · replace h := h.2 (Int32.not_lt.mp hc)
            refine wp_goto 171 dX6_insure_156 (by decide) ?_
            refine wc11_7 1 dX6_insure_171 rfl ?_
            refine wp_goto 59 dX6_insure_174 (by decide) ?_
            exact wp_drop [some (vr 214), some (vi x1), some (vi x2), some (vi x3), some (vi x4), some (vi x5), some (vi x6), some (vi (x7 + 1)), none, none, none] ⟨rfl, ⟨rfl, ⟨rfl, ⟨rfl, ⟨rfl, ⟨rfl, ⟨rfl, ⟨rfl, trivial⟩⟩⟩⟩⟩⟩⟩⟩ h
  · replace h := h.2 (Int32.not_le.mp hc)
    refine wp_iload dX6_insure_82 rfl ?_
    refine wp_iload dX6_insure_84 rfl ?_
    refine wq_SI2 lk6_376 dX6_insure_86 h (rmQ_ok (by decide) (by decide)) ⟨Nat.le_refl _, Nat.le_refl _⟩ (Nat.le_of_ble_eq_true rfl) (fun r86 V86 h => ?_)
    refine wp_if_ne 95 dX6_insure_89 (by decide) (fun hc => ?_) (fun hc => ?_)
    · replace h := h.1 hc
      refine wp_iload dX6_insure_95 rfl ?_
      refine wp_aload_n dX6_insure_97 rfl ?_
      refine wp_iconst (v := 2) dX6_insure_98 rfl ?_
      refine wp_iload dX6_insure_99 rfl ?_
      refine wp_imul dX6_insure_101 ?_
      refine wq_VI1 lk6_379 rfl (tb_214 hT) (tk_214 hT) dX6_insure_102 h (rmQ_ok (by decide) (by decide)) ⟨Nat.le_refl _, Nat.le_refl _⟩ (Nat.le_of_ble_eq_true rfl) (fun r102 V102 h => ?_)
      refine wp_iadd dX6_insure_105 ?_
      refine wi11_8 dX6_insure_106 ?_
      refine wp_iload dX6_insure_108 rfl ?_
      refine wp_aload_n dX6_insure_110 rfl ?_
      refine wp_iconst (v := 2) dX6_insure_111 rfl ?_
      refine wp_iload dX6_insure_112 rfl ?_
      refine wp_imul dX6_insure_114 ?_
      refine wp_iconst (v := 1) dX6_insure_115 rfl ?_
      refine wp_iadd dX6_insure_116 ?_
      refine wq_VI1 lk6_379 rfl (tb_214 hT) (tk_214 hT) dX6_insure_117 h (rmQ_ok (by decide) (by decide)) ⟨Nat.le_refl _, Nat.le_refl _⟩ (Nat.le_of_ble_eq_true rfl) (fun r117 V117 h => ?_)
      refine wp_iadd dX6_insure_120 ?_
      refine wi11_9 dX6_insure_121 ?_
      refine wc11_10 1 dX6_insure_123 rfl ?_
      refine wp_goto 76 dX6_insure_126 (by decide) ?_
      exact h
    · replace h := h.2 hc
      refine wp_goto 123 dX6_insure_92 (by decide) ?_
      refine wc11_10 1 dX6_insure_123 rfl ?_
      refine wp_goto 76 dX6_insure_126 (by decide) ?_
      exact h
theorem n6_insure {E : eT} {Q : Int32 → vT → Prop} {V : vT} {x1 x2 x3 : Int32} (h : w6_insure E Q 0 [some (vr 214), some (vi x1), some (vi x2), some (vi x3), none, none, none, none, none, none, none] [] V) : c6_insure E x1 x2 x3 V Q := MOk.enter [some (vr 214), some (vi x1), some (vi x2), some (vi x3), none, none, none, none, none, none, none] pn_6 rfl rfl (Nat.le_of_ble_eq_true rfl) rfl h
theorem b6_has_0 {E : eT} {Q : Int32 → vT → Prop} {V : vT} {x1 x2 : Int32} (hT : TW E) (h : (¬ ((x1 >>> (x2 &&& 31)) &&& 1) = 1 → Q 0 V) ∧ (((x1 >>> (x2 &&& 31)) &&& 1) = 1 → Q 1 V)) : w6_has E Q 0 [some (vi x1), some (vi x2)] [] V := by
  refine wp_iload_n dX6_has_0 rfl ?_
  refine wp_iload_n dX6_has_1 rfl ?_
  refine wp_ishr dX6_has_2 ?_
  refine wp_iconst (v := 1) dX6_has_3 rfl ?_
  refine wp_iand dX6_has_4 ?_
  refine wp_iconst (v := 1) dX6_has_5 rfl ?_
  refine wp_icmp_ne 13 dX6_has_6 (by decide) (fun hc => ?_) (fun hc => ?_)
  · replace h := h.1 hc
    refine wp_iconst (v := 0) dX6_has_13 rfl ?_
    exact wp_iret dX6_has_14 rfl ⟨_, rfl, rfl, rfl, rfl, h⟩
  · replace h := h.2 hc
    refine wp_iconst (v := 1) dX6_has_9 rfl ?_
    refine wp_goto 14 dX6_has_10 (by decide) ?_
    exact wp_iret dX6_has_14 rfl ⟨_, rfl, rfl, rfl, rfl, h⟩
theorem n6_has {E : eT} {Q : Int32 → vT → Prop} {V : vT} {x1 x2 : Int32} (h : w6_has E Q 0 [some (vi x1), some (vi x2)] [] V) : c6_has E x1 x2 V Q := MOk.enter [some (vi x1), some (vi x2)] pn_6 rfl rfl (Nat.le_of_ble_eq_true rfl) rfl h
theorem b6_octet_0 {E : eT} {Q : Int32 → vT → Prop} {V : vT} {x1 : Int32} (hT : TW E) (h : vp_in x1 260 ∧ (Q ((V 220 ((x1).toNatClampNeg)) &&& 255) V)) : w6_octet E Q 0 [some (vr 214), some (vi x1)] [] V := by
  refine wp_aload_n dX6_octet_0 rfl ?_
  refine wp_getrs dX6_octet_1 fk6_25 (tb_214 hT) (tk_214 hT) rfl (tr_5 hT) ?_
  refine wp_iload_n dX6_octet_4 rfl ?_
  refine wp_bald dX6_octet_5 (tb_220 hT).2 (tk_220 hT) h.1 ?_
  replace h := h.2
  refine wp_sipush (v := 255) dX6_octet_6 rfl ?_
  refine wp_iand dX6_octet_9 ?_
  exact wp_iret dX6_octet_10 rfl ⟨_, rfl, rfl, rfl, rfl, h⟩
theorem n6_octet {E : eT} {Q : Int32 → vT → Prop} {V : vT} {x1 : Int32} (h : w6_octet E Q 0 [some (vr 214), some (vi x1)] [] V) : c6_octet E x1 V Q := MOk.enter [some (vr 214), some (vi x1)] pn_6 rfl rfl (Nat.le_of_ble_eq_true rfl) rfl h
theorem b6_roundFigure_0 {E : eT} {Q : Int32 → vT → Prop} {V : vT} {x1 : Int32} (hT : TW E) (h : c6_in E x1 1 999999 V (fun r5 V5 => (¬ r5 = 0 → w6_roundFigure E Q 17 [none, some (vi x1), some (vi 1), some (vi 1)] [] V5) ∧ (r5 = 0 → Q (-1) V5))) : w6_roundFigure E Q 0 [some (vr 214), some (vi x1), none, none] [] V := by
  refine wp_iload_n dX6_roundFigure_0 rfl ?_
  refine wp_iconst (v := 1) dX6_roundFigure_1 rfl ?_
  refine wp_ldcw (v := 999999) dX6_roundFigure_2 q1677 ?_
  refine wq_SI3 lk6_102 dX6_roundFigure_5 h (rmQ_ok (by decide) (by decide)) ⟨Nat.le_refl _, Nat.le_refl _⟩ (Nat.le_of_ble_eq_true rfl) (fun r5 V5 h => ?_)
  refine wp_if_ne 13 dX6_roundFigure_8 (by decide) (fun hc => ?_) (fun hc => ?_)
  · replace h := h.1 hc
    refine wp_iconst (v := 1) dX6_roundFigure_13 rfl ?_
    refine wi4_2 dX6_roundFigure_14 ?_
    refine wp_iconst (v := 1) dX6_roundFigure_15 rfl ?_
    refine wi4_3 dX6_roundFigure_16 ?_
    exact wp_drop [none, some (vi x1), some (vi 1), some (vi 1)] ⟨rfl, ⟨rfl, ⟨rfl, trivial⟩⟩⟩ h
  · replace h := h.2 hc
    refine wp_iconst (v := (-1)) dX6_roundFigure_11 rfl ?_
    exact wp_iret dX6_roundFigure_12 rfl ⟨_, rfl, rfl, rfl, rfl, h⟩
theorem b6_roundFigure_17 {E : eT} {Q : Int32 → vT → Prop} {V : vT} {x1 x2 x3 : Int32} (hT : TW E) (h : (1000000 < x3 → Q x2 V) ∧ (x3 ≤ 1000000 → c6_size E (x3 - x1) V (fun r27 V27 => c6_size E (x2 - x1) V27 (fun r33 V33 => (r33 ≤ r27 → c6_size E ((2 * x3) - x1) V33 (fun r46 V46 => c6_size E (x2 - x1) V46 (fun r52 V52 => (r52 ≤ r46 → c6_size E ((5 * x3) - x1) V52 (fun r67 V67 => c6_size E (x2 - x1) V67 (fun r73 V73 => (r73 ≤ r67 → w6_roundFigure E Q 17 [none, some (vi x1), some (vi x2), some (vi (x3 * 10))] [] V73) ∧ (r67 < r73 → w6_roundFigure E Q 17 [none, some (vi x1), some (vi (5 * x3)), some (vi (x3 * 10))] [] V73)))) ∧ (r46 < r52 → c6_size E ((5 * x3) - x1) V52 (fun r67' V67' => c6_size E ((2 * x3) - x1) V67' (fun r73' V73' => (r73' ≤ r67' → w6_roundFigure E Q 17 [none, some (vi x1), some (vi (2 * x3)), some (vi (x3 * 10))] [] V73') ∧ (r67' < r73' → w6_roundFigure E Q 17 [none, some (vi x1), some (vi (5 * x3)), some (vi (x3 * 10))] [] V73'))))))) ∧ (r27 < r33 → c6_size E ((2 * x3) - x1) V33 (fun r46' V46' => c6_size E (x3 - x1) V46' (fun r52' V52' => (r52' ≤ r46' → c6_size E ((5 * x3) - x1) V52' (fun r67'' V67'' => c6_size E (x3 - x1) V67'' (fun r73'' V73'' => (r73'' ≤ r67'' → w6_roundFigure E Q 17 [none, some (vi x1), some (vi x3), some (vi (x3 * 10))] [] V73'') ∧ (r67'' < r73'' → w6_roundFigure E Q 17 [none, some (vi x1), some (vi (5 * x3)), some (vi (x3 * 10))] [] V73'')))) ∧ (r46' < r52' → c6_size E ((5 * x3) - x1) V52' (fun r67''' V67''' => c6_size E ((2 * x3) - x1) V67''' (fun r73''' V73''' => (r73''' ≤ r67''' → w6_roundFigure E Q 17 [none, some (vi x1), some (vi (2 * x3)), some (vi (x3 * 10))] [] V73''') ∧ (r67''' < r73''' → w6_roundFigure E Q 17 [none, some (vi x1), some (vi (5 * x3)), some (vi (x3 * 10))] [] V73'''))))))))))) : w6_roundFigure E Q 17 [none, some (vi x1), some (vi x2), some (vi x3)] [] V := by
  refine wp_iload_n dX6_roundFigure_17 rfl ?_
  refine wp_ldcw (v := 1000000) dX6_roundFigure_18 q1678 ?_
  refine wp_icmp_gt 91 dX6_roundFigure_21 (by decide) (fun hc => ?_) (fun hc => ?_)
  · replace h := h.1 hc
    refine wp_iload_n dX6_roundFigure_91 rfl ?_
    exact wp_iret dX6_roundFigure_92 rfl ⟨_, rfl, rfl, rfl, rfl, h⟩
  · replace h := h.2 (Int32.not_lt.mp hc)
    refine wp_iload_n dX6_roundFigure_24 rfl ?_
    refine wp_iload_n dX6_roundFigure_25 rfl ?_
    refine wp_isub dX6_roundFigure_26 ?_
    refine wq_SI1 lk6_384 dX6_roundFigure_27 h (rmQ_ok (by decide) (by decide)) ⟨Nat.le_refl _, Nat.le_refl _⟩ (Nat.le_of_ble_eq_true rfl) (fun r27 V27 h => ?_)
    refine wp_iload_n dX6_roundFigure_30 rfl ?_
    refine wp_iload_n dX6_roundFigure_31 rfl ?_
    refine wp_isub dX6_roundFigure_32 ?_
    refine wq_SI1 lk6_384 dX6_roundFigure_33 h (rmQ_ok (by decide) (by decide)) ⟨Nat.le_refl _, Nat.le_refl _⟩ (Nat.le_of_ble_eq_true rfl) (fun r33 V33 h => ?_)
    refine wp_icmp_ge 41 dX6_roundFigure_36 (by decide) (fun hc => ?_) (fun hc => ?_)
    · replace h := h.1 hc
      refine wp_iconst (v := 2) dX6_roundFigure_41 rfl ?_
      refine wp_iload_n dX6_roundFigure_42 rfl ?_
      refine wp_imul dX6_roundFigure_43 ?_
      refine wp_iload_n dX6_roundFigure_44 rfl ?_
      refine wp_isub dX6_roundFigure_45 ?_
      refine wq_SI1 lk6_384 dX6_roundFigure_46 h (rmQ_ok (by decide) (by decide)) ⟨Nat.le_refl _, Nat.le_refl _⟩ (Nat.le_of_ble_eq_true rfl) (fun r46 V46 h => ?_)
      refine wp_iload_n dX6_roundFigure_49 rfl ?_
      refine wp_iload_n dX6_roundFigure_50 rfl ?_
      refine wp_isub dX6_roundFigure_51 ?_
      refine wq_SI1 lk6_384 dX6_roundFigure_52 h (rmQ_ok (by decide) (by decide)) ⟨Nat.le_refl _, Nat.le_refl _⟩ (Nat.le_of_ble_eq_true rfl) (fun r52 V52 h => ?_)
      refine wp_icmp_ge 62 dX6_roundFigure_55 (by decide) (fun hc => ?_) (fun hc => ?_)
      · replace h := h.1 hc
        refine wp_iconst (v := 5) dX6_roundFigure_62 rfl ?_
        refine wp_iload_n dX6_roundFigure_63 rfl ?_
        refine wp_imul dX6_roundFigure_64 ?_
        refine wp_iload_n dX6_roundFigure_65 rfl ?_
        refine wp_isub dX6_roundFigure_66 ?_
        refine wq_SI1 lk6_384 dX6_roundFigure_67 h (rmQ_ok (by decide) (by decide)) ⟨Nat.le_refl _, Nat.le_refl _⟩ (Nat.le_of_ble_eq_true rfl) (fun r67 V67 h => ?_)
        refine wp_iload_n dX6_roundFigure_70 rfl ?_
        refine wp_iload_n dX6_roundFigure_71 rfl ?_
        refine wp_isub dX6_roundFigure_72 ?_
        refine wq_SI1 lk6_384 dX6_roundFigure_73 h (rmQ_ok (by decide) (by decide)) ⟨Nat.le_refl _, Nat.le_refl _⟩ (Nat.le_of_ble_eq_true rfl) (fun r73 V73 h => ?_)
        refine wp_icmp_ge 83 dX6_roundFigure_76 (by decide) (fun hc => ?_) (fun hc => ?_)
        · replace h := h.1 hc
          refine wp_iload_n dX6_roundFigure_83 rfl ?_
          refine wp_bipush (v := 10) dX6_roundFigure_84 rfl ?_
          refine wp_imul dX6_roundFigure_86 ?_
          refine wi4_3 dX6_roundFigure_87 ?_
          refine wp_goto 17 dX6_roundFigure_88 (by decide) ?_
          exact h
        · replace h := h.2 (Int32.not_le.mp hc)
          refine wp_iconst (v := 5) dX6_roundFigure_79 rfl ?_
          refine wp_iload_n dX6_roundFigure_80 rfl ?_
          refine wp_imul dX6_roundFigure_81 ?_
          refine wi4_2 dX6_roundFigure_82 ?_
          refine wp_iload_n dX6_roundFigure_83 rfl ?_
          refine wp_bipush (v := 10) dX6_roundFigure_84 rfl ?_
          refine wp_imul dX6_roundFigure_86 ?_
          refine wi4_3 dX6_roundFigure_87 ?_
          refine wp_goto 17 dX6_roundFigure_88 (by decide) ?_
          exact h
      · replace h := h.2 (Int32.not_le.mp hc)
        refine wp_iconst (v := 2) dX6_roundFigure_58 rfl ?_
        refine wp_iload_n dX6_roundFigure_59 rfl ?_
        refine wp_imul dX6_roundFigure_60 ?_
        refine wi4_2 dX6_roundFigure_61 ?_
        refine wp_iconst (v := 5) dX6_roundFigure_62 rfl ?_
        refine wp_iload_n dX6_roundFigure_63 rfl ?_
        refine wp_imul dX6_roundFigure_64 ?_
        refine wp_iload_n dX6_roundFigure_65 rfl ?_
        refine wp_isub dX6_roundFigure_66 ?_
        refine wq_SI1 lk6_384 dX6_roundFigure_67 h (rmQ_ok (by decide) (by decide)) ⟨Nat.le_refl _, Nat.le_refl _⟩ (Nat.le_of_ble_eq_true rfl) (fun r67' V67' h => ?_)
        refine wp_iload_n dX6_roundFigure_70 rfl ?_
        refine wp_iload_n dX6_roundFigure_71 rfl ?_
        refine wp_isub dX6_roundFigure_72 ?_
        refine wq_SI1 lk6_384 dX6_roundFigure_73 h (rmQ_ok (by decide) (by decide)) ⟨Nat.le_refl _, Nat.le_refl _⟩ (Nat.le_of_ble_eq_true rfl) (fun r73' V73' h => ?_)
        refine wp_icmp_ge 83 dX6_roundFigure_76 (by decide) (fun hc => ?_) (fun hc => ?_)
        · replace h := h.1 hc
          refine wp_iload_n dX6_roundFigure_83 rfl ?_
          refine wp_bipush (v := 10) dX6_roundFigure_84 rfl ?_
          refine wp_imul dX6_roundFigure_86 ?_
          refine wi4_3 dX6_roundFigure_87 ?_
          refine wp_goto 17 dX6_roundFigure_88 (by decide) ?_
          exact h
        · replace h := h.2 (Int32.not_le.mp hc)
          refine wp_iconst (v := 5) dX6_roundFigure_79 rfl ?_
          refine wp_iload_n dX6_roundFigure_80 rfl ?_
          refine wp_imul dX6_roundFigure_81 ?_
          refine wi4_2 dX6_roundFigure_82 ?_
          refine wp_iload_n dX6_roundFigure_83 rfl ?_
          refine wp_bipush (v := 10) dX6_roundFigure_84 rfl ?_
          refine wp_imul dX6_roundFigure_86 ?_
          refine wi4_3 dX6_roundFigure_87 ?_
          refine wp_goto 17 dX6_roundFigure_88 (by decide) ?_
          exact h
    · replace h := h.2 (Int32.not_le.mp hc)
      refine wp_iload_n dX6_roundFigure_39 rfl ?_
      refine wi4_2 dX6_roundFigure_40 ?_
      refine wp_iconst (v := 2) dX6_roundFigure_41 rfl ?_
      refine wp_iload_n dX6_roundFigure_42 rfl ?_
      refine wp_imul dX6_roundFigure_43 ?_
      refine wp_iload_n dX6_roundFigure_44 rfl ?_
      refine wp_isub dX6_roundFigure_45 ?_
      refine wq_SI1 lk6_384 dX6_roundFigure_46 h (rmQ_ok (by decide) (by decide)) ⟨Nat.le_refl _, Nat.le_refl _⟩ (Nat.le_of_ble_eq_true rfl) (fun r46' V46' h => ?_)
      refine wp_iload_n dX6_roundFigure_49 rfl ?_
      refine wp_iload_n dX6_roundFigure_50 rfl ?_
      refine wp_isub dX6_roundFigure_51 ?_
      refine wq_SI1 lk6_384 dX6_roundFigure_52 h (rmQ_ok (by decide) (by decide)) ⟨Nat.le_refl _, Nat.le_refl _⟩ (Nat.le_of_ble_eq_true rfl) (fun r52' V52' h => ?_)
      refine wp_icmp_ge 62 dX6_roundFigure_55 (by decide) (fun hc => ?_) (fun hc => ?_)
      · replace h := h.1 hc
        refine wp_iconst (v := 5) dX6_roundFigure_62 rfl ?_
        refine wp_iload_n dX6_roundFigure_63 rfl ?_
        refine wp_imul dX6_roundFigure_64 ?_
        refine wp_iload_n dX6_roundFigure_65 rfl ?_
        refine wp_isub dX6_roundFigure_66 ?_
        refine wq_SI1 lk6_384 dX6_roundFigure_67 h (rmQ_ok (by decide) (by decide)) ⟨Nat.le_refl _, Nat.le_refl _⟩ (Nat.le_of_ble_eq_true rfl) (fun r67'' V67'' h => ?_)
        refine wp_iload_n dX6_roundFigure_70 rfl ?_
        refine wp_iload_n dX6_roundFigure_71 rfl ?_
        refine wp_isub dX6_roundFigure_72 ?_
        refine wq_SI1 lk6_384 dX6_roundFigure_73 h (rmQ_ok (by decide) (by decide)) ⟨Nat.le_refl _, Nat.le_refl _⟩ (Nat.le_of_ble_eq_true rfl) (fun r73'' V73'' h => ?_)
        refine wp_icmp_ge 83 dX6_roundFigure_76 (by decide) (fun hc => ?_) (fun hc => ?_)
        · replace h := h.1 hc
          refine wp_iload_n dX6_roundFigure_83 rfl ?_
          refine wp_bipush (v := 10) dX6_roundFigure_84 rfl ?_
          refine wp_imul dX6_roundFigure_86 ?_
          refine wi4_3 dX6_roundFigure_87 ?_
          refine wp_goto 17 dX6_roundFigure_88 (by decide) ?_
          exact h
        · replace h := h.2 (Int32.not_le.mp hc)
          refine wp_iconst (v := 5) dX6_roundFigure_79 rfl ?_
          refine wp_iload_n dX6_roundFigure_80 rfl ?_
          refine wp_imul dX6_roundFigure_81 ?_
          refine wi4_2 dX6_roundFigure_82 ?_
          refine wp_iload_n dX6_roundFigure_83 rfl ?_
          refine wp_bipush (v := 10) dX6_roundFigure_84 rfl ?_
          refine wp_imul dX6_roundFigure_86 ?_
          refine wi4_3 dX6_roundFigure_87 ?_
          refine wp_goto 17 dX6_roundFigure_88 (by decide) ?_
          exact h
      · replace h := h.2 (Int32.not_le.mp hc)
        refine wp_iconst (v := 2) dX6_roundFigure_58 rfl ?_
        refine wp_iload_n dX6_roundFigure_59 rfl ?_
        refine wp_imul dX6_roundFigure_60 ?_
        refine wi4_2 dX6_roundFigure_61 ?_
        refine wp_iconst (v := 5) dX6_roundFigure_62 rfl ?_
        refine wp_iload_n dX6_roundFigure_63 rfl ?_
        refine wp_imul dX6_roundFigure_64 ?_
        refine wp_iload_n dX6_roundFigure_65 rfl ?_
        refine wp_isub dX6_roundFigure_66 ?_
        refine wq_SI1 lk6_384 dX6_roundFigure_67 h (rmQ_ok (by decide) (by decide)) ⟨Nat.le_refl _, Nat.le_refl _⟩ (Nat.le_of_ble_eq_true rfl) (fun r67''' V67''' h => ?_)
        refine wp_iload_n dX6_roundFigure_70 rfl ?_
        refine wp_iload_n dX6_roundFigure_71 rfl ?_
        refine wp_isub dX6_roundFigure_72 ?_
        refine wq_SI1 lk6_384 dX6_roundFigure_73 h (rmQ_ok (by decide) (by decide)) ⟨Nat.le_refl _, Nat.le_refl _⟩ (Nat.le_of_ble_eq_true rfl) (fun r73''' V73''' h => ?_)
        refine wp_icmp_ge 83 dX6_roundFigure_76 (by decide) (fun hc => ?_) (fun hc => ?_)
        · replace h := h.1 hc
          refine wp_iload_n dX6_roundFigure_83 rfl ?_
          refine wp_bipush (v := 10) dX6_roundFigure_84 rfl ?_
          refine wp_imul dX6_roundFigure_86 ?_
          refine wi4_3 dX6_roundFigure_87 ?_
          refine wp_goto 17 dX6_roundFigure_88 (by decide) ?_
          exact h
        · replace h := h.2 (Int32.not_le.mp hc)
          refine wp_iconst (v := 5) dX6_roundFigure_79 rfl ?_
          refine wp_iload_n dX6_roundFigure_80 rfl ?_
          refine wp_imul dX6_roundFigure_81 ?_
          refine wi4_2 dX6_roundFigure_82 ?_
          refine wp_iload_n dX6_roundFigure_83 rfl ?_
          refine wp_bipush (v := 10) dX6_roundFigure_84 rfl ?_
          refine wp_imul dX6_roundFigure_86 ?_
          refine wi4_3 dX6_roundFigure_87 ?_
          refine wp_goto 17 dX6_roundFigure_88 (by decide) ?_
          exact h
theorem n6_roundFigure {E : eT} {Q : Int32 → vT → Prop} {V : vT} {x1 : Int32} (h : w6_roundFigure E Q 0 [some (vr 214), some (vi x1), none, none] [] V) : c6_roundFigure E x1 V Q := MOk.enter [some (vr 214), some (vi x1), none, none] pn_6 rfl rfl (Nat.le_of_ble_eq_true rfl) rfl h
theorem b6_size_0 {E : eT} {Q : Int32 → vT → Prop} {V : vT} {x1 : Int32} (hT : TW E) (h : (0 ≤ x1 → Q x1 V) ∧ (x1 < 0 → Q (-x1) V)) : w6_size E Q 0 [some (vi x1)] [] V := by
  refine wp_iload_n dX6_size_0 rfl ?_
  refine wp_if_ge 9 dX6_size_1 (by decide) (fun hc => ?_) (fun hc => ?_)
  · replace h := h.1 hc
    refine wp_iload_n dX6_size_9 rfl ?_
    exact wp_iret dX6_size_10 rfl ⟨_, rfl, rfl, rfl, rfl, h⟩
  · replace h := h.2 (Int32.not_le.mp hc)
    refine wp_iload_n dX6_size_4 rfl ?_
    refine wp_ineg dX6_size_5 ?_
    refine wp_goto 10 dX6_size_6 (by decide) ?_
    exact wp_iret dX6_size_10 rfl ⟨_, rfl, rfl, rfl, rfl, h⟩
theorem n6_size {E : eT} {Q : Int32 → vT → Prop} {V : vT} {x1 : Int32} (h : w6_size E Q 0 [some (vi x1)] [] V) : c6_size E x1 V Q := MOk.enter [some (vi x1)] pn_6 rfl rfl (Nat.le_of_ble_eq_true rfl) rfl h
theorem b6_ruin_0 {E : eT} {Q : Int32 → vT → Prop} {V : vT} {x1 x2 x3 : Int32} (hT : TW E) (h : c6_in E x1 2 6 V (fun r4 V4 => (r4 = 0 → Q (-1) V4) ∧ (¬ r4 = 0 → c6_in E x2 0 (x1 - 1) V4 (fun r15 V15 => (r15 = 0 → Q (-1) V15) ∧ (¬ r15 = 0 → c6_in E x3 0 1 V15 (fun r24 V24 => (r24 = 0 → Q (-1) V24) ∧ (¬ r24 = 0 → ((x1 * x1) ≤ (V24 214 6) → w6_ruin E Q 55 [some (vr 214), some (vi x1), none, some (vi x3), some (vi 0), some (vi ((1 : Int32) <<< (x2 &&& 31))), none] [] (up2 V24 214 6 0)) ∧ ((V24 214 6) < (x1 * x1) → Q (-1) V24)))))))) : w6_ruin E Q 0 [some (vr 214), some (vi x1), some (vi x2), some (vi x3), none, none, none] [] V := by
  refine wp_iload_n dX6_ruin_0 rfl ?_
  refine wp_iconst (v := 2) dX6_ruin_1 rfl ?_
  refine wp_bipush (v := 6) dX6_ruin_2 rfl ?_
  refine wq_SI3 lk6_102 dX6_ruin_4 h (rmQ_ok (by decide) (by decide)) ⟨Nat.le_refl _, Nat.le_refl _⟩ (Nat.le_of_ble_eq_true rfl) (fun r4 V4 h => ?_)
  refine wp_if_eq 40 dX6_ruin_7 (by decide) (fun hc => ?_) (fun hc => ?_)
  · replace h := h.1 hc
    refine wp_iconst (v := (-1)) dX6_ruin_40 rfl ?_
    exact wp_iret dX6_ruin_41 rfl ⟨_, rfl, rfl, rfl, rfl, h⟩
  · replace h := h.2 hc
    refine wp_iload_n dX6_ruin_10 rfl ?_
    refine wp_iconst (v := 0) dX6_ruin_11 rfl ?_
    refine wp_iload_n dX6_ruin_12 rfl ?_
    refine wp_iconst (v := 1) dX6_ruin_13 rfl ?_
    refine wp_isub dX6_ruin_14 ?_
    refine wq_SI3 lk6_102 dX6_ruin_15 h (rmQ_ok (by decide) (by decide)) ⟨Nat.le_refl _, Nat.le_refl _⟩ (Nat.le_of_ble_eq_true rfl) (fun r15 V15 h => ?_)
    refine wp_if_eq 40 dX6_ruin_18 (by decide) (fun hc => ?_) (fun hc => ?_)
    · replace h := h.1 hc
      refine wp_iconst (v := (-1)) dX6_ruin_40 rfl ?_
      exact wp_iret dX6_ruin_41 rfl ⟨_, rfl, rfl, rfl, rfl, h⟩
    · replace h := h.2 hc
      refine wp_iload_n dX6_ruin_21 rfl ?_
      refine wp_iconst (v := 0) dX6_ruin_22 rfl ?_
      refine wp_iconst (v := 1) dX6_ruin_23 rfl ?_
      refine wq_SI3 lk6_102 dX6_ruin_24 h (rmQ_ok (by decide) (by decide)) ⟨Nat.le_refl _, Nat.le_refl _⟩ (Nat.le_of_ble_eq_true rfl) (fun r24 V24 h => ?_)
      refine wp_if_eq 40 dX6_ruin_27 (by decide) (fun hc => ?_) (fun hc => ?_)
      · replace h := h.1 hc
        refine wp_iconst (v := (-1)) dX6_ruin_40 rfl ?_
        exact wp_iret dX6_ruin_41 rfl ⟨_, rfl, rfl, rfl, rfl, h⟩
      · replace h := h.2 hc
        refine wp_iload_n dX6_ruin_30 rfl ?_
        refine wp_iload_n dX6_ruin_31 rfl ?_
        refine wp_imul dX6_ruin_32 ?_
        refine wp_aload_n dX6_ruin_33 rfl ?_
        refine wp_geti dX6_ruin_34 fk6_117 (tb_214 hT) (tk_214 hT) rfl ?_
        refine wp_icmp_le 42 dX6_ruin_37 (by decide) (fun hc => ?_) (fun hc => ?_)
        · replace h := h.1 hc
          refine wp_aload_n dX6_ruin_42 rfl ?_
          refine wp_iconst (v := 0) dX6_ruin_43 rfl ?_
          refine wp_puti dX6_ruin_44 fp6_117 (tb_214 hT) (tk_214 hT) rfl ?_
          refine wp_iconst (v := 0) dX6_ruin_47 rfl ?_
          refine wi7_4 dX6_ruin_48 ?_
          refine wp_iconst (v := 1) dX6_ruin_50 rfl ?_
          refine wp_iload_n dX6_ruin_51 rfl ?_
          refine wp_ishl dX6_ruin_52 ?_
          refine wi7_5 dX6_ruin_53 ?_
          exact wp_drop [some (vr 214), some (vi x1), none, some (vi x3), some (vi 0), some (vi ((1 : Int32) <<< (x2 &&& 31))), none] ⟨rfl, ⟨rfl, ⟨rfl, ⟨rfl, ⟨rfl, trivial⟩⟩⟩⟩⟩ h
        · replace h := h.2 (Int32.not_le.mp hc)
          refine wp_iconst (v := (-1)) dX6_ruin_40 rfl ?_
          exact wp_iret dX6_ruin_41 rfl ⟨_, rfl, rfl, rfl, rfl, h⟩
theorem b6_ruin_55 {E : eT} {Q : Int32 → vT → Prop} {V : vT} {x1 x3 x4 x5 : Int32} (hT : TW E) (h : (x5 = x4 → (¬ x3 = 0 → Q x4 V) ∧ (x3 = 0 → c6_bits E x4 V (fun r121 V121 => Q r121 V121))) ∧ (¬ x5 = x4 → w6_ruin E Q 69 [some (vr 214), some (vi x1), none, some (vi x3), some (vi x5), some (vi x5), some (vi 0)] [] V)) : w6_ruin E Q 55 [some (vr 214), some (vi x1), none, some (vi x3), some (vi x4), some (vi x5), none] [] V := by
  refine wp_iload dX6_ruin_55 rfl ?_
  refine wp_iload dX6_ruin_57 rfl ?_
  refine wp_icmp_eq 115 dX6_ruin_59 (by decide) (fun hc => ?_) (fun hc => ?_)
  · replace h := h.1 hc
    refine wp_iload_n dX6_ruin_115 rfl ?_
    refine wp_if_ne 127 dX6_ruin_116 (by decide) (fun hc => ?_) (fun hc => ?_)
    · replace h := h.1 hc
      refine wp_iload dX6_ruin_127 rfl ?_
      exact wp_iret dX6_ruin_129 rfl ⟨_, rfl, rfl, rfl, rfl, h⟩
    · replace h := h.2 hc
      refine wp_iload dX6_ruin_119 rfl ?_
      refine wq_SI1 lk6_390 dX6_ruin_121 h (rmQ_ok (by decide) (by decide)) ⟨Nat.le_refl _, Nat.le_refl _⟩ (Nat.le_of_ble_eq_true rfl) (fun r121 V121 h => ?_)
      refine wp_goto 129 dX6_ruin_124 (by decide) ?_
      exact wp_iret dX6_ruin_129 rfl ⟨_, rfl, rfl, rfl, rfl, h⟩
  · replace h := h.2 hc
    refine wp_iload dX6_ruin_62 rfl ?_
    refine wi7_4 dX6_ruin_64 ?_
    refine wp_iconst (v := 0) dX6_ruin_66 rfl ?_
    refine wi7_6 dX6_ruin_67 ?_
    exact h
theorem b6_ruin_69 {E : eT} {Q : Int32 → vT → Prop} {V : vT} {x1 x3 x4 x5 x6 : Int32} (hT : TW E) (h : (x1 ≤ x6 → w6_ruin E Q 55 [some (vr 214), some (vi x1), none, some (vi x3), some (vi x4), some (vi x5), none] [] V) ∧ (x6 < x1 → c6_has E x4 x6 V (fun r79 V79 => (¬ r79 = 0 → w6_ruin E Q 69 [some (vr 214), some (vi x1), none, some (vi x3), some (vi x4), some (vi x5), some (vi (x6 + 1))] [] V79) ∧ (r79 = 0 → c6_restOf E x6 x1 x4 V79 (fun r91 V91 => (0 ≤ r91 → w6_ruin E Q 69 [some (vr 214), some (vi x1), none, some (vi x3), some (vi x4), some (vi x5), some (vi (x6 + 1))] [] V91) ∧ (r91 < 0 → w6_ruin E Q 69 [some (vr 214), some (vi x1), none, some (vi x3), some (vi x4), some (vi (x5 ||| ((1 : Int32) <<< (x6 &&& 31)))), some (vi (x6 + 1))] [] V91)))))) : w6_ruin E Q 69 [some (vr 214), some (vi x1), none, some (vi x3), some (vi x4), some (vi x5), some (vi x6)] [] V := by
  refine wp_iload dX6_ruin_69 rfl ?_
  refine wp_iload_n dX6_ruin_71 rfl ?_
  refine wp_icmp_ge 112 dX6_ruin_72 (by decide) (fun hc => ?_) (fun hc => ?_)
  · replace h := h.1 hc
    refine wp_goto 55 dX6_ruin_112 (by decide) ?_
    exact wp_drop [some (vr 214), some (vi x1), none, some (vi x3), some (vi x4), some (vi x5), none] ⟨rfl, ⟨rfl, ⟨rfl, ⟨rfl, ⟨rfl, trivial⟩⟩⟩⟩⟩ h
  · replace h := h.2 (Int32.not_le.mp hc)
    refine wp_iload dX6_ruin_75 rfl ?_
    refine wp_iload dX6_ruin_77 rfl ?_
    refine wq_SI2 lk6_376 dX6_ruin_79 h (rmQ_ok (by decide) (by decide)) ⟨Nat.le_refl _, Nat.le_refl _⟩ (Nat.le_of_ble_eq_true rfl) (fun r79 V79 h => ?_)
    refine wp_if_ne 106 dX6_ruin_82 (by decide) (fun hc => ?_) (fun hc => ?_)
    · replace h := h.1 hc
      refine wc7_6 1 dX6_ruin_106 rfl ?_
      refine wp_goto 69 dX6_ruin_109 (by decide) ?_
      exact h
    · replace h := h.2 hc
      refine wp_aload_n dX6_ruin_85 rfl ?_
      refine wp_iload dX6_ruin_86 rfl ?_
      refine wp_iload_n dX6_ruin_88 rfl ?_
      refine wp_iload dX6_ruin_89 rfl ?_
      refine wq_VI3 lk6_387 rfl (tb_214 hT) (tk_214 hT) dX6_ruin_91 h (rmQ_ok (by decide) (by decide)) ⟨Nat.le_refl _, Nat.le_refl _⟩ (Nat.le_of_ble_eq_true rfl) (fun r91 V91 h => ?_)
      refine wp_if_ge 106 dX6_ruin_94 (by decide) (fun hc => ?_) (fun hc => ?_)
      · replace h := h.1 hc
        refine wc7_6 1 dX6_ruin_106 rfl ?_
        refine wp_goto 69 dX6_ruin_109 (by decide) ?_
        exact h
      · replace h := h.2 (Int32.not_le.mp hc)
        refine wp_iload dX6_ruin_97 rfl ?_
        refine wp_iconst (v := 1) dX6_ruin_99 rfl ?_
        refine wp_iload dX6_ruin_100 rfl ?_
        refine wp_ishl dX6_ruin_102 ?_
        refine wp_ior dX6_ruin_103 ?_
        refine wi7_5 dX6_ruin_104 ?_
        refine wc7_6 1 dX6_ruin_106 rfl ?_
        refine wp_goto 69 dX6_ruin_109 (by decide) ?_
        exact h
theorem n6_ruin {E : eT} {Q : Int32 → vT → Prop} {V : vT} {x1 x2 x3 : Int32} (h : w6_ruin E Q 0 [some (vr 214), some (vi x1), some (vi x2), some (vi x3), none, none, none] [] V) : c6_ruin E x1 x2 x3 V Q := MOk.enter [some (vr 214), some (vi x1), some (vi x2), some (vi x3), none, none, none] pn_6 rfl rfl (Nat.le_of_ble_eq_true rfl) rfl h
theorem b6_restOf_0 {E : eT} {Q : Int32 → vT → Prop} {V : vT} {x1 x2 x3 : Int32} (hT : TW E) (h : c6_octet E ((x2 * x1) + x1) V (fun r6 V6 => w6_restOf E Q 14 [some (vr 214), some (vi x1), some (vi x2), some (vi x3), some (vi r6), some (vi 0)] [] V6)) : w6_restOf E Q 0 [some (vr 214), some (vi x1), some (vi x2), some (vi x3), none, none] [] V := by
  refine wp_aload_n dX6_restOf_0 rfl ?_
  refine wp_iload_n dX6_restOf_1 rfl ?_
  refine wp_iload_n dX6_restOf_2 rfl ?_
  refine wp_imul dX6_restOf_3 ?_
  refine wp_iload_n dX6_restOf_4 rfl ?_
  refine wp_iadd dX6_restOf_5 ?_
  refine wq_VI1 lk6_379 rfl (tb_214 hT) (tk_214 hT) dX6_restOf_6 h (rmQ_ok (by decide) (by decide)) ⟨Nat.le_refl _, Nat.le_refl _⟩ (Nat.le_of_ble_eq_true rfl) (fun r6 V6 h => ?_)
  refine wi6_4 dX6_restOf_9 ?_
  refine wp_iconst (v := 0) dX6_restOf_11 rfl ?_
  refine wi6_5 dX6_restOf_12 ?_
  exact h
theorem b6_restOf_14 {E : eT} {Q : Int32 → vT → Prop} {V : vT} {x1 x2 x3 x4 x5 : Int32} (hT : TW E) (h : (x2 ≤ x5 → Q x4 V) ∧ (x5 < x2 → (x5 = x1 → w6_restOf E Q 14 [some (vr 214), some (vi x1), some (vi x2), some (vi x3), some (vi x4), some (vi (x5 + 1))] [] V) ∧ (¬ x5 = x1 → c6_has E x3 x5 V (fun r29 V29 => (¬ r29 = 0 → w6_restOf E Q 14 [some (vr 214), some (vi x1), some (vi x2), some (vi x3), some (vi x4), some (vi (x5 + 1))] [] V29) ∧ (r29 = 0 → c6_octet E ((x2 * x5) + x1) V29 (fun r44 V44 => c6_octet E ((x2 * x1) + x5) V44 (fun r55 V55 => w6_restOf E Q 14 [some (vr 214), some (vi x1), some (vi x2), some (vi x3), some (vi ((x4 + r44) - r55)), some (vi (x5 + 1))] [] V55))))))) : w6_restOf E Q 14 [some (vr 214), some (vi x1), some (vi x2), some (vi x3), some (vi x4), some (vi x5)] [] V := by
  refine wp_iload dX6_restOf_14 rfl ?_
  refine wp_iload_n dX6_restOf_16 rfl ?_
  refine wp_icmp_ge 67 dX6_restOf_17 (by decide) (fun hc => ?_) (fun hc => ?_)
  · replace h := h.1 hc
    refine wp_iload dX6_restOf_67 rfl ?_
    exact wp_iret dX6_restOf_69 rfl ⟨_, rfl, rfl, rfl, rfl, h⟩
  · replace h := h.2 (Int32.not_le.mp hc)
    refine wp_iload dX6_restOf_20 rfl ?_
    refine wp_iload_n dX6_restOf_22 rfl ?_
    refine wp_icmp_eq 61 dX6_restOf_23 (by decide) (fun hc => ?_) (fun hc => ?_)
    · replace h := h.1 hc
      refine wc6_5 1 dX6_restOf_61 rfl ?_
      refine wp_goto 14 dX6_restOf_64 (by decide) ?_
      exact h
    · replace h := h.2 hc
      refine wp_iload_n dX6_restOf_26 rfl ?_
      refine wp_iload dX6_restOf_27 rfl ?_
      refine wq_SI2 lk6_376 dX6_restOf_29 h (rmQ_ok (by decide) (by decide)) ⟨Nat.le_refl _, Nat.le_refl _⟩ (Nat.le_of_ble_eq_true rfl) (fun r29 V29 h => ?_)
      refine wp_if_ne 61 dX6_restOf_32 (by decide) (fun hc => ?_) (fun hc => ?_)
      · replace h := h.1 hc
        refine wc6_5 1 dX6_restOf_61 rfl ?_
        refine wp_goto 14 dX6_restOf_64 (by decide) ?_
        exact h
      · replace h := h.2 hc
        refine wp_iload dX6_restOf_35 rfl ?_
        refine wp_aload_n dX6_restOf_37 rfl ?_
        refine wp_iload_n dX6_restOf_38 rfl ?_
        refine wp_iload dX6_restOf_39 rfl ?_
        refine wp_imul dX6_restOf_41 ?_
        refine wp_iload_n dX6_restOf_42 rfl ?_
        refine wp_iadd dX6_restOf_43 ?_
        refine wq_VI1 lk6_379 rfl (tb_214 hT) (tk_214 hT) dX6_restOf_44 h (rmQ_ok (by decide) (by decide)) ⟨Nat.le_refl _, Nat.le_refl _⟩ (Nat.le_of_ble_eq_true rfl) (fun r44 V44 h => ?_)
        refine wp_iadd dX6_restOf_47 ?_
        refine wp_aload_n dX6_restOf_48 rfl ?_
        refine wp_iload_n dX6_restOf_49 rfl ?_
        refine wp_iload_n dX6_restOf_50 rfl ?_
        refine wp_imul dX6_restOf_51 ?_
        refine wp_iload dX6_restOf_52 rfl ?_
        refine wp_iadd dX6_restOf_54 ?_
        refine wq_VI1 lk6_379 rfl (tb_214 hT) (tk_214 hT) dX6_restOf_55 h (rmQ_ok (by decide) (by decide)) ⟨Nat.le_refl _, Nat.le_refl _⟩ (Nat.le_of_ble_eq_true rfl) (fun r55 V55 h => ?_)
        refine wp_isub dX6_restOf_58 ?_
        refine wi6_4 dX6_restOf_59 ?_
        refine wc6_5 1 dX6_restOf_61 rfl ?_
        refine wp_goto 14 dX6_restOf_64 (by decide) ?_
        exact h
theorem n6_restOf {E : eT} {Q : Int32 → vT → Prop} {V : vT} {x1 x2 x3 : Int32} (h : w6_restOf E Q 0 [some (vr 214), some (vi x1), some (vi x2), some (vi x3), none, none] [] V) : c6_restOf E x1 x2 x3 V Q := MOk.enter [some (vr 214), some (vi x1), some (vi x2), some (vi x3), none, none] pn_6 rfl rfl (Nat.le_of_ble_eq_true rfl) rfl h
theorem b6_bits_0 {E : eT} {Q : Int32 → vT → Prop} {V : vT} {x1 : Int32} (hT : TW E) (h : w6_bits E Q 4 [some (vi x1), some (vi 0), some (vi 0)] [] V) : w6_bits E Q 0 [some (vi x1), none, none] [] V := by
  refine wp_iconst (v := 0) dX6_bits_0 rfl ?_
  refine wi3_1 dX6_bits_1 ?_
  refine wp_iconst (v := 0) dX6_bits_2 rfl ?_
  refine wi3_2 dX6_bits_3 ?_
  exact h
theorem b6_bits_4 {E : eT} {Q : Int32 → vT → Prop} {V : vT} {x0 x1 x2 : Int32} (hT : TW E) (h : (24 ≤ x2 → Q x1 V) ∧ (x2 < 24 → w6_bits E Q 4 [some (vi x0), some (vi (x1 + ((x0 >>> (x2 &&& 31)) &&& 1))), some (vi (x2 + 1))] [] V)) : w6_bits E Q 4 [some (vi x0), some (vi x1), some (vi x2)] [] V := by
  refine wp_iload_n dX6_bits_4 rfl ?_
  refine wp_bipush (v := 24) dX6_bits_5 rfl ?_
  refine wp_icmp_ge 24 dX6_bits_7 (by decide) (fun hc => ?_) (fun hc => ?_)
  · replace h := h.1 hc
    refine wp_iload_n dX6_bits_24 rfl ?_
    exact wp_iret dX6_bits_25 rfl ⟨_, rfl, rfl, rfl, rfl, h⟩
  · replace h := h.2 (Int32.not_le.mp hc)
    refine wp_iload_n dX6_bits_10 rfl ?_
    refine wp_iload_n dX6_bits_11 rfl ?_
    refine wp_iload_n dX6_bits_12 rfl ?_
    refine wp_ishr dX6_bits_13 ?_
    refine wp_iconst (v := 1) dX6_bits_14 rfl ?_
    refine wp_iand dX6_bits_15 ?_
    refine wp_iadd dX6_bits_16 ?_
    refine wi3_1 dX6_bits_17 ?_
    refine wc3_2 1 dX6_bits_18 rfl ?_
    refine wp_goto 4 dX6_bits_21 (by decide) ?_
    exact h
theorem n6_bits {E : eT} {Q : Int32 → vT → Prop} {V : vT} {x1 : Int32} (h : w6_bits E Q 0 [some (vi x1), none, none] [] V) : c6_bits E x1 V Q := MOk.enter [some (vi x1), none, none] pn_6 rfl rfl (Nat.le_of_ble_eq_true rfl) rfl h
theorem b6_carried_0 {E : eT} {Q : Int32 → vT → Prop} {V : vT} {x1 : Int32} (hT : TW E) (h : c6_in E x1 1 10 V (fun r4 V4 => (r4 = 0 → Q (-1) V4) ∧ (¬ r4 = 0 → ((3 * x1) ≤ (V4 214 6) → w6_carried E Q 29 [some (vr 214), some (vi x1), some (vi 0), none] [] (up2 V4 214 6 0)) ∧ ((V4 214 6) < (3 * x1) → Q (-1) V4)))) : w6_carried E Q 0 [some (vr 214), some (vi x1), none, none] [] V := by
  refine wp_iload_n dX6_carried_0 rfl ?_
  refine wp_iconst (v := 1) dX6_carried_1 rfl ?_
  refine wp_bipush (v := 10) dX6_carried_2 rfl ?_
  refine wq_SI3 lk6_102 dX6_carried_4 h (rmQ_ok (by decide) (by decide)) ⟨Nat.le_refl _, Nat.le_refl _⟩ (Nat.le_of_ble_eq_true rfl) (fun r4 V4 h => ?_)
  refine wp_if_eq 20 dX6_carried_7 (by decide) (fun hc => ?_) (fun hc => ?_)
  · replace h := h.1 hc
    refine wp_iconst (v := (-1)) dX6_carried_20 rfl ?_
    exact wp_iret dX6_carried_21 rfl ⟨_, rfl, rfl, rfl, rfl, h⟩
  · replace h := h.2 hc
    refine wp_iconst (v := 3) dX6_carried_10 rfl ?_
    refine wp_iload_n dX6_carried_11 rfl ?_
    refine wp_imul dX6_carried_12 ?_
    refine wp_aload_n dX6_carried_13 rfl ?_
    refine wp_geti dX6_carried_14 fk6_117 (tb_214 hT) (tk_214 hT) rfl ?_
    refine wp_icmp_le 22 dX6_carried_17 (by decide) (fun hc => ?_) (fun hc => ?_)
    · replace h := h.1 hc
      refine wp_aload_n dX6_carried_22 rfl ?_
      refine wp_iconst (v := 0) dX6_carried_23 rfl ?_
      refine wp_puti dX6_carried_24 fp6_117 (tb_214 hT) (tk_214 hT) rfl ?_
      refine wp_iconst (v := 0) dX6_carried_27 rfl ?_
      refine wi4_2 dX6_carried_28 ?_
      exact h
    · replace h := h.2 (Int32.not_le.mp hc)
      refine wp_iconst (v := (-1)) dX6_carried_20 rfl ?_
      exact wp_iret dX6_carried_21 rfl ⟨_, rfl, rfl, rfl, rfl, h⟩
theorem b6_carried_29 {E : eT} {Q : Int32 → vT → Prop} {V : vT} {x1 x2 : Int32} (hT : TW E) (h : (x1 ≤ x2 → c6_laysRow E x1 V (fun V61 => w6_carried E Q 68 [some (vr 214), some (vi x1), some (vi 0), some (vi 0)] [] V61)) ∧ (x2 < x1 → c6_octet E (3 * x2) V (fun r38 V38 => c6_in E r38 1 60 V38 (fun r44 V44 => (¬ r44 = 0 → w6_carried E Q 29 [some (vr 214), some (vi x1), some (vi (x2 + 1)), none] [] V44) ∧ (r44 = 0 → Q (-2) V44))))) : w6_carried E Q 29 [some (vr 214), some (vi x1), some (vi x2), none] [] V := by
  refine wp_iload_n dX6_carried_29 rfl ?_
  refine wp_iload_n dX6_carried_30 rfl ?_
  refine wp_icmp_ge 59 dX6_carried_31 (by decide) (fun hc => ?_) (fun hc => ?_)
  · replace h := h.1 hc
    refine wp_aload_n dX6_carried_59 rfl ?_
    refine wp_iload_n dX6_carried_60 rfl ?_
    refine wq_VV1 lk6_393 rfl (tb_214 hT) (tk_214 hT) dX6_carried_61 h (rmQ_ok (by decide) (by decide)) ⟨Nat.le_refl _, Nat.le_refl _⟩ (Nat.le_of_ble_eq_true rfl) (fun V61 h => ?_)
    refine wp_iconst (v := 0) dX6_carried_64 rfl ?_
    refine wi4_2 dX6_carried_65 ?_
    refine wp_iconst (v := 0) dX6_carried_66 rfl ?_
    refine wi4_3 dX6_carried_67 ?_
    exact h
  · replace h := h.2 (Int32.not_le.mp hc)
    refine wp_aload_n dX6_carried_34 rfl ?_
    refine wp_iconst (v := 3) dX6_carried_35 rfl ?_
    refine wp_iload_n dX6_carried_36 rfl ?_
    refine wp_imul dX6_carried_37 ?_
    refine wq_VI1 lk6_379 rfl (tb_214 hT) (tk_214 hT) dX6_carried_38 h (rmQ_ok (by decide) (by decide)) ⟨Nat.le_refl _, Nat.le_refl _⟩ (Nat.le_of_ble_eq_true rfl) (fun r38 V38 h => ?_)
    refine wp_iconst (v := 1) dX6_carried_41 rfl ?_
    refine wp_bipush (v := 60) dX6_carried_42 rfl ?_
    refine wq_SI3 lk6_102 dX6_carried_44 h (rmQ_ok (by decide) (by decide)) ⟨Nat.le_refl _, Nat.le_refl _⟩ (Nat.le_of_ble_eq_true rfl) (fun r44 V44 h => ?_)
    refine wp_if_ne 53 dX6_carried_47 (by decide) (fun hc => ?_) (fun hc => ?_)
    · replace h := h.1 hc
      refine wc4_2 1 dX6_carried_53 rfl ?_
      refine wp_goto 29 dX6_carried_56 (by decide) ?_
      exact h
    · replace h := h.2 hc
      refine wp_bipush (v := (-2)) dX6_carried_50 rfl ?_
      exact wp_iret dX6_carried_52 rfl ⟨_, rfl, rfl, rfl, rfl, h⟩
theorem b6_carried_68 {E : eT} {Q : Int32 → vT → Prop} {V : vT} {x1 x2 x3 : Int32} (hT : TW E) (h : (((1 : Int32) <<< (x1 &&& 31)) ≤ x3 → Q x2 V) ∧ (x3 < ((1 : Int32) <<< (x1 &&& 31)) → c6_worthOf E x3 x1 V (fun r79 V79 => c6_max E x2 r79 V79 (fun r82 V82 => w6_carried E Q 68 [some (vr 214), some (vi x1), some (vi r82), some (vi (x3 + 1))] [] V82)))) : w6_carried E Q 68 [some (vr 214), some (vi x1), some (vi x2), some (vi x3)] [] V := by
  refine wp_iload_n dX6_carried_68 rfl ?_
  refine wp_iconst (v := 1) dX6_carried_69 rfl ?_
  refine wp_iload_n dX6_carried_70 rfl ?_
  refine wp_ishl dX6_carried_71 ?_
  refine wp_icmp_ge 92 dX6_carried_72 (by decide) (fun hc => ?_) (fun hc => ?_)
  · replace h := h.1 hc
    refine wp_iload_n dX6_carried_92 rfl ?_
    exact wp_iret dX6_carried_93 rfl ⟨_, rfl, rfl, rfl, rfl, h⟩
  · replace h := h.2 (Int32.not_le.mp hc)
    refine wp_iload_n dX6_carried_75 rfl ?_
    refine wp_aload_n dX6_carried_76 rfl ?_
    refine wp_iload_n dX6_carried_77 rfl ?_
    refine wp_iload_n dX6_carried_78 rfl ?_
    refine wq_VI2 lk6_396 rfl (tb_214 hT) (tk_214 hT) dX6_carried_79 h (rmQ_ok (by decide) (by decide)) ⟨Nat.le_refl _, Nat.le_refl _⟩ (Nat.le_of_ble_eq_true rfl) (fun r79 V79 h => ?_)
    refine wq_SI2 lk6_373 dX6_carried_82 h (rmQ_ok (by decide) (by decide)) ⟨Nat.le_refl _, Nat.le_refl _⟩ (Nat.le_of_ble_eq_true rfl) (fun r82 V82 h => ?_)
    refine wi4_2 dX6_carried_85 ?_
    refine wc4_3 1 dX6_carried_86 rfl ?_
    refine wp_goto 68 dX6_carried_89 (by decide) ?_
    exact h
theorem n6_carried {E : eT} {Q : Int32 → vT → Prop} {V : vT} {x1 : Int32} (h : w6_carried E Q 0 [some (vr 214), some (vi x1), none, none] [] V) : c6_carried E x1 V Q := MOk.enter [some (vr 214), some (vi x1), none, none] pn_6 rfl rfl (Nat.le_of_ble_eq_true rfl) rfl h
theorem b6_laysRow_0 {E : eT} {Q : vT → Prop} {V : vT} {x1 : Int32} (hT : TW E) (h : w6_laysRow E Q 2 [some (vr 214), some (vi x1), some (vi 0), none] [] V) : w6_laysRow E Q 0 [some (vr 214), some (vi x1), none, none] [] V := by
  refine wp_iconst (v := 0) dX6_laysRow_0 rfl ?_
  refine wi4_2 dX6_laysRow_1 ?_
  exact h
theorem b6_laysRow_2 {E : eT} {Q : vT → Prop} {V : vT} {x1 x2 : Int32} (hT : TW E) (h : (x1 ≤ x2 → Q V) ∧ (x2 < x1 → w6_laysRow E Q 9 [some (vr 214), some (vi x1), some (vi x2), some (vi x2)] [] V)) : w6_laysRow E Q 2 [some (vr 214), some (vi x1), some (vi x2), none] [] V := by
  refine wp_iload_n dX6_laysRow_2 rfl ?_
  refine wp_iload_n dX6_laysRow_3 rfl ?_
  refine wp_icmp_ge 75 dX6_laysRow_4 (by decide) (fun hc => ?_) (fun hc => ?_)
  · replace h := h.1 hc
    exact wp_vret dX6_laysRow_75 ⟨rfl, rfl, rfl, rfl, h⟩
  · replace h := h.2 (Int32.not_le.mp hc)
    refine wp_iload_n dX6_laysRow_7 rfl ?_
    refine wi4_3 dX6_laysRow_8 ?_
    exact h
theorem b6_laysRow_9 {E : eT} {Q : vT → Prop} {V : vT} {x1 x2 x3 : Int32} (hT : TW E) (h : (x3 ≤ 0 → vp_in x3 10 ∧ (w6_laysRow E Q 2 [some (vr 214), some (vi x1), some (vi (x2 + 1)), none] [] (up2 V 244 (x3.toNatClampNeg) x2))) ∧ (0 < x3 → vp_in (x3 - 1) 10 ∧ (c6_octet E ((3 * (V 244 ((x3 - 1).toNatClampNeg))) + 2) V (fun r26 V26 => c6_octet E ((3 * x2) + 2) V26 (fun r35 V35 => (r26 ≤ r35 → vp_in x3 10 ∧ (w6_laysRow E Q 2 [some (vr 214), some (vi x1), some (vi (x2 + 1)), none] [] (up2 V35 244 (x3.toNatClampNeg) x2))) ∧ (r35 < r26 → vp_in (x3 - 1) 10 ∧ (vp_in x3 10 ∧ (w6_laysRow E Q 9 [some (vr 214), some (vi x1), some (vi x2), some (vi (x3 - 1))] [] (up2 V35 244 (x3.toNatClampNeg) (V35 244 ((x3 - 1).toNatClampNeg))))))))))) : w6_laysRow E Q 9 [some (vr 214), some (vi x1), some (vi x2), some (vi x3)] [] V := by
  refine wp_iload_n dX6_laysRow_9 rfl ?_
  refine wp_if_le 62 dX6_laysRow_10 (by decide) (fun hc => ?_) (fun hc => ?_)
  · replace h := h.1 hc
    refine wp_aload_n dX6_laysRow_62 rfl ?_
    refine wp_getrs dX6_laysRow_63 fk6_99 (tb_214 hT) (tk_214 hT) rfl (tr_44 hT) ?_
    refine wp_iload_n dX6_laysRow_66 rfl ?_
    refine wp_iload_n dX6_laysRow_67 rfl ?_
    refine wp_iast dX6_laysRow_68 (tb_244 hT) (tk_244 hT) h.1 ?_
    replace h := h.2
    refine wc4_2 1 dX6_laysRow_69 rfl ?_
    refine wp_goto 2 dX6_laysRow_72 (by decide) ?_
    exact wp_drop [some (vr 214), some (vi x1), some (vi (x2 + 1)), none] ⟨rfl, ⟨rfl, ⟨rfl, trivial⟩⟩⟩ h
  · replace h := h.2 (Int32.not_le.mp hc)
    refine wp_aload_n dX6_laysRow_13 rfl ?_
    refine wp_iconst (v := 3) dX6_laysRow_14 rfl ?_
    refine wp_aload_n dX6_laysRow_15 rfl ?_
    refine wp_getrs dX6_laysRow_16 fk6_99 (tb_214 hT) (tk_214 hT) rfl (tr_44 hT) ?_
    refine wp_iload_n dX6_laysRow_19 rfl ?_
    refine wp_iconst (v := 1) dX6_laysRow_20 rfl ?_
    refine wp_isub dX6_laysRow_21 ?_
    refine wp_iald dX6_laysRow_22 (tb_244 hT).2 (tk_244 hT) h.1 ?_
    replace h := h.2
    refine wp_imul dX6_laysRow_23 ?_
    refine wp_iconst (v := 2) dX6_laysRow_24 rfl ?_
    refine wp_iadd dX6_laysRow_25 ?_
    refine wq_VI1 lk6_379 rfl (tb_214 hT) (tk_214 hT) dX6_laysRow_26 h (rmQ_ok (by decide) (by decide)) ⟨Nat.le_refl _, Nat.le_refl _⟩ (Nat.le_of_ble_eq_true rfl) (fun r26 V26 h => ?_)
    refine wp_aload_n dX6_laysRow_29 rfl ?_
    refine wp_iconst (v := 3) dX6_laysRow_30 rfl ?_
    refine wp_iload_n dX6_laysRow_31 rfl ?_
    refine wp_imul dX6_laysRow_32 ?_
    refine wp_iconst (v := 2) dX6_laysRow_33 rfl ?_
    refine wp_iadd dX6_laysRow_34 ?_
    refine wq_VI1 lk6_379 rfl (tb_214 hT) (tk_214 hT) dX6_laysRow_35 h (rmQ_ok (by decide) (by decide)) ⟨Nat.le_refl _, Nat.le_refl _⟩ (Nat.le_of_ble_eq_true rfl) (fun r35 V35 h => ?_)
    refine wp_icmp_le 62 dX6_laysRow_38 (by decide) (fun hc => ?_) (fun hc => ?_)
    · replace h := h.1 hc
      refine wp_aload_n dX6_laysRow_62 rfl ?_
      refine wp_getrs dX6_laysRow_63 fk6_99 (tb_214 hT) (tk_214 hT) rfl (tr_44 hT) ?_
      refine wp_iload_n dX6_laysRow_66 rfl ?_
      refine wp_iload_n dX6_laysRow_67 rfl ?_
      refine wp_iast dX6_laysRow_68 (tb_244 hT) (tk_244 hT) h.1 ?_
      replace h := h.2
      refine wc4_2 1 dX6_laysRow_69 rfl ?_
      refine wp_goto 2 dX6_laysRow_72 (by decide) ?_
      exact wp_drop [some (vr 214), some (vi x1), some (vi (x2 + 1)), none] ⟨rfl, ⟨rfl, ⟨rfl, trivial⟩⟩⟩ h
    · replace h := h.2 (Int32.not_le.mp hc)
      refine wp_aload_n dX6_laysRow_41 rfl ?_
      refine wp_getrs dX6_laysRow_42 fk6_99 (tb_214 hT) (tk_214 hT) rfl (tr_44 hT) ?_
      refine wp_iload_n dX6_laysRow_45 rfl ?_
      refine wp_aload_n dX6_laysRow_46 rfl ?_
      refine wp_getrs dX6_laysRow_47 fk6_99 (tb_214 hT) (tk_214 hT) rfl (tr_44 hT) ?_
      refine wp_iload_n dX6_laysRow_50 rfl ?_
      refine wp_iconst (v := 1) dX6_laysRow_51 rfl ?_
      refine wp_isub dX6_laysRow_52 ?_
      refine wp_iald dX6_laysRow_53 (tb_244 hT).2 (tk_244 hT) h.1 ?_
      replace h := h.2
      refine wp_iast dX6_laysRow_54 (tb_244 hT) (tk_244 hT) h.1 ?_
      replace h := h.2
      refine wp_iload_n dX6_laysRow_55 rfl ?_
      refine wp_iconst (v := 1) dX6_laysRow_56 rfl ?_
      refine wp_isub dX6_laysRow_57 ?_
      refine wi4_3 dX6_laysRow_58 ?_
      refine wp_goto 9 dX6_laysRow_59 (by decide) ?_
      exact h
theorem n6_laysRow {E : eT} {Q : vT → Prop} {V : vT} {x1 : Int32} (h : w6_laysRow E Q 0 [some (vr 214), some (vi x1), none, none] [] V) : c6_laysRow E x1 V Q := MOk.enter [some (vr 214), some (vi x1), none, none] pn_6 rfl rfl (Nat.le_of_ble_eq_true rfl) rfl h
theorem b6_worthOf_0 {E : eT} {Q : Int32 → vT → Prop} {V : vT} {x1 x2 : Int32} (hT : TW E) (h : w6_worthOf E Q 8 [some (vr 214), some (vi x1), some (vi x2), some (vi 0), some (vi 0), some (vi 0), none] [] V) : w6_worthOf E Q 0 [some (vr 214), some (vi x1), some (vi x2), none, none, none, none] [] V := by
  refine wp_iconst (v := 0) dX6_worthOf_0 rfl ?_
  refine wi7_3 dX6_worthOf_1 ?_
  refine wp_iconst (v := 0) dX6_worthOf_2 rfl ?_
  refine wi7_4 dX6_worthOf_3 ?_
  refine wp_iconst (v := 0) dX6_worthOf_5 rfl ?_
  refine wi7_5 dX6_worthOf_6 ?_
  exact h
theorem b6_worthOf_8 {E : eT} {Q : Int32 → vT → Prop} {V : vT} {x1 x2 x3 x4 x5 : Int32} (hT : TW E) (h : (x2 ≤ x5 → Q x4 V) ∧ (x5 < x2 → vp_in x5 10 ∧ (c6_has E x1 (V 244 ((x5).toNatClampNeg)) V (fun r26 V26 => (¬ r26 = 0 → c6_octet E (3 * (V 244 ((x5).toNatClampNeg))) V26 (fun r41 V41 => c6_octet E ((3 * (V 244 ((x5).toNatClampNeg))) + 1) V41 (fun r55 V55 => c6_octet E ((3 * (V 244 ((x5).toNatClampNeg))) + 2) V55 (fun r69 V69 => ((x3 + r41) ≤ r69 → w6_worthOf E Q 8 [some (vr 214), some (vi x1), some (vi x2), some (vi (x3 + r41)), some (vi (x4 + r55)), some (vi (x5 + 1)), none] [] V69) ∧ (r69 < (x3 + r41) → Q 0 V69))))) ∧ (r26 = 0 → w6_worthOf E Q 8 [some (vr 214), some (vi x1), some (vi x2), some (vi x3), some (vi x4), some (vi (x5 + 1)), none] [] V26))))) : w6_worthOf E Q 8 [some (vr 214), some (vi x1), some (vi x2), some (vi x3), some (vi x4), some (vi x5), none] [] V := by
  refine wp_iload dX6_worthOf_8 rfl ?_
  refine wp_iload_n dX6_worthOf_10 rfl ?_
  refine wp_icmp_ge 83 dX6_worthOf_11 (by decide) (fun hc => ?_) (fun hc => ?_)
  · replace h := h.1 hc
    refine wp_iload dX6_worthOf_83 rfl ?_
    exact wp_iret dX6_worthOf_85 rfl ⟨_, rfl, rfl, rfl, rfl, h⟩
  · replace h := h.2 (Int32.not_le.mp hc)
    refine wp_aload_n dX6_worthOf_14 rfl ?_
    refine wp_getrs dX6_worthOf_15 fk6_99 (tb_214 hT) (tk_214 hT) rfl (tr_44 hT) ?_
    refine wp_iload dX6_worthOf_18 rfl ?_
    refine wp_iald dX6_worthOf_20 (tb_244 hT).2 (tk_244 hT) h.1 ?_
    replace h := h.2
    refine wi7_6 dX6_worthOf_21 ?_
    refine wp_iload_n dX6_worthOf_23 rfl ?_
    refine wp_iload dX6_worthOf_24 rfl ?_
    refine wq_SI2 lk6_376 dX6_worthOf_26 h (rmQ_ok (by decide) (by decide)) ⟨Nat.le_refl _, Nat.le_refl _⟩ (Nat.le_of_ble_eq_true rfl) (fun r26 V26 h => ?_)
    refine wp_if_ne 35 dX6_worthOf_29 (by decide) (fun hc => ?_) (fun hc => ?_)
    · replace h := h.1 hc
      refine wp_iload_n dX6_worthOf_35 rfl ?_
      refine wp_aload_n dX6_worthOf_36 rfl ?_
      refine wp_iconst (v := 3) dX6_worthOf_37 rfl ?_
      refine wp_iload dX6_worthOf_38 rfl ?_
      refine wp_imul dX6_worthOf_40 ?_
      refine wq_VI1 lk6_379 rfl (tb_214 hT) (tk_214 hT) dX6_worthOf_41 h (rmQ_ok (by decide) (by decide)) ⟨Nat.le_refl _, Nat.le_refl _⟩ (Nat.le_of_ble_eq_true rfl) (fun r41 V41 h => ?_)
      refine wp_iadd dX6_worthOf_44 ?_
      refine wi7_3 dX6_worthOf_45 ?_
      refine wp_iload dX6_worthOf_46 rfl ?_
      refine wp_aload_n dX6_worthOf_48 rfl ?_
      refine wp_iconst (v := 3) dX6_worthOf_49 rfl ?_
      refine wp_iload dX6_worthOf_50 rfl ?_
      refine wp_imul dX6_worthOf_52 ?_
      refine wp_iconst (v := 1) dX6_worthOf_53 rfl ?_
      refine wp_iadd dX6_worthOf_54 ?_
      refine wq_VI1 lk6_379 rfl (tb_214 hT) (tk_214 hT) dX6_worthOf_55 h (rmQ_ok (by decide) (by decide)) ⟨Nat.le_refl _, Nat.le_refl _⟩ (Nat.le_of_ble_eq_true rfl) (fun r55 V55 h => ?_)
      refine wp_iadd dX6_worthOf_58 ?_
      refine wi7_4 dX6_worthOf_59 ?_
      refine wp_iload_n dX6_worthOf_61 rfl ?_
      refine wp_aload_n dX6_worthOf_62 rfl ?_
      refine wp_iconst (v := 3) dX6_worthOf_63 rfl ?_
      refine wp_iload dX6_worthOf_64 rfl ?_
      refine wp_imul dX6_worthOf_66 ?_
      refine wp_iconst (v := 2) dX6_worthOf_67 rfl ?_
      refine wp_iadd dX6_worthOf_68 ?_
      refine wq_VI1 lk6_379 rfl (tb_214 hT) (tk_214 hT) dX6_worthOf_69 h (rmQ_ok (by decide) (by decide)) ⟨Nat.le_refl _, Nat.le_refl _⟩ (Nat.le_of_ble_eq_true rfl) (fun r69 V69 h => ?_)
      refine wp_icmp_le 77 dX6_worthOf_72 (by decide) (fun hc => ?_) (fun hc => ?_)
      · replace h := h.1 hc
        refine wc7_5 1 dX6_worthOf_77 rfl ?_
        refine wp_goto 8 dX6_worthOf_80 (by decide) ?_
        exact wp_drop [some (vr 214), some (vi x1), some (vi x2), some (vi (x3 + r41)), some (vi (x4 + r55)), some (vi (x5 + 1)), none] ⟨rfl, ⟨rfl, ⟨rfl, ⟨rfl, ⟨rfl, ⟨rfl, trivial⟩⟩⟩⟩⟩⟩ h
      · replace h := h.2 (Int32.not_le.mp hc)
        refine wp_iconst (v := 0) dX6_worthOf_75 rfl ?_
        exact wp_iret dX6_worthOf_76 rfl ⟨_, rfl, rfl, rfl, rfl, h⟩
    · replace h := h.2 hc
      refine wp_goto 77 dX6_worthOf_32 (by decide) ?_
      refine wc7_5 1 dX6_worthOf_77 rfl ?_
      refine wp_goto 8 dX6_worthOf_80 (by decide) ?_
      exact wp_drop [some (vr 214), some (vi x1), some (vi x2), some (vi x3), some (vi x4), some (vi (x5 + 1)), none] ⟨rfl, ⟨rfl, ⟨rfl, ⟨rfl, ⟨rfl, ⟨rfl, trivial⟩⟩⟩⟩⟩⟩ h
theorem n6_worthOf {E : eT} {Q : Int32 → vT → Prop} {V : vT} {x1 x2 : Int32} (h : w6_worthOf E Q 0 [some (vr 214), some (vi x1), some (vi x2), none, none, none, none] [] V) : c6_worthOf E x1 x2 V Q := MOk.enter [some (vr 214), some (vi x1), some (vi x2), none, none, none, none] pn_6 rfl rfl (Nat.le_of_ble_eq_true rfl) rfl h
theorem b6_premium_0 {E : eT} {Q : Int32 → vT → Prop} {V : vT} {x1 x2 : Int32} (hT : TW E) (h : c6_in E x1 1 8 V (fun r4 V4 => (r4 = 0 → Q (-1) V4) ∧ (¬ r4 = 0 → c6_in E x2 0 1 V4 (fun r13 V13 => (r13 = 0 → Q (-1) V13) ∧ (¬ r13 = 0 → ((2 * x1) ≤ (V13 214 6) → w6_premium E Q 44 [some (vr 214), some (vi x1), some (vi x2), some (vi 0), some (vi 1), some (vi 0)] [] (up2 V13 214 6 0)) ∧ ((V13 214 6) < (2 * x1) → Q (-1) V13)))))) : w6_premium E Q 0 [some (vr 214), some (vi x1), some (vi x2), none, none, none] [] V := by
  refine wp_iload_n dX6_premium_0 rfl ?_
  refine wp_iconst (v := 1) dX6_premium_1 rfl ?_
  refine wp_bipush (v := 8) dX6_premium_2 rfl ?_
  refine wq_SI3 lk6_102 dX6_premium_4 h (rmQ_ok (by decide) (by decide)) ⟨Nat.le_refl _, Nat.le_refl _⟩ (Nat.le_of_ble_eq_true rfl) (fun r4 V4 h => ?_)
  refine wp_if_eq 29 dX6_premium_7 (by decide) (fun hc => ?_) (fun hc => ?_)
  · replace h := h.1 hc
    refine wp_iconst (v := (-1)) dX6_premium_29 rfl ?_
    exact wp_iret dX6_premium_30 rfl ⟨_, rfl, rfl, rfl, rfl, h⟩
  · replace h := h.2 hc
    refine wp_iload_n dX6_premium_10 rfl ?_
    refine wp_iconst (v := 0) dX6_premium_11 rfl ?_
    refine wp_iconst (v := 1) dX6_premium_12 rfl ?_
    refine wq_SI3 lk6_102 dX6_premium_13 h (rmQ_ok (by decide) (by decide)) ⟨Nat.le_refl _, Nat.le_refl _⟩ (Nat.le_of_ble_eq_true rfl) (fun r13 V13 h => ?_)
    refine wp_if_eq 29 dX6_premium_16 (by decide) (fun hc => ?_) (fun hc => ?_)
    · replace h := h.1 hc
      refine wp_iconst (v := (-1)) dX6_premium_29 rfl ?_
      exact wp_iret dX6_premium_30 rfl ⟨_, rfl, rfl, rfl, rfl, h⟩
    · replace h := h.2 hc
      refine wp_iconst (v := 2) dX6_premium_19 rfl ?_
      refine wp_iload_n dX6_premium_20 rfl ?_
      refine wp_imul dX6_premium_21 ?_
      refine wp_aload_n dX6_premium_22 rfl ?_
      refine wp_geti dX6_premium_23 fk6_117 (tb_214 hT) (tk_214 hT) rfl ?_
      refine wp_icmp_le 31 dX6_premium_26 (by decide) (fun hc => ?_) (fun hc => ?_)
      · replace h := h.1 hc
        refine wp_aload_n dX6_premium_31 rfl ?_
        refine wp_iconst (v := 0) dX6_premium_32 rfl ?_
        refine wp_puti dX6_premium_33 fp6_117 (tb_214 hT) (tk_214 hT) rfl ?_
        refine wp_iconst (v := 0) dX6_premium_36 rfl ?_
        refine wi6_3 dX6_premium_37 ?_
        refine wp_iconst (v := 1) dX6_premium_38 rfl ?_
        refine wi6_4 dX6_premium_39 ?_
        refine wp_iconst (v := 0) dX6_premium_41 rfl ?_
        refine wi6_5 dX6_premium_42 ?_
        exact h
      · replace h := h.2 (Int32.not_le.mp hc)
        refine wp_iconst (v := (-1)) dX6_premium_29 rfl ?_
        exact wp_iret dX6_premium_30 rfl ⟨_, rfl, rfl, rfl, rfl, h⟩
theorem b6_premium_44 {E : eT} {Q : Int32 → vT → Prop} {V : vT} {x1 x2 x3 x4 x5 : Int32} (hT : TW E) (h : (x1 ≤ x5 → (¬ x2 = 0 → Q x4 V) ∧ (x2 = 0 → Q x3 V)) ∧ (x5 < x1 → c6_octet E ((2 * x5) + 1) V (fun r57 V57 => (r57 ≤ 10 → c6_octet E (2 * x5) V57 (fun r74 V74 => c6_octet E ((2 * x5) + 1) V74 (fun r84 V84 => c6_octet E ((2 * x5) + 1) V84 (fun r99 V99 => w6_premium E Q 44 [some (vr 214), some (vi x1), some (vi x2), some (vi (x3 + (r74 * r84))), some (vi (x4 * r99)), some (vi (x5 + 1))] [] V99)))) ∧ (10 < r57 → Q (-2) V57)))) : w6_premium E Q 44 [some (vr 214), some (vi x1), some (vi x2), some (vi x3), some (vi x4), some (vi x5)] [] V := by
  refine wp_iload dX6_premium_44 rfl ?_
  refine wp_iload_n dX6_premium_46 rfl ?_
  refine wp_icmp_ge 111 dX6_premium_47 (by decide) (fun hc => ?_) (fun hc => ?_)
  · replace h := h.1 hc
    refine wp_iload_n dX6_premium_111 rfl ?_
    refine wp_if_ne 119 dX6_premium_112 (by decide) (fun hc => ?_) (fun hc => ?_)
    · replace h := h.1 hc
      refine wp_iload dX6_premium_119 rfl ?_
      exact wp_iret dX6_premium_121 rfl ⟨_, rfl, rfl, rfl, rfl, h⟩
    · replace h := h.2 hc
      refine wp_iload_n dX6_premium_115 rfl ?_
      refine wp_goto 121 dX6_premium_116 (by decide) ?_
      exact wp_iret dX6_premium_121 rfl ⟨_, rfl, rfl, rfl, rfl, h⟩
  · replace h := h.2 (Int32.not_le.mp hc)
    refine wp_aload_n dX6_premium_50 rfl ?_
    refine wp_iconst (v := 2) dX6_premium_51 rfl ?_
    refine wp_iload dX6_premium_52 rfl ?_
    refine wp_imul dX6_premium_54 ?_
    refine wp_iconst (v := 1) dX6_premium_55 rfl ?_
    refine wp_iadd dX6_premium_56 ?_
    refine wq_VI1 lk6_379 rfl (tb_214 hT) (tk_214 hT) dX6_premium_57 h (rmQ_ok (by decide) (by decide)) ⟨Nat.le_refl _, Nat.le_refl _⟩ (Nat.le_of_ble_eq_true rfl) (fun r57 V57 h => ?_)
    refine wp_bipush (v := 10) dX6_premium_60 rfl ?_
    refine wp_icmp_le 68 dX6_premium_62 (by decide) (fun hc => ?_) (fun hc => ?_)
    · replace h := h.1 hc
      refine wp_iload_n dX6_premium_68 rfl ?_
      refine wp_aload_n dX6_premium_69 rfl ?_
      refine wp_iconst (v := 2) dX6_premium_70 rfl ?_
      refine wp_iload dX6_premium_71 rfl ?_
      refine wp_imul dX6_premium_73 ?_
      refine wq_VI1 lk6_379 rfl (tb_214 hT) (tk_214 hT) dX6_premium_74 h (rmQ_ok (by decide) (by decide)) ⟨Nat.le_refl _, Nat.le_refl _⟩ (Nat.le_of_ble_eq_true rfl) (fun r74 V74 h => ?_)
      refine wp_aload_n dX6_premium_77 rfl ?_
      refine wp_iconst (v := 2) dX6_premium_78 rfl ?_
      refine wp_iload dX6_premium_79 rfl ?_
      refine wp_imul dX6_premium_81 ?_
      refine wp_iconst (v := 1) dX6_premium_82 rfl ?_
      refine wp_iadd dX6_premium_83 ?_
      refine wq_VI1 lk6_379 rfl (tb_214 hT) (tk_214 hT) dX6_premium_84 h (rmQ_ok (by decide) (by decide)) ⟨Nat.le_refl _, Nat.le_refl _⟩ (Nat.le_of_ble_eq_true rfl) (fun r84 V84 h => ?_)
      refine wp_imul dX6_premium_87 ?_
      refine wp_iadd dX6_premium_88 ?_
      refine wi6_3 dX6_premium_89 ?_
      refine wp_iload dX6_premium_90 rfl ?_
      refine wp_aload_n dX6_premium_92 rfl ?_
      refine wp_iconst (v := 2) dX6_premium_93 rfl ?_
      refine wp_iload dX6_premium_94 rfl ?_
      refine wp_imul dX6_premium_96 ?_
      refine wp_iconst (v := 1) dX6_premium_97 rfl ?_
      refine wp_iadd dX6_premium_98 ?_
      refine wq_VI1 lk6_379 rfl (tb_214 hT) (tk_214 hT) dX6_premium_99 h (rmQ_ok (by decide) (by decide)) ⟨Nat.le_refl _, Nat.le_refl _⟩ (Nat.le_of_ble_eq_true rfl) (fun r99 V99 h => ?_)
      refine wp_imul dX6_premium_102 ?_
      refine wi6_4 dX6_premium_103 ?_
      refine wc6_5 1 dX6_premium_105 rfl ?_
      refine wp_goto 44 dX6_premium_108 (by decide) ?_
      exact h
    · replace h := h.2 (Int32.not_le.mp hc)
      refine wp_bipush (v := (-2)) dX6_premium_65 rfl ?_
      exact wp_iret dX6_premium_67 rfl ⟨_, rfl, rfl, rfl, rfl, h⟩
theorem n6_premium {E : eT} {Q : Int32 → vT → Prop} {V : vT} {x1 x2 : Int32} (h : w6_premium E Q 0 [some (vr 214), some (vi x1), some (vi x2), none, none, none] [] V) : c6_premium E x1 x2 V Q := MOk.enter [some (vr 214), some (vi x1), some (vi x2), none, none, none] pn_6 rfl rfl (Nat.le_of_ble_eq_true rfl) rfl h
theorem b6_seed_0 {E : eT} {Q : Int32 → vT → Prop} {V : vT} {x1 : Int32} (hT : TW E) (h : c6_in E x1 0 65535 V (fun r5 V5 => (¬ r5 = 0 → Q 1 (up2 V5 215 314 x1)) ∧ (r5 = 0 → Q 0 V5))) : w6_seed E Q 0 [some (vr 214), some (vi x1)] [] V := by
  refine wp_iload_n dX6_seed_0 rfl ?_
  refine wp_iconst (v := 0) dX6_seed_1 rfl ?_
  refine wp_ldcw (v := 65535) dX6_seed_2 q1713 ?_
  refine wq_SI3 lk6_102 dX6_seed_5 h (rmQ_ok (by decide) (by decide)) ⟨Nat.le_refl _, Nat.le_refl _⟩ (Nat.le_of_ble_eq_true rfl) (fun r5 V5 h => ?_)
  refine wp_if_ne 13 dX6_seed_8 (by decide) (fun hc => ?_) (fun hc => ?_)
  · replace h := h.1 hc
    refine wp_aload_n dX6_seed_13 rfl ?_
    refine wp_getrs dX6_seed_14 fk6_7 (tb_214 hT) (tk_214 hT) rfl (tr_0 hT) ?_
    refine wp_sipush (v := 314) dX6_seed_17 rfl ?_
    refine wp_iload_n dX6_seed_20 rfl ?_
    refine wp_iast_k 314 dX6_seed_21 (tb_215 hT) (tk_215 hT) rfl (by decide) (by decide) ?_
    refine wp_iconst (v := 1) dX6_seed_22 rfl ?_
    exact wp_iret dX6_seed_23 rfl ⟨_, rfl, rfl, rfl, rfl, h⟩
  · replace h := h.2 hc
    refine wp_iconst (v := 0) dX6_seed_11 rfl ?_
    exact wp_iret dX6_seed_12 rfl ⟨_, rfl, rfl, rfl, rfl, h⟩
theorem n6_seed {E : eT} {Q : Int32 → vT → Prop} {V : vT} {x1 : Int32} (h : w6_seed E Q 0 [some (vr 214), some (vi x1)] [] V) : c6_seed E x1 V Q := MOk.enter [some (vr 214), some (vi x1)] pn_6 rfl rfl (Nat.le_of_ble_eq_true rfl) rfl h
theorem b6_keep_0 {E : eT} {Q : Int32 → vT → Prop} {V : vT} (hT : TW E) (h : c6_copies E 215 217 (up2 V 214 45 1) (fun V13 => Q (V13 215 313) V13)) : w6_keep E Q 0 [some (vr 214)] [] V := by
  refine wp_aload_n dX6_keep_0 rfl ?_
  refine wp_iconst (v := 1) dX6_keep_1 rfl ?_
  refine wp_putz dX6_keep_2 fp6_400 (tb_214 hT) (tk_214 hT) rfl (by decide) ?_
  refine wp_aload_n dX6_keep_5 rfl ?_
  refine wp_getrs dX6_keep_6 fk6_7 (tb_214 hT) (tk_214 hT) rfl (tr_0 hT) ?_
  refine wp_aload_n dX6_keep_9 rfl ?_
  refine wp_getrs dX6_keep_10 fk6_16 (tb_214 hT) (tk_214 hT) rfl (tr_2 hT) ?_
  refine wq_SV2 lk6_271 dX6_keep_13 h (rmQ_ok (by decide) (by decide)) ⟨Nat.le_refl _, Nat.le_refl _⟩ (Nat.le_of_ble_eq_true rfl) (fun V13 h => ?_)
  refine wp_aload_n dX6_keep_16 rfl ?_
  refine wp_getrs dX6_keep_17 fk6_7 (tb_214 hT) (tk_214 hT) rfl (tr_0 hT) ?_
  refine wp_sipush (v := 313) dX6_keep_20 rfl ?_
  refine wp_iald_k 313 dX6_keep_23 (tb_215 hT).2 (tk_215 hT) rfl (by decide) (by decide) ?_
  exact wp_iret dX6_keep_24 rfl ⟨_, rfl, rfl, rfl, rfl, h⟩
theorem n6_keep {E : eT} {Q : Int32 → vT → Prop} {V : vT} (h : w6_keep E Q 0 [some (vr 214)] [] V) : c6_keep E V Q := MOk.enter [some (vr 214)] pn_6 rfl rfl (Nat.le_of_ble_eq_true rfl) rfl h
theorem b6_undo_0 {E : eT} {Q : Int32 → vT → Prop} {V : vT} (hT : TW E) (h : (¬ (V 214 45) = 0 → c6_copies E 217 215 V (fun V17 => w6_undo E Q 22 [some (vr 214), some (vi 0)] [] V17)) ∧ ((V 214 45) = 0 → Q 0 V)) : w6_undo E Q 0 [some (vr 214), none] [] V := by
  refine wp_aload_n dX6_undo_0 rfl ?_
  refine wp_geti dX6_undo_1 fk6_400 (tb_214 hT) (tk_214 hT) rfl ?_
  refine wp_if_ne 9 dX6_undo_4 (by decide) (fun hc => ?_) (fun hc => ?_)
  · replace h := h.1 hc
    refine wp_aload_n dX6_undo_9 rfl ?_
    refine wp_getrs dX6_undo_10 fk6_16 (tb_214 hT) (tk_214 hT) rfl (tr_2 hT) ?_
    refine wp_aload_n dX6_undo_13 rfl ?_
    refine wp_getrs dX6_undo_14 fk6_7 (tb_214 hT) (tk_214 hT) rfl (tr_0 hT) ?_
    refine wq_SV2 lk6_271 dX6_undo_17 h (rmQ_ok (by decide) (by decide)) ⟨Nat.le_refl _, Nat.le_refl _⟩ (Nat.le_of_ble_eq_true rfl) (fun V17 h => ?_)
    refine wp_iconst (v := 0) dX6_undo_20 rfl ?_
    refine wi2_1 dX6_undo_21 ?_
    exact h
  · replace h := h.2 hc
    refine wp_iconst (v := 0) dX6_undo_7 rfl ?_
    exact wp_iret dX6_undo_8 rfl ⟨_, rfl, rfl, rfl, rfl, h⟩
theorem b6_undo_22 {E : eT} {Q : Int32 → vT → Prop} {V : vT} {x1 : Int32} (hT : TW E) (h : (96 ≤ x1 → Q 1 V) ∧ (x1 < 96 → c6_isWood E x1 V (fun r30 V30 => (¬ r30 = 0 → w6_undo E Q 22 [some (vr 214), some (vi (x1 + 1))] [] V30) ∧ (r30 = 0 → c6_becomesWhole E x1 V30 (fun V38 => w6_undo E Q 22 [some (vr 214), some (vi (x1 + 1))] [] V38))))) : w6_undo E Q 22 [some (vr 214), some (vi x1)] [] V := by
  refine wp_iload_n dX6_undo_22 rfl ?_
  refine wp_bipush (v := 96) dX6_undo_23 rfl ?_
  refine wp_icmp_ge 47 dX6_undo_25 (by decide) (fun hc => ?_) (fun hc => ?_)
  · replace h := h.1 hc
    refine wp_iconst (v := 1) dX6_undo_47 rfl ?_
    exact wp_iret dX6_undo_48 rfl ⟨_, rfl, rfl, rfl, rfl, h⟩
  · replace h := h.2 (Int32.not_le.mp hc)
    refine wp_aload_n dX6_undo_28 rfl ?_
    refine wp_iload_n dX6_undo_29 rfl ?_
    refine wq_VI1 lk6_241 rfl (tb_214 hT) (tk_214 hT) dX6_undo_30 h (rmQ_ok (by decide) (by decide)) ⟨Nat.le_refl _, Nat.le_refl _⟩ (Nat.le_of_ble_eq_true rfl) (fun r30 V30 h => ?_)
    refine wp_if_ne 41 dX6_undo_33 (by decide) (fun hc => ?_) (fun hc => ?_)
    · replace h := h.1 hc
      refine wc2_1 1 dX6_undo_41 rfl ?_
      refine wp_goto 22 dX6_undo_44 (by decide) ?_
      exact h
    · replace h := h.2 hc
      refine wp_aload_n dX6_undo_36 rfl ?_
      refine wp_iload_n dX6_undo_37 rfl ?_
      refine wq_VV1 lk6_238 rfl (tb_214 hT) (tk_214 hT) dX6_undo_38 h (rmQ_ok (by decide) (by decide)) ⟨Nat.le_refl _, Nat.le_refl _⟩ (Nat.le_of_ble_eq_true rfl) (fun V38 h => ?_)
      refine wc2_1 1 dX6_undo_41 rfl ?_
      refine wp_goto 22 dX6_undo_44 (by decide) ?_
      exact h
theorem n6_undo {E : eT} {Q : Int32 → vT → Prop} {V : vT} (h : w6_undo E Q 0 [some (vr 214), none] [] V) : c6_undo E V Q := MOk.enter [some (vr 214), none] pn_6 rfl rfl (Nat.le_of_ble_eq_true rfl) rfl h
theorem b6_check_0 {E : eT} {Q : Int32 → vT → Prop} {V : vT} {x1 : Int32} (hT : TW E) (h : c6_in E x1 0 24 V (fun r4 V4 => (r4 = 0 → Q (-2) V4) ∧ (¬ r4 = 0 → (x1 ≤ (V4 214 6) → w6_check E Q 28 [some (vr 214), some (vi x1), some (vi 0)] [] (up2 V4 214 6 0)) ∧ ((V4 214 6) < x1 → Q (-2) V4)))) : w6_check E Q 0 [some (vr 214), some (vi x1), none] [] V := by
  refine wp_iload_n dX6_check_0 rfl ?_
  refine wp_iconst (v := 0) dX6_check_1 rfl ?_
  refine wp_bipush (v := 24) dX6_check_2 rfl ?_
  refine wq_SI3 lk6_102 dX6_check_4 h (rmQ_ok (by decide) (by decide)) ⟨Nat.le_refl _, Nat.le_refl _⟩ (Nat.le_of_ble_eq_true rfl) (fun r4 V4 h => ?_)
  refine wp_if_eq 18 dX6_check_7 (by decide) (fun hc => ?_) (fun hc => ?_)
  · replace h := h.1 hc
    refine wp_bipush (v := (-2)) dX6_check_18 rfl ?_
    exact wp_iret dX6_check_20 rfl ⟨_, rfl, rfl, rfl, rfl, h⟩
  · replace h := h.2 hc
    refine wp_iload_n dX6_check_10 rfl ?_
    refine wp_aload_n dX6_check_11 rfl ?_
    refine wp_geti dX6_check_12 fk6_117 (tb_214 hT) (tk_214 hT) rfl ?_
    refine wp_icmp_le 21 dX6_check_15 (by decide) (fun hc => ?_) (fun hc => ?_)
    · replace h := h.1 hc
      refine wp_aload_n dX6_check_21 rfl ?_
      refine wp_iconst (v := 0) dX6_check_22 rfl ?_
      refine wp_puti dX6_check_23 fp6_117 (tb_214 hT) (tk_214 hT) rfl ?_
      refine wp_iconst (v := 0) dX6_check_26 rfl ?_
      refine wi3_2 dX6_check_27 ?_
      exact h
    · replace h := h.2 (Int32.not_le.mp hc)
      refine wp_bipush (v := (-2)) dX6_check_18 rfl ?_
      exact wp_iret dX6_check_20 rfl ⟨_, rfl, rfl, rfl, rfl, h⟩
theorem b6_check_28 {E : eT} {Q : Int32 → vT → Prop} {V : vT} {x1 x2 : Int32} (hT : TW E) (h : (x1 ≤ x2 → Q (-1) V) ∧ (x2 < x1 → c6_octet E x2 V (fun r35 V35 => c6_isThing E x2 V35 (fun r40 V40 => (r40 = 0 → (r35 = 0 → w6_check E Q 28 [some (vr 214), some (vi x1), some (vi (x2 + 1))] [] V40) ∧ (¬ r35 = 0 → Q x2 V40)) ∧ (¬ r40 = 0 → vp_in (288 + x2) 315 ∧ ((¬ (V40 215 ((288 + x2).toNatClampNeg)) = 0 → (r35 = 0 → w6_check E Q 28 [some (vr 214), some (vi x1), some (vi (x2 + 1))] [] V40) ∧ (¬ r35 = 0 → Q x2 V40)) ∧ ((V40 215 ((288 + x2).toNatClampNeg)) = 0 → vp_in (240 + x2) 315 ∧ ((r35 = (rmd (V40 215 ((240 + x2).toNatClampNeg)) 256) → w6_check E Q 28 [some (vr 214), some (vi x1), some (vi (x2 + 1))] [] V40) ∧ (¬ r35 = (rmd (V40 215 ((240 + x2).toNatClampNeg)) 256) → Q x2 V40))))))))) : w6_check E Q 28 [some (vr 214), some (vi x1), some (vi x2)] [] V := by
  refine wp_iload_n dX6_check_28 rfl ?_
  refine wp_iload_n dX6_check_29 rfl ?_
  refine wp_icmp_ge 88 dX6_check_30 (by decide) (fun hc => ?_) (fun hc => ?_)
  · replace h := h.1 hc
    refine wp_iconst (v := (-1)) dX6_check_88 rfl ?_
    exact wp_iret dX6_check_89 rfl ⟨_, rfl, rfl, rfl, rfl, h⟩
  · replace h := h.2 (Int32.not_le.mp hc)
    refine wp_aload_n dX6_check_33 rfl ?_
    refine wp_iload_n dX6_check_34 rfl ?_
    refine wq_VI1 lk6_379 rfl (tb_214 hT) (tk_214 hT) dX6_check_35 h (rmQ_ok (by decide) (by decide)) ⟨Nat.le_refl _, Nat.le_refl _⟩ (Nat.le_of_ble_eq_true rfl) (fun r35 V35 h => ?_)
    refine wp_aload_n dX6_check_38 rfl ?_
    refine wp_iload_n dX6_check_39 rfl ?_
    refine wq_VI1 lk6_114 rfl (tb_214 hT) (tk_214 hT) dX6_check_40 h (rmQ_ok (by decide) (by decide)) ⟨Nat.le_refl _, Nat.le_refl _⟩ (Nat.le_of_ble_eq_true rfl) (fun r40 V40 h => ?_)
    refine wp_if_eq 76 dX6_check_43 (by decide) (fun hc => ?_) (fun hc => ?_)
    · replace h := h.1 hc
      refine wp_iconst (v := 0) dX6_check_76 rfl ?_
      refine wp_icmp_eq 82 dX6_check_77 (by decide) (fun hc => ?_) (fun hc => ?_)
      · replace h := h.1 hc
        refine wc3_2 1 dX6_check_82 rfl ?_
        refine wp_goto 28 dX6_check_85 (by decide) ?_
        exact h
      · replace h := h.2 hc
        refine wp_iload_n dX6_check_80 rfl ?_
        exact wp_iret dX6_check_81 rfl ⟨_, rfl, rfl, rfl, rfl, h⟩
    · replace h := h.2 hc
      refine wp_aload_n dX6_check_46 rfl ?_
      refine wp_getrs dX6_check_47 fk6_7 (tb_214 hT) (tk_214 hT) rfl (tr_0 hT) ?_
      refine wp_sipush (v := 288) dX6_check_50 rfl ?_
      refine wp_iload_n dX6_check_53 rfl ?_
      refine wp_iadd dX6_check_54 ?_
      refine wp_iald dX6_check_55 (tb_215 hT).2 (tk_215 hT) h.1 ?_
      replace h := h.2
      refine wp_if_ne 76 dX6_check_56 (by decide) (fun hc => ?_) (fun hc => ?_)
      · replace h := h.1 hc
        refine wp_iconst (v := 0) dX6_check_76 rfl ?_
        refine wp_icmp_eq 82 dX6_check_77 (by decide) (fun hc => ?_) (fun hc => ?_)
        · replace h := h.1 hc
          refine wc3_2 1 dX6_check_82 rfl ?_
          refine wp_goto 28 dX6_check_85 (by decide) ?_
          exact h
        · replace h := h.2 hc
          refine wp_iload_n dX6_check_80 rfl ?_
          exact wp_iret dX6_check_81 rfl ⟨_, rfl, rfl, rfl, rfl, h⟩
      · replace h := h.2 hc
        refine wp_aload_n dX6_check_59 rfl ?_
        refine wp_getrs dX6_check_60 fk6_7 (tb_214 hT) (tk_214 hT) rfl (tr_0 hT) ?_
        refine wp_sipush (v := 240) dX6_check_63 rfl ?_
        refine wp_iload_n dX6_check_66 rfl ?_
        refine wp_iadd dX6_check_67 ?_
        refine wp_iald dX6_check_68 (tb_215 hT).2 (tk_215 hT) h.1 ?_
        replace h := h.2
        refine wp_sipush (v := 256) dX6_check_69 rfl ?_
        refine wp_irm dX6_check_72 (by decide) ?_
        refine wp_goto 77 dX6_check_73 (by decide) ?_
        refine wp_icmp_eq 82 dX6_check_77 (by decide) (fun hc => ?_) (fun hc => ?_)
        · replace h := h.1 hc
          refine wc3_2 1 dX6_check_82 rfl ?_
          refine wp_goto 28 dX6_check_85 (by decide) ?_
          exact h
        · replace h := h.2 hc
          refine wp_iload_n dX6_check_80 rfl ?_
          exact wp_iret dX6_check_81 rfl ⟨_, rfl, rfl, rfl, rfl, h⟩
theorem n6_check {E : eT} {Q : Int32 → vT → Prop} {V : vT} {x1 : Int32} (h : w6_check E Q 0 [some (vr 214), some (vi x1), none] [] V) : c6_check E x1 V Q := MOk.enter [some (vr 214), some (vi x1), none] pn_6 rfl rfl (Nat.le_of_ble_eq_true rfl) rfl h
theorem b6_count_0 {E : eT} {Q : Int32 → vT → Prop} {V : vT} {x1 : Int32} (hT : TW E) (h : (x1 = 0 → Q (V 215 313) V) ∧ (x1 = 1 → c6_toldSet E V (fun r66 V66 => Q r66 V66)) ∧ (x1 = 2 → c6_goneSet E V (fun r71 V71 => Q r71 V71)) ∧ (x1 = 3 → c6_faring E 1 V (fun r77 V77 => Q r77 V77)) ∧ (x1 = 4 → c6_faring E 2 V (fun r83 V83 => Q r83 V83)) ∧ (x1 = 5 → Q (V 215 312) V) ∧ (x1 = 6 → Q (V 214 15) V) ∧ (x1 = 7 → Q (V 214 6) V) ∧ (x1 = 8 → Q (V 215 314) V) ∧ (x1 = 9 → c6_lostAll E V (fun r116 V116 => Q r116 V116)) ∧ (¬ x1 = 0 → ¬ x1 = 1 → ¬ x1 = 2 → ¬ x1 = 3 → ¬ x1 = 4 → ¬ x1 = 5 → ¬ x1 = 6 → ¬ x1 = 7 → ¬ x1 = 8 → ¬ x1 = 9 → Q (-1) V)) : w6_count E Q 0 [some (vr 214), some (vi x1)] [] V := by
  refine wp_iload_n dX6_count_0 rfl ?_
  by_cases hc0 : x1 = 0
  · replace h := h.1 hc0
    rw [hc0]
    refine wp_tableIn 56 dX6_count_1 (by decide) (by decide) rfl (by decide) ?_
    refine wp_aload_n dX6_count_56 rfl ?_
    refine wp_getrs dX6_count_57 fk6_7 (tb_214 hT) (tk_214 hT) rfl (tr_0 hT) ?_
    refine wp_sipush (v := 313) dX6_count_60 rfl ?_
    refine wp_iald_k 313 dX6_count_63 (tb_215 hT).2 (tk_215 hT) rfl (by decide) (by decide) ?_
    exact wp_iret dX6_count_64 rfl ⟨_, rfl, rfl, rfl, rfl, h⟩
  · skip
    by_cases hc1 : x1 = 1
    · replace h := h.2.1 hc1
      rw [hc1]
      refine wp_tableIn 65 dX6_count_1 (by decide) (by decide) rfl (by decide) ?_
      refine wp_aload_n dX6_count_65 rfl ?_
      refine wq_VI0 lk6_404 rfl (tb_214 hT) (tk_214 hT) dX6_count_66 h (rmQ_ok (by decide) (by decide)) ⟨Nat.le_refl _, Nat.le_refl _⟩ (Nat.le_of_ble_eq_true rfl) (fun r66 V66 h => ?_)
      exact wp_iret dX6_count_69 rfl ⟨_, rfl, rfl, rfl, rfl, h⟩
    · skip
      by_cases hc2 : x1 = 2
      · replace h := h.2.2.1 hc2
        rw [hc2]
        refine wp_tableIn 70 dX6_count_1 (by decide) (by decide) rfl (by decide) ?_
        refine wp_aload_n dX6_count_70 rfl ?_
        refine wq_VI0 lk6_328 rfl (tb_214 hT) (tk_214 hT) dX6_count_71 h (rmQ_ok (by decide) (by decide)) ⟨Nat.le_refl _, Nat.le_refl _⟩ (Nat.le_of_ble_eq_true rfl) (fun r71 V71 h => ?_)
        exact wp_iret dX6_count_74 rfl ⟨_, rfl, rfl, rfl, rfl, h⟩
      · skip
        by_cases hc3 : x1 = 3
        · replace h := h.2.2.2.1 hc3
          rw [hc3]
          refine wp_tableIn 75 dX6_count_1 (by decide) (by decide) rfl (by decide) ?_
          refine wp_aload_n dX6_count_75 rfl ?_
          refine wp_iconst (v := 1) dX6_count_76 rfl ?_
          refine wq_VI1 lk6_325 rfl (tb_214 hT) (tk_214 hT) dX6_count_77 h (rmQ_ok (by decide) (by decide)) ⟨Nat.le_refl _, Nat.le_refl _⟩ (Nat.le_of_ble_eq_true rfl) (fun r77 V77 h => ?_)
          exact wp_iret dX6_count_80 rfl ⟨_, rfl, rfl, rfl, rfl, h⟩
        · skip
          by_cases hc4 : x1 = 4
          · replace h := h.2.2.2.2.1 hc4
            rw [hc4]
            refine wp_tableIn 81 dX6_count_1 (by decide) (by decide) rfl (by decide) ?_
            refine wp_aload_n dX6_count_81 rfl ?_
            refine wp_iconst (v := 2) dX6_count_82 rfl ?_
            refine wq_VI1 lk6_325 rfl (tb_214 hT) (tk_214 hT) dX6_count_83 h (rmQ_ok (by decide) (by decide)) ⟨Nat.le_refl _, Nat.le_refl _⟩ (Nat.le_of_ble_eq_true rfl) (fun r83 V83 h => ?_)
            exact wp_iret dX6_count_86 rfl ⟨_, rfl, rfl, rfl, rfl, h⟩
          · skip
            by_cases hc5 : x1 = 5
            · replace h := h.2.2.2.2.2.1 hc5
              rw [hc5]
              refine wp_tableIn 87 dX6_count_1 (by decide) (by decide) rfl (by decide) ?_
              refine wp_aload_n dX6_count_87 rfl ?_
              refine wp_getrs dX6_count_88 fk6_7 (tb_214 hT) (tk_214 hT) rfl (tr_0 hT) ?_
              refine wp_sipush (v := 312) dX6_count_91 rfl ?_
              refine wp_iald_k 312 dX6_count_94 (tb_215 hT).2 (tk_215 hT) rfl (by decide) (by decide) ?_
              exact wp_iret dX6_count_95 rfl ⟨_, rfl, rfl, rfl, rfl, h⟩
            · skip
              by_cases hc6 : x1 = 6
              · replace h := h.2.2.2.2.2.2.1 hc6
                rw [hc6]
                refine wp_tableIn 96 dX6_count_1 (by decide) (by decide) rfl (by decide) ?_
                refine wp_aload_n dX6_count_96 rfl ?_
                refine wp_geti dX6_count_97 fk6_218 (tb_214 hT) (tk_214 hT) rfl ?_
                exact wp_iret dX6_count_100 rfl ⟨_, rfl, rfl, rfl, rfl, h⟩
              · skip
                by_cases hc7 : x1 = 7
                · replace h := h.2.2.2.2.2.2.2.1 hc7
                  rw [hc7]
                  refine wp_tableIn 101 dX6_count_1 (by decide) (by decide) rfl (by decide) ?_
                  refine wp_aload_n dX6_count_101 rfl ?_
                  refine wp_geti dX6_count_102 fk6_117 (tb_214 hT) (tk_214 hT) rfl ?_
                  exact wp_iret dX6_count_105 rfl ⟨_, rfl, rfl, rfl, rfl, h⟩
                · skip
                  by_cases hc8 : x1 = 8
                  · replace h := h.2.2.2.2.2.2.2.2.1 hc8
                    rw [hc8]
                    refine wp_tableIn 106 dX6_count_1 (by decide) (by decide) rfl (by decide) ?_
                    refine wp_aload_n dX6_count_106 rfl ?_
                    refine wp_getrs dX6_count_107 fk6_7 (tb_214 hT) (tk_214 hT) rfl (tr_0 hT) ?_
                    refine wp_sipush (v := 314) dX6_count_110 rfl ?_
                    refine wp_iald_k 314 dX6_count_113 (tb_215 hT).2 (tk_215 hT) rfl (by decide) (by decide) ?_
                    exact wp_iret dX6_count_114 rfl ⟨_, rfl, rfl, rfl, rfl, h⟩
                  · skip
                    by_cases hc9 : x1 = 9
                    · replace h := h.2.2.2.2.2.2.2.2.2.1 hc9
                      rw [hc9]
                      refine wp_tableIn 115 dX6_count_1 (by decide) (by decide) rfl (by decide) ?_
                      refine wp_aload_n dX6_count_115 rfl ?_
                      refine wq_VI0 lk6_407 rfl (tb_214 hT) (tk_214 hT) dX6_count_116 h (rmQ_ok (by decide) (by decide)) ⟨Nat.le_refl _, Nat.le_refl _⟩ (Nat.le_of_ble_eq_true rfl) (fun r116 V116 h => ?_)
                      exact wp_iret dX6_count_119 rfl ⟨_, rfl, rfl, rfl, rfl, h⟩
                    · skip
                      replace h := h.2.2.2.2.2.2.2.2.2.2 hc0 hc1 hc2 hc3 hc4 hc5 hc6 hc7 hc8 hc9
                      refine wp_tableD 120 dX6_count_1 (fun j9 h8 h9 => ?_) (by decide) ?_
                      · rcases (show j9 = 0 ∨ j9 = 1 ∨ j9 = 2 ∨ j9 = 3 ∨ j9 = 4 ∨ j9 = 5 ∨ j9 = 6 ∨ j9 = 7 ∨ j9 = 8 ∨ j9 = 9 by omega) with rfl | rfl | rfl | rfl | rfl | rfl | rfl | rfl | rfl | rfl
                        · exact absurd h9 (tab_ne hc0 (by decide))
                        · exact absurd h9 (tab_ne hc1 (by decide))
                        · exact absurd h9 (tab_ne hc2 (by decide))
                        · exact absurd h9 (tab_ne hc3 (by decide))
                        · exact absurd h9 (tab_ne hc4 (by decide))
                        · exact absurd h9 (tab_ne hc5 (by decide))
                        · exact absurd h9 (tab_ne hc6 (by decide))
                        · exact absurd h9 (tab_ne hc7 (by decide))
                        · exact absurd h9 (tab_ne hc8 (by decide))
                        · exact absurd h9 (tab_ne hc9 (by decide))
                      refine wp_iconst (v := (-1)) dX6_count_120 rfl ?_
                      exact wp_iret dX6_count_121 rfl ⟨_, rfl, rfl, rfl, rfl, h⟩
theorem n6_count {E : eT} {Q : Int32 → vT → Prop} {V : vT} {x1 : Int32} (h : w6_count E Q 0 [some (vr 214), some (vi x1)] [] V) : c6_count E x1 V Q := MOk.enter [some (vr 214), some (vi x1)] pn_6 rfl rfl (Nat.le_of_ble_eq_true rfl) rfl h
theorem b6_toldSet_0 {E : eT} {Q : Int32 → vT → Prop} {V : vT} (hT : TW E) (h : w6_toldSet E Q 4 [some (vr 214), some (vi 0), some (vi 0)] [] V) : w6_toldSet E Q 0 [some (vr 214), none, none] [] V := by
  refine wp_iconst (v := 0) dX6_toldSet_0 rfl ?_
  refine wi3_1 dX6_toldSet_1 ?_
  refine wp_iconst (v := 0) dX6_toldSet_2 rfl ?_
  refine wi3_2 dX6_toldSet_3 ?_
  exact h
theorem b6_toldSet_4 {E : eT} {Q : Int32 → vT → Prop} {V : vT} {x1 x2 : Int32} (hT : TW E) (h : (24 ≤ x2 → Q x1 V) ∧ (x2 < 24 → c6_isThing E x2 V (fun r12 V12 => (r12 = 0 → w6_toldSet E Q 4 [some (vr 214), some (vi x1), some (vi (x2 + 1))] [] V12) ∧ (¬ r12 = 0 → w6_toldSet E Q 4 [some (vr 214), some (vi (x1 ||| ((1 : Int32) <<< (x2 &&& 31)))), some (vi (x2 + 1))] [] V12)))) : w6_toldSet E Q 4 [some (vr 214), some (vi x1), some (vi x2)] [] V := by
  refine wp_iload_n dX6_toldSet_4 rfl ?_
  refine wp_bipush (v := 24) dX6_toldSet_5 rfl ?_
  refine wp_icmp_ge 30 dX6_toldSet_7 (by decide) (fun hc => ?_) (fun hc => ?_)
  · replace h := h.1 hc
    refine wp_iload_n dX6_toldSet_30 rfl ?_
    exact wp_iret dX6_toldSet_31 rfl ⟨_, rfl, rfl, rfl, rfl, h⟩
  · replace h := h.2 (Int32.not_le.mp hc)
    refine wp_aload_n dX6_toldSet_10 rfl ?_
    refine wp_iload_n dX6_toldSet_11 rfl ?_
    refine wq_VI1 lk6_114 rfl (tb_214 hT) (tk_214 hT) dX6_toldSet_12 h (rmQ_ok (by decide) (by decide)) ⟨Nat.le_refl _, Nat.le_refl _⟩ (Nat.le_of_ble_eq_true rfl) (fun r12 V12 h => ?_)
    refine wp_if_eq 24 dX6_toldSet_15 (by decide) (fun hc => ?_) (fun hc => ?_)
    · replace h := h.1 hc
      refine wc3_2 1 dX6_toldSet_24 rfl ?_
      refine wp_goto 4 dX6_toldSet_27 (by decide) ?_
      exact h
    · replace h := h.2 hc
      refine wp_iload_n dX6_toldSet_18 rfl ?_
      refine wp_iconst (v := 1) dX6_toldSet_19 rfl ?_
      refine wp_iload_n dX6_toldSet_20 rfl ?_
      refine wp_ishl dX6_toldSet_21 ?_
      refine wp_ior dX6_toldSet_22 ?_
      refine wi3_1 dX6_toldSet_23 ?_
      refine wc3_2 1 dX6_toldSet_24 rfl ?_
      refine wp_goto 4 dX6_toldSet_27 (by decide) ?_
      exact h
theorem n6_toldSet {E : eT} {Q : Int32 → vT → Prop} {V : vT} (h : w6_toldSet E Q 0 [some (vr 214), none, none] [] V) : c6_toldSet E V Q := MOk.enter [some (vr 214), none, none] pn_6 rfl rfl (Nat.le_of_ble_eq_true rfl) rfl h
theorem b6_lostAll_0 {E : eT} {Q : Int32 → vT → Prop} {V : vT} (hT : TW E) (h : w6_lostAll E Q 4 [some (vr 214), some (vi 0), some (vi 0)] [] V) : w6_lostAll E Q 0 [some (vr 214), none, none] [] V := by
  refine wp_iconst (v := 0) dX6_lostAll_0 rfl ?_
  refine wi3_1 dX6_lostAll_1 ?_
  refine wp_iconst (v := 0) dX6_lostAll_2 rfl ?_
  refine wi3_2 dX6_lostAll_3 ?_
  exact h
theorem b6_lostAll_4 {E : eT} {Q : Int32 → vT → Prop} {V : vT} {x1 x2 : Int32} (hT : TW E) (h : (24 ≤ x2 → Q x1 V) ∧ (x2 < 24 → c6_goneSet E V (fun r11 V11 => c6_has E r11 x2 V11 (fun r15 V15 => (r15 = 0 → w6_lostAll E Q 4 [some (vr 214), some (vi x1), some (vi (x2 + 1))] [] V15) ∧ (¬ r15 = 0 → vp_in (240 + x2) 315 ∧ (w6_lostAll E Q 4 [some (vr 214), some (vi (x1 + (V15 215 ((240 + x2).toNatClampNeg)))), some (vi (x2 + 1))] [] V15)))))) : w6_lostAll E Q 4 [some (vr 214), some (vi x1), some (vi x2)] [] V := by
  refine wp_iload_n dX6_lostAll_4 rfl ?_
  refine wp_bipush (v := 24) dX6_lostAll_5 rfl ?_
  refine wp_icmp_ge 40 dX6_lostAll_7 (by decide) (fun hc => ?_) (fun hc => ?_)
  · replace h := h.1 hc
    refine wp_iload_n dX6_lostAll_40 rfl ?_
    exact wp_iret dX6_lostAll_41 rfl ⟨_, rfl, rfl, rfl, rfl, h⟩
  · replace h := h.2 (Int32.not_le.mp hc)
    refine wp_aload_n dX6_lostAll_10 rfl ?_
    refine wq_VI0 lk6_328 rfl (tb_214 hT) (tk_214 hT) dX6_lostAll_11 h (rmQ_ok (by decide) (by decide)) ⟨Nat.le_refl _, Nat.le_refl _⟩ (Nat.le_of_ble_eq_true rfl) (fun r11 V11 h => ?_)
    refine wp_iload_n dX6_lostAll_14 rfl ?_
    refine wq_SI2 lk6_376 dX6_lostAll_15 h (rmQ_ok (by decide) (by decide)) ⟨Nat.le_refl _, Nat.le_refl _⟩ (Nat.le_of_ble_eq_true rfl) (fun r15 V15 h => ?_)
    refine wp_if_eq 34 dX6_lostAll_18 (by decide) (fun hc => ?_) (fun hc => ?_)
    · replace h := h.1 hc
      refine wc3_2 1 dX6_lostAll_34 rfl ?_
      refine wp_goto 4 dX6_lostAll_37 (by decide) ?_
      exact h
    · replace h := h.2 hc
      refine wp_iload_n dX6_lostAll_21 rfl ?_
      refine wp_aload_n dX6_lostAll_22 rfl ?_
      refine wp_getrs dX6_lostAll_23 fk6_7 (tb_214 hT) (tk_214 hT) rfl (tr_0 hT) ?_
      refine wp_sipush (v := 240) dX6_lostAll_26 rfl ?_
      refine wp_iload_n dX6_lostAll_29 rfl ?_
      refine wp_iadd dX6_lostAll_30 ?_
      refine wp_iald dX6_lostAll_31 (tb_215 hT).2 (tk_215 hT) h.1 ?_
      replace h := h.2
      refine wp_iadd dX6_lostAll_32 ?_
      refine wi3_1 dX6_lostAll_33 ?_
      refine wc3_2 1 dX6_lostAll_34 rfl ?_
      refine wp_goto 4 dX6_lostAll_37 (by decide) ?_
      exact h
theorem n6_lostAll {E : eT} {Q : Int32 → vT → Prop} {V : vT} (h : w6_lostAll E Q 0 [some (vr 214), none, none] [] V) : c6_lostAll E V Q := MOk.enter [some (vr 214), none, none] pn_6 rfl rfl (Nat.le_of_ble_eq_true rfl) rfl h
