/-! THE COMPONENT: methods that make cells or set references -/
/-- a field whose name an inherited field has too: their slots may be one -/
def FDk (own nm : String) (ix ci k k2 : Nat) : Prop := ∃ (C : String) (T : u_T) (N : Nat), qcl[ci]? = some (C, T, N) ∧ k < N ∧ k2 < N ∧ (∀ w ∈ u_ws C T N, w ∈ lw_all) ∧ (∀ j, j < N → parseFieldDescriptor (T j).2.2.1 = some (tyQ ci j)) ∧
  (T k).2.2.2 = true ∧ nm = "<init>" ∧ (T k).1 = own ∧ Cond.fieldLink own ix (T k).1 (T k).2.1 (T k).2.2.1 ∈ lw_all ∧ ∀ j, j < N → j ≠ k → j ≠ k2 → (T j).2.1 ≠ (T k).2.1
theorem wp_putrd {l : Launch} {G : gT} {R : Room} {own nm : String} {code : ByteArray} {maxL : Nat} {ret : Option FieldType} {Z : List Frame → Array Value → State → State → Prop} {pc : Nat} {ls : List (Option aV)} {st : List aV} {n : Nat} {K : kT} {Rf : rT} {V : vT} {ca sa : Nat} {ix o ci k k2 : Nat} {r : Option Nat} (hdg : decode code pc = .ok (.putfield ix, 3)) (hf : FDk own nm ix ci k k2) (ho : 16 ≤ o ∧ o < n) (hk : K o = .inl ci) (hty : (tyQ ci k).isReference = true) (hty2 : (tyQ ci k2).isReference = true)
    (kk : ∀ Rf' : rT, (Rf' = up2 Rf o k r ∨ Rf' = up2 (up2 Rf o k r) o k2 r) → wp l G R own nm code maxL ret Z (pc + 3) ls st n K Rf' V ca sa) : wp l G R own nm code maxL ret Z pc ls (.inr r :: .inr (some o) :: st) n K Rf V ca sa := by
  intro p e s m args below meth c H locs A hx hb hr hml hlk hown hnm hts hKK hP hS hl
  subst hnm
  obtain ⟨C, T, N, hc, hkN, hk2N, hin, htyd, hfin, hinit, hdecl, hlink, hap⟩ := hf
  obtain ⟨r9, h1, h2⟩ := hP.obj ho.2 (by omega) hk
  cases h1.symm.trans hc
  obtain ⟨cell, q1, q2, q3, q4⟩ := h2
  obtain ⟨hSl, hfc, kC, hkC, hkind⟩ := hKK.1.1 ci _ hc
  obtain ⟨cf, kf, fi, fd, hi, hsl⟩ := hSl k hkN
  have hst := (u_facts hfc hkC (u_lays hts hin hkN) hi).1
  have hn1 : narrow (tyQ ci k) (cv G (.inr r)) = cv G (.inr r) := by
    cases h9 : tyQ ci k <;> first | (cases r <;> rfl) | (rw [h9] at hty; cases hty)
  have hn2 : fits (tyQ ci k) (cv G (.inr r)) = true := by
    cases h9 : tyQ ci k <;> first | (cases r <;> rfl) | (rw [h9] at hty; cases hty)
  have hdiff : ∀ j, j < N → j ≠ k → j ≠ k2 → (G.1.2 ci) k ≠ (G.1.2 ci) j := by
    intro j hj hne hne2
    obtain ⟨_, _, _, fj, hij, ej⟩ := hSl j hj
    rw [← hsl, ← ej]
    refine u_apart (u_lays hts hin hkN) (u_lays hts hin hj) hi hij ?_
    rw [(State.fieldFound?_type hi (htyd k hkN)).1, (State.fieldFound?_type hij (htyd j hj)).1]
    exact Ne.symm (hap j hj hne hne2)
  have hlay := hts _ (hin _ (u_in_lay hkN))
  unfold u_lay at hlay
  rw [if_pos hfin] at hlay
  have hcf : m.cls = cf := by
    obtain ⟨_, _, c', _, _, _, -, -, hf', -, -, -, hown2, -⟩ := Cond.laysFinal_spec hlay
    have e1 : c' = cf := by have := hi.symm.trans hf'; simp at this; exact this.1.symm
    rw [hdecl] at hown2
    rw [← e1]; exact Option.some.inj (hown.symm.trans hown2)
  refine W.putFinK (v := cv G (.inr r)) hx hb hown (hts _ hlink) hi hst hcf hinit (by rw [q2]; exact u_fits hfc hkC hkind (Or.inr hlay) hi (htyd k hkN) hn1 hn2) q1 q3 (by rw [hsl]; exact k2_hasslot (q4 k hkN)) rfl rfl hdg fun H1 e1 e2 e3 => ?_
  have hS1 := hS.put (k := fd.slot) e2 e3 (al_ge (by omega))
  by_cases hsame : (G.1.2 ci) k = (G.1.2 ci) k2
  · refine kk (up2 (up2 Rf o k r) o k2 r) (Or.inr rfl) p e s m args below meth c H1 _ A hx hb hr hml hlk hown rfl hts hKK ?_ hS1 hl
    refine hP.put (o := o) ho.2 (by omega) e2 e3 ?_ (fun a ha j => by rw [up2_o _ ha, up2_o _ ha]) (fun a ha j => rfl)
    unfold cellP
    rw [if_neg (by omega), hk]
    refine ⟨_, hc, _, e1, q2, q3, fun j hj => ?_⟩
    rw [hsl]
    by_cases hj2 : j = k2
    · subst hj2
      rw [← hsame, Cell.slots_setSlot_self _ (k2_hasslot (q4 k hkN))]
      unfold fvl; rw [if_pos hty2, up2_s]; rfl
    · by_cases hjk : j = k
      · subst hjk
        rw [Cell.slots_setSlot_self _ (k2_hasslot (q4 j hj))]
        unfold fvl; rw [if_pos hty, up2_k _ hj2, up2_s]; rfl
      · rw [slot_ne _ _ (hdiff j hj hjk hj2), q4 j hj]
        unfold fvl; rw [up2_k _ hj2, up2_k _ hjk]
  · refine kk (up2 Rf o k r) (Or.inl rfl) p e s m args below meth c H1 _ A hx hb hr hml hlk hown rfl hts hKK ?_ hS1 hl
    refine hP.put (o := o) ho.2 (by omega) e2 e3 ?_ (fun a ha j => by rw [up2_o _ ha]) (fun a ha j => rfl)
    unfold cellP
    rw [if_neg (by omega), hk]
    refine ⟨_, hc, _, e1, q2, q3, fun j hj => ?_⟩
    rw [hsl]
    by_cases hjk : j = k
    · subst hjk
      rw [Cell.slots_setSlot_self _ (k2_hasslot (q4 j hj))]
      unfold fvl; rw [if_pos hty, up2_s]; rfl
    · by_cases hj2 : j = k2
      · subst hj2
        rw [slot_ne _ _ hsame, q4 j hj]
        unfold fvl; rw [up2_k _ hjk]
      · rw [slot_ne _ _ (hdiff j hj hjk hj2), q4 j hj]
        unfold fvl; rw [up2_k _ hjk]
theorem lk9_1 : LkIN "InsuredFlame$Row" 1 yX8_init cX8_init 1 0 := ⟨⟨_, nst q569 rfl⟩, q548, q128, q549, rfl, by decide +kernel⟩
theorem fp9_7_7 : FPk "InsuredFlame$Row" "<init>" 7 7 0 := ⟨_, _, _, rfl, by decide, in_X9, tyX9_ok, Or.inr ⟨rfl, rfl, rfl, q570⟩, fun j hj hne => nmX9 j hj 0 (by decide) hne⟩
theorem fp9_13_7 : FPk "InsuredFlame$Row" "<init>" 13 7 1 := ⟨_, _, _, rfl, by decide, in_X9, tyX9_ok, Or.inr ⟨rfl, rfl, rfl, q571⟩, fun j hj hne => nmX9 j hj 1 (by decide) hne⟩
theorem lk10_1 : LkIN "InsuredFlame$Number" 1 yX8_init cX8_init 1 0 := ⟨⟨_, nst q547 rfl⟩, q548, q128, q549, rfl, by decide +kernel⟩
theorem fp10_7_8 : FPk "InsuredFlame$Number" "<init>" 7 8 0 := ⟨_, _, _, rfl, by decide, in_X10, tyX10_ok, Or.inr ⟨rfl, rfl, rfl, q551⟩, fun j hj hne => absurd (show j = 0 by omega) hne⟩
theorem lk11_1 : LkIN "InsuredFlame$Letter" 1 yX8_init cX8_init 1 0 := ⟨⟨_, nst q561 rfl⟩, q548, q128, q549, rfl, by decide +kernel⟩
theorem fp11_7_9 : FPk "InsuredFlame$Letter" "<init>" 7 9 0 := ⟨_, _, _, rfl, by decide, in_X11, tyX11_ok, Or.inr ⟨rfl, rfl, rfl, q562⟩, fun j hj hne => absurd (show j = 0 by omega) hne⟩
theorem lk13_1 : LkIN "InsuredFlame$Some" 1 yX12_init cX12_init 1 0 := ⟨⟨_, nst q627 rfl⟩, q601, q132, q602, rfl, by decide +kernel⟩
theorem fp13_7_10 : FPk "InsuredFlame$Some" "<init>" 7 10 0 := ⟨_, _, _, rfl, by decide, in_X13, tyX13_ok, Or.inr ⟨rfl, rfl, rfl, q628⟩, fun j hj hne => nmX13 j hj 0 (by decide) hne⟩
theorem fp13_13_10 : FPk "InsuredFlame$Some" "<init>" 13 10 1 := ⟨_, _, _, rfl, by decide, in_X13, tyX13_ok, Or.inr ⟨rfl, rfl, rfl, q629⟩, fun j hj hne => nmX13 j hj 1 (by decide) hne⟩
theorem lk14_1 : LkIN "InsuredFlame$Not" 1 yX12_init cX12_init 1 0 := ⟨⟨_, nst q600 rfl⟩, q601, q132, q602, rfl, by decide +kernel⟩
theorem fp14_7_11 : FPk "InsuredFlame$Not" "<init>" 7 11 0 := ⟨_, _, _, rfl, by decide, in_X14, tyX14_ok, Or.inr ⟨rfl, rfl, rfl, q604⟩, fun j hj hne => absurd (show j = 0 by omega) hne⟩
theorem lk15_1 : LkIN "InsuredFlame$Compared" 1 yX12_init cX12_init 1 0 := ⟨⟨_, nst q613 rfl⟩, q601, q132, q602, rfl, by decide +kernel⟩
theorem fp15_7_12 : FPk "InsuredFlame$Compared" "<init>" 7 12 0 := ⟨_, _, _, rfl, by decide, in_X15, tyX15_ok, Or.inr ⟨rfl, rfl, rfl, q614⟩, fun j hj hne => nmX15 j hj 0 (by decide) hne⟩
theorem fp15_13_12 : FPk "InsuredFlame$Compared" "<init>" 13 12 2 := ⟨_, _, _, rfl, by decide, in_X15, tyX15_ok, Or.inr ⟨rfl, rfl, rfl, q616⟩, fun j hj hne => nmX15 j hj 2 (by decide) hne⟩
theorem fp15_17_12 : FPk "InsuredFlame$Compared" "<init>" 17 12 1 := ⟨_, _, _, rfl, by decide, in_X15, tyX15_ok, Or.inr ⟨rfl, rfl, rfl, q615⟩, fun j hj hne => nmX15 j hj 1 (by decide) hne⟩
theorem lk2_3 : LkIN "InsuredFlame$Moment" 3 yX1_init cX1_init 1 0 := ⟨⟨_, nst q153 rfl⟩, q154, q115, q155, rfl, by decide +kernel⟩
theorem fp5_9_4 : FPk "InsuredFlame$Text" "<init>" 9 4 0 := ⟨_, _, _, rfl, by decide, in_X5, tyX5_ok, Or.inr ⟨rfl, rfl, rfl, q279⟩, fun j hj hne => nmX5 j hj 0 (by decide) hne⟩
theorem fp5_17_4 : FPk "InsuredFlame$Text" "<init>" 17 4 1 := ⟨_, _, _, rfl, by decide, in_X5, tyX5_ok, Or.inr ⟨rfl, rfl, rfl, q281⟩, fun j hj hne => nmX5 j hj 1 (by decide) hne⟩
theorem fp5_23_4 : FPk "InsuredFlame$Text" "<init>" 23 4 2 := ⟨_, _, _, rfl, by decide, in_X5, tyX5_ok, Or.inr ⟨rfl, rfl, rfl, q283⟩, fun j hj hne => nmX5 j hj 2 (by decide) hne⟩
theorem fp16_13_13 : FPk "InsuredFlame$Scribe" "<init>" 13 13 0 := ⟨_, _, _, rfl, by decide, in_X17, tyX17_ok, Or.inr ⟨rfl, rfl, rfl, q657⟩, by decide +kernel⟩
theorem fd16_1_13 : FDk "InsuredFlame$Scribe" "<init>" 1 13 4 8 := ⟨_, _, _, rfl, by decide, by decide, in_X17, tyX17_ok, rfl, rfl, rfl, q661, by decide +kernel⟩
theorem fp16_13_14 : FPk "InsuredFlame$Scribe" "<init>" 13 14 0 := ⟨_, _, _, rfl, by decide, in_X18, tyX18_ok, Or.inr ⟨rfl, rfl, rfl, q657⟩, by decide +kernel⟩
theorem fd16_1_14 : FDk "InsuredFlame$Scribe" "<init>" 1 14 4 7 := ⟨_, _, _, rfl, by decide, by decide, in_X18, tyX18_ok, rfl, rfl, rfl, q661, by decide +kernel⟩
theorem lk17_9 : LkI "InsuredFlame$Surveyor" 9 yX16_init cX16_init 3 2 := ⟨q648, q649, q136, q650, rfl, by decide +kernel⟩
theorem fp17_15_13 : FPk "InsuredFlame$Surveyor" "<init>" 15 13 5 := ⟨_, _, _, rfl, by decide, in_X17, tyX17_ok, Or.inr ⟨rfl, rfl, rfl, q652⟩, by decide +kernel⟩
theorem fd17_3_13 : FDk "InsuredFlame$Surveyor" "<init>" 3 13 8 4 := ⟨_, _, _, rfl, by decide, by decide, in_X17, tyX17_ok, rfl, rfl, rfl, q656, by decide +kernel⟩
theorem lk18_9 : LkI "InsuredFlame$Clerk" 9 yX16_init cX16_init 3 2 := ⟨q773, q649, q136, q650, rfl, by decide +kernel⟩
theorem fp18_15_14 : FPk "InsuredFlame$Clerk" "<init>" 15 14 5 := ⟨_, _, _, rfl, by decide, in_X18, tyX18_ok, Or.inr ⟨rfl, rfl, rfl, q774⟩, by decide +kernel⟩
theorem fd18_3_14 : FDk "InsuredFlame$Clerk" "<init>" 3 14 7 4 := ⟨_, _, _, rfl, by decide, by decide, in_X18, tyX18_ok, rfl, rfl, rfl, q777, by decide +kernel⟩
theorem fp3_3_2 : FPk "InsuredFlame$Fire" "<init>" 3 2 7 := ⟨_, _, _, rfl, by decide, in_X3, tyX3_ok, Or.inr ⟨rfl, rfl, rfl, q251⟩, fun j hj hne => nmX3 j hj 7 (by decide) hne⟩
theorem fp3_15_2 : FPk "InsuredFlame$Fire" "<init>" 15 2 0 := ⟨_, _, _, rfl, by decide, in_X3, tyX3_ok, Or.inr ⟨rfl, rfl, rfl, q235⟩, fun j hj hne => nmX3 j hj 0 (by decide) hne⟩
theorem fp3_19_2 : FPk "InsuredFlame$Fire" "<init>" 19 2 1 := ⟨_, _, _, rfl, by decide, in_X3, tyX3_ok, Or.inr ⟨rfl, rfl, rfl, q238⟩, fun j hj hne => nmX3 j hj 1 (by decide) hne⟩
theorem fp3_22_2 : FPk "InsuredFlame$Fire" "<init>" 22 2 2 := ⟨_, _, _, rfl, by decide, in_X3, tyX3_ok, Or.inr ⟨rfl, rfl, rfl, q240⟩, fun j hj hne => nmX3 j hj 2 (by decide) hne⟩
theorem fp3_28_2 : FPk "InsuredFlame$Fire" "<init>" 28 2 3 := ⟨_, _, _, rfl, by decide, in_X3, tyX3_ok, Or.inr ⟨rfl, rfl, rfl, q241⟩, fun j hj hne => nmX3 j hj 3 (by decide) hne⟩
theorem fn3_26 : FNk "InsuredFlame$Fire" 26 3 5 := ⟨_, _, rfl, in_X4, tyX4_ok, by decide, q197, q199, q118⟩
theorem lk3_32 : LkIN "InsuredFlame$Fire" 32 yX4_init cX4_init 1 0 := ⟨⟨_, nst q200 rfl⟩, q201, q118, q202, rfl, by decide +kernel⟩
theorem fp7_3_6 : FPk "InsuredFlame$Reader" "<init>" 3 6 6 := ⟨_, _, _, rfl, by decide, in_X7, tyX7_ok, Or.inr ⟨rfl, rfl, rfl, q389⟩, fun j hj hne => nmX7 j hj 6 (by decide) hne⟩
theorem fn7_15 : FNk "InsuredFlame$Reader" 15 4 4 := ⟨_, _, rfl, in_X5, tyX5_ok, by decide, q380, q270, q119⟩
theorem lk7_17 : LkIN "InsuredFlame$Reader" 17 yX5_init cX5_init 1 0 := ⟨⟨_, nst q381 rfl⟩, q272, q119, q273, rfl, by decide +kernel⟩
theorem fp7_18_6 : FPk "InsuredFlame$Reader" "<init>" 18 6 1 := ⟨_, _, _, rfl, by decide, in_X7, tyX7_ok, Or.inr ⟨rfl, rfl, rfl, q383⟩, fun j hj hne => nmX7 j hj 1 (by decide) hne⟩
theorem fp7_22_6 : FPk "InsuredFlame$Reader" "<init>" 22 6 0 := ⟨_, _, _, rfl, by decide, in_X7, tyX7_ok, Or.inr ⟨rfl, rfl, rfl, q382⟩, fun j hj hne => nmX7 j hj 0 (by decide) hne⟩
theorem fp6_7_5 : FPk "InsuredFlameModel" "<init>" 7 5 0 := ⟨_, _, _, rfl, by decide, in_X6, tyX6_ok, Or.inr ⟨rfl, rfl, rfl, q1184⟩, fun j hj hne => nmX6 j hj 0 (by decide) hne⟩
theorem fp6_13_5 : FPk "InsuredFlameModel" "<init>" 13 5 1 := ⟨_, _, _, rfl, by decide, in_X6, tyX6_ok, Or.inr ⟨rfl, rfl, rfl, q1185⟩, fun j hj hne => nmX6 j hj 1 (by decide) hne⟩
theorem fp6_16_5 : FPk "InsuredFlameModel" "<init>" 16 5 2 := ⟨_, _, _, rfl, by decide, in_X6, tyX6_ok, Or.inr ⟨rfl, rfl, rfl, q1186⟩, fun j hj hne => nmX6 j hj 2 (by decide) hne⟩
theorem fp6_19_5 : FPk "InsuredFlameModel" "<init>" 19 5 3 := ⟨_, _, _, rfl, by decide, in_X6, tyX6_ok, Or.inr ⟨rfl, rfl, rfl, q1187⟩, fun j hj hne => nmX6 j hj 3 (by decide) hne⟩
theorem fp6_22_5 : FPk "InsuredFlameModel" "<init>" 22 5 4 := ⟨_, _, _, rfl, by decide, in_X6, tyX6_ok, Or.inr ⟨rfl, rfl, rfl, q1188⟩, fun j hj hne => nmX6 j hj 4 (by decide) hne⟩
theorem fp6_25_5 : FPk "InsuredFlameModel" "<init>" 25 5 5 := ⟨_, _, _, rfl, by decide, in_X6, tyX6_ok, Or.inr ⟨rfl, rfl, rfl, q1189⟩, fun j hj hne => nmX6 j hj 5 (by decide) hne⟩
theorem fp6_29_5 : FPk "InsuredFlameModel" "<init>" 29 5 16 := ⟨_, _, _, rfl, by decide, in_X6, tyX6_ok, Or.inr ⟨rfl, rfl, rfl, q1200⟩, fun j hj hne => nmX6 j hj 16 (by decide) hne⟩
theorem fp6_32_5 : FPk "InsuredFlameModel" "<init>" 32 5 17 := ⟨_, _, _, rfl, by decide, in_X6, tyX6_ok, Or.inr ⟨rfl, rfl, rfl, q1201⟩, fun j hj hne => nmX6 j hj 17 (by decide) hne⟩
theorem fp6_35_5 : FPk "InsuredFlameModel" "<init>" 35 5 18 := ⟨_, _, _, rfl, by decide, in_X6, tyX6_ok, Or.inr ⟨rfl, rfl, rfl, q1202⟩, fun j hj hne => nmX6 j hj 18 (by decide) hne⟩
theorem fp6_38_5 : FPk "InsuredFlameModel" "<init>" 38 5 19 := ⟨_, _, _, rfl, by decide, in_X6, tyX6_ok, Or.inr ⟨rfl, rfl, rfl, q1203⟩, fun j hj hne => nmX6 j hj 19 (by decide) hne⟩
theorem fp6_41_5 : FPk "InsuredFlameModel" "<init>" 41 5 20 := ⟨_, _, _, rfl, by decide, in_X6, tyX6_ok, Or.inr ⟨rfl, rfl, rfl, q1204⟩, fun j hj hne => nmX6 j hj 20 (by decide) hne⟩
theorem fp6_44_5 : FPk "InsuredFlameModel" "<init>" 44 5 21 := ⟨_, _, _, rfl, by decide, in_X6, tyX6_ok, Or.inr ⟨rfl, rfl, rfl, q1205⟩, fun j hj hne => nmX6 j hj 21 (by decide) hne⟩
theorem fp6_47_5 : FPk "InsuredFlameModel" "<init>" 47 5 22 := ⟨_, _, _, rfl, by decide, in_X6, tyX6_ok, Or.inr ⟨rfl, rfl, rfl, q1206⟩, fun j hj hne => nmX6 j hj 22 (by decide) hne⟩
theorem fp6_50_5 : FPk "InsuredFlameModel" "<init>" 50 5 23 := ⟨_, _, _, rfl, by decide, in_X6, tyX6_ok, Or.inr ⟨rfl, rfl, rfl, q1207⟩, fun j hj hne => nmX6 j hj 23 (by decide) hne⟩
theorem fp6_53_5 : FPk "InsuredFlameModel" "<init>" 53 5 24 := ⟨_, _, _, rfl, by decide, in_X6, tyX6_ok, Or.inr ⟨rfl, rfl, rfl, q1208⟩, fun j hj hne => nmX6 j hj 24 (by decide) hne⟩
theorem fp6_56_5 : FPk "InsuredFlameModel" "<init>" 56 5 25 := ⟨_, _, _, rfl, by decide, in_X6, tyX6_ok, Or.inr ⟨rfl, rfl, rfl, q1209⟩, fun j hj hne => nmX6 j hj 25 (by decide) hne⟩
theorem fp6_59_5 : FPk "InsuredFlameModel" "<init>" 59 5 26 := ⟨_, _, _, rfl, by decide, in_X6, tyX6_ok, Or.inr ⟨rfl, rfl, rfl, q1210⟩, fun j hj hne => nmX6 j hj 26 (by decide) hne⟩
theorem fp6_62_5 : FPk "InsuredFlameModel" "<init>" 62 5 27 := ⟨_, _, _, rfl, by decide, in_X6, tyX6_ok, Or.inr ⟨rfl, rfl, rfl, q1211⟩, fun j hj hne => nmX6 j hj 27 (by decide) hne⟩
theorem fp6_65_5 : FPk "InsuredFlameModel" "<init>" 65 5 28 := ⟨_, _, _, rfl, by decide, in_X6, tyX6_ok, Or.inr ⟨rfl, rfl, rfl, q1212⟩, fun j hj hne => nmX6 j hj 28 (by decide) hne⟩
theorem fp6_68_5 : FPk "InsuredFlameModel" "<init>" 68 5 29 := ⟨_, _, _, rfl, by decide, in_X6, tyX6_ok, Or.inr ⟨rfl, rfl, rfl, q1213⟩, fun j hj hne => nmX6 j hj 29 (by decide) hne⟩
theorem fp6_71_5 : FPk "InsuredFlameModel" "<init>" 71 5 33 := ⟨_, _, _, rfl, by decide, in_X6, tyX6_ok, Or.inr ⟨rfl, rfl, rfl, q1217⟩, fun j hj hne => nmX6 j hj 33 (by decide) hne⟩
theorem fp6_75_5 : FPk "InsuredFlameModel" "<init>" 75 5 35 := ⟨_, _, _, rfl, by decide, in_X6, tyX6_ok, Or.inr ⟨rfl, rfl, rfl, q1219⟩, fun j hj hne => nmX6 j hj 35 (by decide) hne⟩
theorem fp6_78_5 : FPk "InsuredFlameModel" "<init>" 78 5 36 := ⟨_, _, _, rfl, by decide, in_X6, tyX6_ok, Or.inr ⟨rfl, rfl, rfl, q1220⟩, fun j hj hne => nmX6 j hj 36 (by decide) hne⟩
theorem fp6_81_5 : FPk "InsuredFlameModel" "<init>" 81 5 37 := ⟨_, _, _, rfl, by decide, in_X6, tyX6_ok, Or.inr ⟨rfl, rfl, rfl, q1221⟩, fun j hj hne => nmX6 j hj 37 (by decide) hne⟩
theorem fp6_84_5 : FPk "InsuredFlameModel" "<init>" 84 5 38 := ⟨_, _, _, rfl, by decide, in_X6, tyX6_ok, Or.inr ⟨rfl, rfl, rfl, q1222⟩, fun j hj hne => nmX6 j hj 38 (by decide) hne⟩
theorem fp6_87_5 : FPk "InsuredFlameModel" "<init>" 87 5 39 := ⟨_, _, _, rfl, by decide, in_X6, tyX6_ok, Or.inr ⟨rfl, rfl, rfl, q1223⟩, fun j hj hne => nmX6 j hj 39 (by decide) hne⟩
theorem fp6_90_5 : FPk "InsuredFlameModel" "<init>" 90 5 41 := ⟨_, _, _, rfl, by decide, in_X6, tyX6_ok, Or.inr ⟨rfl, rfl, rfl, q1225⟩, fun j hj hne => nmX6 j hj 41 (by decide) hne⟩
theorem fp6_93_5 : FPk "InsuredFlameModel" "<init>" 93 5 42 := ⟨_, _, _, rfl, by decide, in_X6, tyX6_ok, Or.inr ⟨rfl, rfl, rfl, q1226⟩, fun j hj hne => nmX6 j hj 42 (by decide) hne⟩
theorem fp6_96_5 : FPk "InsuredFlameModel" "<init>" 96 5 43 := ⟨_, _, _, rfl, by decide, in_X6, tyX6_ok, Or.inr ⟨rfl, rfl, rfl, q1227⟩, fun j hj hne => nmX6 j hj 43 (by decide) hne⟩
theorem fp6_99_5 : FPk "InsuredFlameModel" "<init>" 99 5 44 := ⟨_, _, _, rfl, by decide, in_X6, tyX6_ok, Or.inr ⟨rfl, rfl, rfl, q1228⟩, fun j hj hne => nmX6 j hj 44 (by decide) hne⟩
theorem fk6_7_5 : FLk "InsuredFlameModel" 7 5 0 := ⟨_, _, _, rfl, by decide, in_X6, tyX6_ok, Or.inl q1184⟩
theorem fn7_86 : FNk "InsuredFlame$Reader" 86 7 3 := ⟨_, _, rfl, in_X9, tyX9_ok, by decide, q516, q517, q129⟩
theorem lk7_98 : LkV "InsuredFlame$Reader" 98 "InsuredFlame$Reader" yX7_product cX7_product 4 (some (.object "InsuredFlame$Sum")) 0 := ⟨q518, q520, qs6, q121, q521, by decide +kernel⟩
theorem lk7_91 : LkI "InsuredFlame$Reader" 91 yX9_init cX9_init 3 2 := ⟨q566, q567, q129, q568, rfl, by decide +kernel⟩
theorem fp7_94_7 {nm : String} : FPk "InsuredFlame$Reader" nm 94 7 2 := ⟨_, _, _, rfl, by decide, in_X9, tyX9_ok, Or.inl ⟨rfl, Or.inr ⟨_, nst q573 rfl⟩⟩, fun j hj hne => nmX9 j hj 2 (by decide) hne⟩
theorem fk7_94_7 : FLk "InsuredFlame$Reader" 94 7 2 := ⟨_, _, _, rfl, by decide, in_X9, tyX9_ok, Or.inr ⟨_, nst q573 rfl⟩⟩
theorem lk7_88 : LkV "InsuredFlame$Reader" 88 "InsuredFlame$Reader" yX7_factor cX7_factor 3 (some (.object "InsuredFlame$Sum")) 0 := ⟨q522, q524, qs7, q121, q525, by decide +kernel⟩
theorem fn7_83 : FNk "InsuredFlame$Reader" 83 9 1 := ⟨_, _, rfl, in_X11, tyX11_ok, by decide, q556, q557, q131⟩
theorem lk7_85 : LkI "InsuredFlame$Reader" 85 yX11_init cX11_init 2 1 := ⟨q558, q559, q131, q560, rfl, by decide +kernel⟩
theorem lk7_77 : LkV "InsuredFlame$Reader" 77 "java/lang/String" yJ0_indexOf cJ0_indexOf 2 (some .int) 1 := ⟨q422, q423, q424, q122, q425, by decide +kernel⟩
theorem fn7_68 : FNk "InsuredFlame$Reader" 68 8 1 := ⟨_, _, rfl, in_X10, tyX10_ok, by decide, q538, q539, q130⟩
theorem lk7_73 : LkI "InsuredFlame$Reader" 73 yX10_init cX10_init 2 1 := ⟨q544, q545, q130, q546, rfl, by decide +kernel⟩
theorem lk7_70 : LkV "InsuredFlame$Reader" 70 "InsuredFlame$Reader" yX7_number cX7_number 3 (some .int) 0 := ⟨q540, q542, qs11, q121, q543, by decide +kernel⟩
theorem lk7_64 : LkV "InsuredFlame$Reader" 64 "InsuredFlame$Reader" yX7_must cX7_must 2 none 1 := ⟨q530, q532, qs9, q121, q533, by decide +kernel⟩
theorem lk7_60 : LkV "InsuredFlame$Reader" 60 "InsuredFlame$Reader" yX7_sum cX7_sum 4 (some (.object "InsuredFlame$Sum")) 0 := ⟨q512, q514, qs5, q121, q515, by decide +kernel⟩
theorem lk7_57 : LkV "InsuredFlame$Reader" 57 "InsuredFlame$Reader" yX7_opens cX7_opens 1 none 0 := ⟨q526, q528, qs8, q121, q529, by decide +kernel⟩
theorem fn7_118 : FNk "InsuredFlame$Reader" 118 10 3 := ⟨_, _, rfl, in_X13, tyX13_ok, by decide, q585, q586, q133⟩
theorem lk7_126 : LkV "InsuredFlame$Reader" 126 "InsuredFlame$Reader" yX7_pieces cX7_pieces 3 (some (.object "InsuredFlame$Condition")) 0 := ⟨q587, q589, qs13, q121, q590, by decide +kernel⟩
theorem lk7_120 : LkI "InsuredFlame$Reader" 120 yX13_init cX13_init 3 2 := ⟨q624, q625, q133, q626, rfl, by decide +kernel⟩
theorem fp7_123_10 {nm : String} : FPk "InsuredFlame$Reader" nm 123 10 2 := ⟨_, _, _, rfl, by decide, in_X13, tyX13_ok, Or.inl ⟨rfl, Or.inr ⟨_, nst q631 rfl⟩⟩, fun j hj hne => nmX13 j hj 2 (by decide) hne⟩
theorem fk7_123_10 : FLk "InsuredFlame$Reader" 123 10 2 := ⟨_, _, _, rfl, by decide, in_X13, tyX13_ok, Or.inr ⟨_, nst q631 rfl⟩⟩
theorem lk7_101 : LkV "InsuredFlame$Reader" 101 "InsuredFlame$Reader" yX7_piece cX7_piece 4 (some (.object "InsuredFlame$Condition")) 0 := ⟨q591, q593, qs14, q121, q594, by decide +kernel⟩
theorem fn7_113 : FNk "InsuredFlame$Reader" 113 12 3 := ⟨_, _, rfl, in_X15, tyX15_ok, by decide, q608, q609, q135⟩
theorem lk7_115 : LkI "InsuredFlame$Reader" 115 yX15_init cX15_init 4 3 := ⟨q610, q611, q135, q612, rfl, by decide +kernel⟩
theorem lk7_110 : LkV "InsuredFlame$Reader" 110 "InsuredFlame$Reader" yX7_condition cX7_condition 3 (some (.object "InsuredFlame$Condition")) 0 := ⟨q581, q583, qs12, q121, q584, by decide +kernel⟩
theorem fn7_105 : FNk "InsuredFlame$Reader" 105 11 1 := ⟨_, _, rfl, in_X14, tyX14_ok, by decide, q595, q596, q134⟩
theorem lk7_107 : LkI "InsuredFlame$Reader" 107 yX14_init cX14_init 2 1 := ⟨q597, q598, q134, q599, rfl, by decide +kernel⟩
theorem fk7_18_6 : FLk "InsuredFlame$Reader" 18 6 1 := ⟨_, _, _, rfl, by decide, in_X7, tyX7_ok, Or.inl q383⟩
theorem fk7_134_4 : FLk "InsuredFlame$Reader" 134 4 0 := ⟨_, _, _, rfl, by decide, in_X5, tyX5_ok, Or.inr ⟨_, nst q280 rfl⟩⟩
theorem fk7_131_4 : FLk "InsuredFlame$Reader" 131 4 3 := ⟨_, _, _, rfl, by decide, in_X5, tyX5_ok, Or.inr ⟨_, nst q286 rfl⟩⟩
theorem fk7_138_4 : FLk "InsuredFlame$Reader" 138 4 1 := ⟨_, _, _, rfl, by decide, in_X5, tyX5_ok, Or.inr ⟨_, nst q282 rfl⟩⟩
theorem fk7_142_4 : FLk "InsuredFlame$Reader" 142 4 2 := ⟨_, _, _, rfl, by decide, in_X5, tyX5_ok, Or.inr ⟨_, nst q284 rfl⟩⟩
theorem fp7_131_4 {nm : String} : FPk "InsuredFlame$Reader" nm 131 4 3 := ⟨_, _, _, rfl, by decide, in_X5, tyX5_ok, Or.inl ⟨rfl, Or.inr ⟨_, nst q286 rfl⟩⟩, fun j hj hne => nmX5 j hj 3 (by decide) hne⟩
theorem fk7_36_6 : FLk "InsuredFlame$Reader" 36 6 5 := ⟨_, _, _, rfl, by decide, in_X7, tyX7_ok, Or.inl q388⟩
theorem lk7_146 : LkV "InsuredFlame$Reader" 146 "InsuredFlame$Reader" yX7_clause cX7_clause 4 none 0 := ⟨q413, q415, qs2, q121, q416, by decide +kernel⟩
theorem fn0_117 : FNk "InsuredFlame" 117 6 7 := ⟨_, _, rfl, in_X7, tyX7_ok, by decide, q374, q375, q121⟩
theorem lk0_119 : LkI "InsuredFlame" 119 yX7_init cX7_init 3 2 := ⟨q376, q377, q121, q378, rfl, by decide +kernel⟩
theorem lk0_122 : LkV "InsuredFlame" 122 "InsuredFlame$Reader" yX7_read cX7_read 2 (some .int) 0 := ⟨q405, q406, q407, q121, q408, by decide +kernel⟩
theorem fk0_126_6 : FLk "InsuredFlame" 126 6 1 := ⟨_, _, _, rfl, by decide, in_X7, tyX7_ok, Or.inr ⟨_, nst q384 rfl⟩⟩
theorem fp0_64_0 {nm : String} : FPk "InsuredFlame" nm 64 0 6 := ⟨_, _, _, rfl, by decide, in_X0, tyX0_ok, Or.inl ⟨rfl, Or.inl q312⟩, fun j hj hne => nmX0 j hj 6 (by decide) hne⟩
theorem fn0_129 : FNk "InsuredFlame" 129 13 9 := ⟨_, _, rfl, in_X17, tyX17_ok, by decide, q643, q644, q137⟩
theorem lk0_131 : LkI "InsuredFlame" 131 yX17_init cX17_init 3 2 := ⟨q645, q646, q137, q647, rfl, by decide +kernel⟩
theorem lk0_132 : LkV "InsuredFlame" 132 "InsuredFlame$Surveyor" yX17_read cX17_read 6 (some .int) 0 := ⟨q681, q682, q683, q137, q684, by decide +kernel⟩
theorem lk0_136 : LkV "InsuredFlame" 136 "InsuredFlame$Fire" yX3_isNew cX3_isNew 2 none 0 := ⟨q752, q753, q754, q117, q755, by decide +kernel⟩
theorem fk0_133_13 : FLk "InsuredFlame" 133 13 5 := ⟨_, _, _, rfl, by decide, in_X17, tyX17_ok, Or.inr ⟨_, nst q653 rfl⟩⟩
theorem fn0_143 : FNk "InsuredFlame" 143 14 8 := ⟨_, _, rfl, in_X18, tyX18_ok, by decide, q768, q769, q138⟩
theorem lk0_145 : LkI "InsuredFlame" 145 yX18_init cX18_init 3 2 := ⟨q770, q771, q138, q772, rfl, by decide +kernel⟩
theorem lk0_146 : LkV "InsuredFlame" 146 "InsuredFlame$Clerk" yX18_read cX18_read 1 (some .int) 0 := ⟨q790, q791, q792, q138, q793, by decide +kernel⟩
theorem fk0_147_14 : FLk "InsuredFlame" 147 14 5 := ⟨_, _, _, rfl, by decide, in_X18, tyX18_ok, Or.inr ⟨_, nst q775 rfl⟩⟩
def w8_init (l : Launch) (G : gT) (d mc ms : Nat) (Q : Nat → kT → rT → vT → Prop) (pc : Nat) (ls : List (Option aV)) (st : List aV) (n : Nat) (K : kT) (Rf : rT) (V : vT) (ca sa : Nat) : Prop := wp l G (rmQ d mc ms) "InsuredFlame$Sum" "<init>" cX8_init 1 none (Zm G mc ms (XV Q)) pc ls st n K Rf V ca sa
def c8_init (l : Launch) (G : gT) (d mc ms n : Nat) (K : kT) (Rf : rT) (o : Nat)  (V : vT) (Q : Nat → kT → rT → vT → Prop) : Prop := MOk l G d yX8_init cX8_init 1 none [vr o] n K Rf V mc ms (XV Q)
def w12_init (l : Launch) (G : gT) (d mc ms : Nat) (Q : Nat → kT → rT → vT → Prop) (pc : Nat) (ls : List (Option aV)) (st : List aV) (n : Nat) (K : kT) (Rf : rT) (V : vT) (ca sa : Nat) : Prop := wp l G (rmQ d mc ms) "InsuredFlame$Condition" "<init>" cX12_init 1 none (Zm G mc ms (XV Q)) pc ls st n K Rf V ca sa
def c12_init (l : Launch) (G : gT) (d mc ms n : Nat) (K : kT) (Rf : rT) (o : Nat)  (V : vT) (Q : Nat → kT → rT → vT → Prop) : Prop := MOk l G d yX12_init cX12_init 1 none [vr o] n K Rf V mc ms (XV Q)
def w1_init (l : Launch) (G : gT) (d mc ms : Nat) (Q : Nat → kT → rT → vT → Prop) (pc : Nat) (ls : List (Option aV)) (st : List aV) (n : Nat) (K : kT) (Rf : rT) (V : vT) (ca sa : Nat) : Prop := wp l G (rmQ d mc ms) "InsuredFlame$Asked" "<init>" cX1_init 1 none (Zm G mc ms (XV Q)) pc ls st n K Rf V ca sa
def c1_init (l : Launch) (G : gT) (d mc ms n : Nat) (K : kT) (Rf : rT) (o : Nat)  (V : vT) (Q : Nat → kT → rT → vT → Prop) : Prop := MOk l G d yX1_init cX1_init 1 none [vr o] n K Rf V mc ms (XV Q)
def w9_init (l : Launch) (G : gT) (d mc ms : Nat) (Q : Nat → kT → rT → vT → Prop) (pc : Nat) (ls : List (Option aV)) (st : List aV) (n : Nat) (K : kT) (Rf : rT) (V : vT) (ca sa : Nat) : Prop := wp l G (rmQ d mc ms) "InsuredFlame$Row" "<init>" cX9_init 3 none (Zm G mc ms (XV Q)) pc ls st n K Rf V ca sa
def c9_init (l : Launch) (G : gT) (d mc ms n : Nat) (K : kT) (Rf : rT) (o : Nat) (x1 : Int32) (q2 : Option Nat) (V : vT) (Q : Nat → kT → rT → vT → Prop) : Prop := MOk l G d yX9_init cX9_init 3 none [vr o, vi x1, .inr q2] n K Rf V mc ms (XV Q)
def w10_init (l : Launch) (G : gT) (d mc ms : Nat) (Q : Nat → kT → rT → vT → Prop) (pc : Nat) (ls : List (Option aV)) (st : List aV) (n : Nat) (K : kT) (Rf : rT) (V : vT) (ca sa : Nat) : Prop := wp l G (rmQ d mc ms) "InsuredFlame$Number" "<init>" cX10_init 2 none (Zm G mc ms (XV Q)) pc ls st n K Rf V ca sa
def c10_init (l : Launch) (G : gT) (d mc ms n : Nat) (K : kT) (Rf : rT) (o : Nat) (x1 : Int32) (V : vT) (Q : Nat → kT → rT → vT → Prop) : Prop := MOk l G d yX10_init cX10_init 2 none [vr o, vi x1] n K Rf V mc ms (XV Q)
def w11_init (l : Launch) (G : gT) (d mc ms : Nat) (Q : Nat → kT → rT → vT → Prop) (pc : Nat) (ls : List (Option aV)) (st : List aV) (n : Nat) (K : kT) (Rf : rT) (V : vT) (ca sa : Nat) : Prop := wp l G (rmQ d mc ms) "InsuredFlame$Letter" "<init>" cX11_init 2 none (Zm G mc ms (XV Q)) pc ls st n K Rf V ca sa
def c11_init (l : Launch) (G : gT) (d mc ms n : Nat) (K : kT) (Rf : rT) (o : Nat) (x1 : Int32) (V : vT) (Q : Nat → kT → rT → vT → Prop) : Prop := MOk l G d yX11_init cX11_init 2 none [vr o, vi x1] n K Rf V mc ms (XV Q)
def w13_init (l : Launch) (G : gT) (d mc ms : Nat) (Q : Nat → kT → rT → vT → Prop) (pc : Nat) (ls : List (Option aV)) (st : List aV) (n : Nat) (K : kT) (Rf : rT) (V : vT) (ca sa : Nat) : Prop := wp l G (rmQ d mc ms) "InsuredFlame$Some" "<init>" cX13_init 3 none (Zm G mc ms (XV Q)) pc ls st n K Rf V ca sa
def c13_init (l : Launch) (G : gT) (d mc ms n : Nat) (K : kT) (Rf : rT) (o : Nat) (q1 : Option Nat) (x2 : Int32) (V : vT) (Q : Nat → kT → rT → vT → Prop) : Prop := MOk l G d yX13_init cX13_init 3 none [vr o, .inr q1, vi x2] n K Rf V mc ms (XV Q)
def w14_init (l : Launch) (G : gT) (d mc ms : Nat) (Q : Nat → kT → rT → vT → Prop) (pc : Nat) (ls : List (Option aV)) (st : List aV) (n : Nat) (K : kT) (Rf : rT) (V : vT) (ca sa : Nat) : Prop := wp l G (rmQ d mc ms) "InsuredFlame$Not" "<init>" cX14_init 2 none (Zm G mc ms (XV Q)) pc ls st n K Rf V ca sa
def c14_init (l : Launch) (G : gT) (d mc ms n : Nat) (K : kT) (Rf : rT) (o : Nat) (q1 : Option Nat) (V : vT) (Q : Nat → kT → rT → vT → Prop) : Prop := MOk l G d yX14_init cX14_init 2 none [vr o, .inr q1] n K Rf V mc ms (XV Q)
def w15_init (l : Launch) (G : gT) (d mc ms : Nat) (Q : Nat → kT → rT → vT → Prop) (pc : Nat) (ls : List (Option aV)) (st : List aV) (n : Nat) (K : kT) (Rf : rT) (V : vT) (ca sa : Nat) : Prop := wp l G (rmQ d mc ms) "InsuredFlame$Compared" "<init>" cX15_init 4 none (Zm G mc ms (XV Q)) pc ls st n K Rf V ca sa
def c15_init (l : Launch) (G : gT) (d mc ms n : Nat) (K : kT) (Rf : rT) (o : Nat) (q1 : Option Nat) (x2 : Int32) (q3 : Option Nat) (V : vT) (Q : Nat → kT → rT → vT → Prop) : Prop := MOk l G d yX15_init cX15_init 4 none [vr o, .inr q1, vi x2, .inr q3] n K Rf V mc ms (XV Q)
def w2_init (l : Launch) (G : gT) (d mc ms : Nat) (Q : Nat → kT → rT → vT → Prop) (pc : Nat) (ls : List (Option aV)) (st : List aV) (n : Nat) (K : kT) (Rf : rT) (V : vT) (ca sa : Nat) : Prop := wp l G (rmQ d mc ms) "InsuredFlame$Moment" "<init>" cX2_init 1 none (Zm G mc ms (XV Q)) pc ls st n K Rf V ca sa
def c2_init (l : Launch) (G : gT) (d mc ms n : Nat) (K : kT) (Rf : rT) (o : Nat)  (V : vT) (Q : Nat → kT → rT → vT → Prop) : Prop := MOk l G d yX2_init cX2_init 1 none [vr o] n K Rf V mc ms (XV Q)
def w4_init (l : Launch) (G : gT) (d mc ms : Nat) (Q : Nat → kT → rT → vT → Prop) (pc : Nat) (ls : List (Option aV)) (st : List aV) (n : Nat) (K : kT) (Rf : rT) (V : vT) (ca sa : Nat) : Prop := wp l G (rmQ d mc ms) "InsuredFlame$Thing" "<init>" cX4_init 1 none (Zm G mc ms (XV Q)) pc ls st n K Rf V ca sa
def c4_init (l : Launch) (G : gT) (d mc ms n : Nat) (K : kT) (Rf : rT) (o : Nat)  (V : vT) (Q : Nat → kT → rT → vT → Prop) : Prop := MOk l G d yX4_init cX4_init 1 none [vr o] n K Rf V mc ms (XV Q)
def w5_init (l : Launch) (G : gT) (d mc ms : Nat) (Q : Nat → kT → rT → vT → Prop) (pc : Nat) (ls : List (Option aV)) (st : List aV) (n : Nat) (K : kT) (Rf : rT) (V : vT) (ca sa : Nat) : Prop := wp l G (rmQ d mc ms) "InsuredFlame$Text" "<init>" cX5_init 1 none (Zm G mc ms (XV Q)) pc ls st n K Rf V ca sa
def c5_init (l : Launch) (G : gT) (d mc ms n : Nat) (K : kT) (Rf : rT) (o : Nat)  (V : vT) (Q : Nat → kT → rT → vT → Prop) : Prop := MOk l G d yX5_init cX5_init 1 none [vr o] n K Rf V mc ms (XV Q)
def w16s_init (l : Launch) (G : gT) (d mc ms : Nat) (Q : Nat → kT → rT → vT → Prop) (pc : Nat) (ls : List (Option aV)) (st : List aV) (n : Nat) (K : kT) (Rf : rT) (V : vT) (ca sa : Nat) : Prop := wp l G (rmQ d mc ms) "InsuredFlame$Scribe" "<init>" cX16_init 3 none (Zm G mc ms (XV Q)) pc ls st n K Rf V ca sa
def c16s_init (l : Launch) (G : gT) (d mc ms n : Nat) (K : kT) (Rf : rT) (o : Nat) (x2 : Int32) (V : vT) (Q : Nat → kT → rT → vT → Prop) : Prop := MOk l G d yX16_init cX16_init 3 none [vr o, vr 16, vi x2] n K Rf V mc ms (XV Q)
def w16c_init (l : Launch) (G : gT) (d mc ms : Nat) (Q : Nat → kT → rT → vT → Prop) (pc : Nat) (ls : List (Option aV)) (st : List aV) (n : Nat) (K : kT) (Rf : rT) (V : vT) (ca sa : Nat) : Prop := wp l G (rmQ d mc ms) "InsuredFlame$Scribe" "<init>" cX16_init 3 none (Zm G mc ms (XV Q)) pc ls st n K Rf V ca sa
def c16c_init (l : Launch) (G : gT) (d mc ms n : Nat) (K : kT) (Rf : rT) (o : Nat) (x2 : Int32) (V : vT) (Q : Nat → kT → rT → vT → Prop) : Prop := MOk l G d yX16_init cX16_init 3 none [vr o, vr 16, vi x2] n K Rf V mc ms (XV Q)
def w17_init (l : Launch) (G : gT) (d mc ms : Nat) (Q : Nat → kT → rT → vT → Prop) (pc : Nat) (ls : List (Option aV)) (st : List aV) (n : Nat) (K : kT) (Rf : rT) (V : vT) (ca sa : Nat) : Prop := wp l G (rmQ d mc ms) "InsuredFlame$Surveyor" "<init>" cX17_init 3 none (Zm G mc ms (XV Q)) pc ls st n K Rf V ca sa
def c17_init (l : Launch) (G : gT) (d mc ms n : Nat) (K : kT) (Rf : rT) (o : Nat) (x2 : Int32) (V : vT) (Q : Nat → kT → rT → vT → Prop) : Prop := MOk l G d yX17_init cX17_init 3 none [vr o, vr 16, vi x2] n K Rf V mc ms (XV Q)
def w18_init (l : Launch) (G : gT) (d mc ms : Nat) (Q : Nat → kT → rT → vT → Prop) (pc : Nat) (ls : List (Option aV)) (st : List aV) (n : Nat) (K : kT) (Rf : rT) (V : vT) (ca sa : Nat) : Prop := wp l G (rmQ d mc ms) "InsuredFlame$Clerk" "<init>" cX18_init 3 none (Zm G mc ms (XV Q)) pc ls st n K Rf V ca sa
def c18_init (l : Launch) (G : gT) (d mc ms n : Nat) (K : kT) (Rf : rT) (o : Nat) (x2 : Int32) (V : vT) (Q : Nat → kT → rT → vT → Prop) : Prop := MOk l G d yX18_init cX18_init 3 none [vr o, vr 16, vi x2] n K Rf V mc ms (XV Q)
def w3_init (l : Launch) (G : gT) (d mc ms : Nat) (Q : Nat → kT → rT → vT → Prop) (pc : Nat) (ls : List (Option aV)) (st : List aV) (n : Nat) (K : kT) (Rf : rT) (V : vT) (ca sa : Nat) : Prop := wp l G (rmQ d mc ms) "InsuredFlame$Fire" "<init>" cX3_init 3 none (Zm G mc ms (XV Q)) pc ls st n K Rf V ca sa
def c3_init (l : Launch) (G : gT) (d mc ms n : Nat) (K : kT) (Rf : rT) (o : Nat)  (V : vT) (Q : Nat → kT → rT → vT → Prop) : Prop := MOk l G d yX3_init cX3_init 3 none [vr o, vr 16] n K Rf V mc ms (XV Q)
def w7_init (l : Launch) (G : gT) (d mc ms : Nat) (Q : Nat → kT → rT → vT → Prop) (pc : Nat) (ls : List (Option aV)) (st : List aV) (n : Nat) (K : kT) (Rf : rT) (V : vT) (ca sa : Nat) : Prop := wp l G (rmQ d mc ms) "InsuredFlame$Reader" "<init>" cX7_init 3 none (Zm G mc ms (XV Q)) pc ls st n K Rf V ca sa
def c7_init (l : Launch) (G : gT) (d mc ms n : Nat) (K : kT) (Rf : rT) (o : Nat) (x2 : Int32) (V : vT) (Q : Nat → kT → rT → vT → Prop) : Prop := MOk l G d yX7_init cX7_init 3 none [vr o, vr 16, vi x2] n K Rf V mc ms (XV Q)
def w6_init (l : Launch) (G : gT) (d mc ms : Nat) (Q : Nat → kT → rT → vT → Prop) (pc : Nat) (ls : List (Option aV)) (st : List aV) (n : Nat) (K : kT) (Rf : rT) (V : vT) (ca sa : Nat) : Prop := wp l G (rmQ d mc ms) "InsuredFlameModel" "<init>" cX6_init 1 none (Zm G mc ms (XV Q)) pc ls st n K Rf V ca sa
def c6_init (l : Launch) (G : gT) (d mc ms n : Nat) (K : kT) (Rf : rT)  (V : vT) (Q : Nat → kT → rT → vT → Prop) : Prop := MOk l G d yX6_init cX6_init 1 none [vr 214] n K Rf V mc ms (XV Q)
def w7_sum (l : Launch) (G : gT) (d mc ms : Nat) (Q : Option Nat → Nat → kT → rT → vT → Prop) (pc : Nat) (ls : List (Option aV)) (st : List aV) (n : Nat) (K : kT) (Rf : rT) (V : vT) (ca sa : Nat) : Prop := wp l G (rmQ d mc ms) "InsuredFlame$Reader" "sum" cX7_sum 4 (some (.object "InsuredFlame$Sum")) (Zm G mc ms (XR Q)) pc ls st n K Rf V ca sa
def c7_sum (l : Launch) (G : gT) (d mc ms n : Nat) (K : kT) (Rf : rT) (o : Nat)  (V : vT) (Q : Option Nat → Nat → kT → rT → vT → Prop) : Prop := MOk l G d yX7_sum cX7_sum 4 (some (.object "InsuredFlame$Sum")) [vr o] n K Rf V mc ms (XR Q)
def w7_product (l : Launch) (G : gT) (d mc ms : Nat) (Q : Option Nat → Nat → kT → rT → vT → Prop) (pc : Nat) (ls : List (Option aV)) (st : List aV) (n : Nat) (K : kT) (Rf : rT) (V : vT) (ca sa : Nat) : Prop := wp l G (rmQ d mc ms) "InsuredFlame$Reader" "product" cX7_product 4 (some (.object "InsuredFlame$Sum")) (Zm G mc ms (XR Q)) pc ls st n K Rf V ca sa
def c7_product (l : Launch) (G : gT) (d mc ms n : Nat) (K : kT) (Rf : rT) (o : Nat)  (V : vT) (Q : Option Nat → Nat → kT → rT → vT → Prop) : Prop := MOk l G d yX7_product cX7_product 4 (some (.object "InsuredFlame$Sum")) [vr o] n K Rf V mc ms (XR Q)
def w7_factor (l : Launch) (G : gT) (d mc ms : Nat) (Q : Option Nat → Nat → kT → rT → vT → Prop) (pc : Nat) (ls : List (Option aV)) (st : List aV) (n : Nat) (K : kT) (Rf : rT) (V : vT) (ca sa : Nat) : Prop := wp l G (rmQ d mc ms) "InsuredFlame$Reader" "factor" cX7_factor 3 (some (.object "InsuredFlame$Sum")) (Zm G mc ms (XR Q)) pc ls st n K Rf V ca sa
def c7_factor (l : Launch) (G : gT) (d mc ms n : Nat) (K : kT) (Rf : rT) (o : Nat)  (V : vT) (Q : Option Nat → Nat → kT → rT → vT → Prop) : Prop := MOk l G d yX7_factor cX7_factor 3 (some (.object "InsuredFlame$Sum")) [vr o] n K Rf V mc ms (XR Q)
def w7_condition (l : Launch) (G : gT) (d mc ms : Nat) (Q : Option Nat → Nat → kT → rT → vT → Prop) (pc : Nat) (ls : List (Option aV)) (st : List aV) (n : Nat) (K : kT) (Rf : rT) (V : vT) (ca sa : Nat) : Prop := wp l G (rmQ d mc ms) "InsuredFlame$Reader" "condition" cX7_condition 3 (some (.object "InsuredFlame$Condition")) (Zm G mc ms (XR Q)) pc ls st n K Rf V ca sa
def c7_condition (l : Launch) (G : gT) (d mc ms n : Nat) (K : kT) (Rf : rT) (o : Nat)  (V : vT) (Q : Option Nat → Nat → kT → rT → vT → Prop) : Prop := MOk l G d yX7_condition cX7_condition 3 (some (.object "InsuredFlame$Condition")) [vr o] n K Rf V mc ms (XR Q)
def w7_pieces (l : Launch) (G : gT) (d mc ms : Nat) (Q : Option Nat → Nat → kT → rT → vT → Prop) (pc : Nat) (ls : List (Option aV)) (st : List aV) (n : Nat) (K : kT) (Rf : rT) (V : vT) (ca sa : Nat) : Prop := wp l G (rmQ d mc ms) "InsuredFlame$Reader" "pieces" cX7_pieces 3 (some (.object "InsuredFlame$Condition")) (Zm G mc ms (XR Q)) pc ls st n K Rf V ca sa
def c7_pieces (l : Launch) (G : gT) (d mc ms n : Nat) (K : kT) (Rf : rT) (o : Nat)  (V : vT) (Q : Option Nat → Nat → kT → rT → vT → Prop) : Prop := MOk l G d yX7_pieces cX7_pieces 3 (some (.object "InsuredFlame$Condition")) [vr o] n K Rf V mc ms (XR Q)
def w7_piece (l : Launch) (G : gT) (d mc ms : Nat) (Q : Option Nat → Nat → kT → rT → vT → Prop) (pc : Nat) (ls : List (Option aV)) (st : List aV) (n : Nat) (K : kT) (Rf : rT) (V : vT) (ca sa : Nat) : Prop := wp l G (rmQ d mc ms) "InsuredFlame$Reader" "piece" cX7_piece 4 (some (.object "InsuredFlame$Condition")) (Zm G mc ms (XR Q)) pc ls st n K Rf V ca sa
def c7_piece (l : Launch) (G : gT) (d mc ms n : Nat) (K : kT) (Rf : rT) (o : Nat)  (V : vT) (Q : Option Nat → Nat → kT → rT → vT → Prop) : Prop := MOk l G d yX7_piece cX7_piece 4 (some (.object "InsuredFlame$Condition")) [vr o] n K Rf V mc ms (XR Q)
def w7_clause (l : Launch) (G : gT) (d mc ms : Nat) (Q : Nat → kT → rT → vT → Prop) (pc : Nat) (ls : List (Option aV)) (st : List aV) (n : Nat) (K : kT) (Rf : rT) (V : vT) (ca sa : Nat) : Prop := wp l G (rmQ d mc ms) "InsuredFlame$Reader" "clause" cX7_clause 4 none (Zm G mc ms (XV Q)) pc ls st n K Rf V ca sa
def c7_clause (l : Launch) (G : gT) (d mc ms n : Nat) (K : kT) (Rf : rT) (o : Nat)  (V : vT) (Q : Nat → kT → rT → vT → Prop) : Prop := MOk l G d yX7_clause cX7_clause 4 none [vr o] n K Rf V mc ms (XV Q)
def w7_read (l : Launch) (G : gT) (d mc ms : Nat) (Q : Int32 → Nat → kT → rT → vT → Prop) (pc : Nat) (ls : List (Option aV)) (st : List aV) (n : Nat) (K : kT) (Rf : rT) (V : vT) (ca sa : Nat) : Prop := wp l G (rmQ d mc ms) "InsuredFlame$Reader" "read" cX7_read 2 (some .int) (Zm G mc ms (XI Q)) pc ls st n K Rf V ca sa
def c7_read (l : Launch) (G : gT) (d mc ms n : Nat) (K : kT) (Rf : rT) (o : Nat)  (V : vT) (Q : Int32 → Nat → kT → rT → vT → Prop) : Prop := MOk l G d yX7_read cX7_read 2 (some .int) [vr o] n K Rf V mc ms (XI Q)
def w0_law (l : Launch) (G : gT) (d mc ms : Nat) (Q : Int32 → Nat → kT → rT → vT → Prop) (pc : Nat) (ls : List (Option aV)) (st : List aV) (n : Nat) (K : kT) (Rf : rT) (V : vT) (ca sa : Nat) : Prop := wp l G (rmQ d mc ms) "InsuredFlame" "law" cX0_law 4 (some .int) (Zm G mc ms (XI Q)) pc ls st n K Rf V ca sa
def c0_law (l : Launch) (G : gT) (d mc ms n : Nat) (K : kT) (Rf : rT) (x1 : Int32) (V : vT) (Q : Int32 → Nat → kT → rT → vT → Prop) : Prop := MOk l G d yX0_law cX0_law 4 (some .int) [vr 16, vi x1] n K Rf V mc ms (XI Q)
def w0_town (l : Launch) (G : gT) (d mc ms : Nat) (Q : Int32 → Nat → kT → rT → vT → Prop) (pc : Nat) (ls : List (Option aV)) (st : List aV) (n : Nat) (K : kT) (Rf : rT) (V : vT) (ca sa : Nat) : Prop := wp l G (rmQ d mc ms) "InsuredFlame" "town" cX0_town 5 (some .int) (Zm G mc ms (XI Q)) pc ls st n K Rf V ca sa
def c0_town (l : Launch) (G : gT) (d mc ms n : Nat) (K : kT) (Rf : rT) (x1 : Int32) (V : vT) (Q : Int32 → Nat → kT → rT → vT → Prop) : Prop := MOk l G d yX0_town cX0_town 5 (some .int) [vr 16, vi x1] n K Rf V mc ms (XI Q)
def w0_orders (l : Launch) (G : gT) (d mc ms : Nat) (Q : Int32 → Nat → kT → rT → vT → Prop) (pc : Nat) (ls : List (Option aV)) (st : List aV) (n : Nat) (K : kT) (Rf : rT) (V : vT) (ca sa : Nat) : Prop := wp l G (rmQ d mc ms) "InsuredFlame" "orders" cX0_orders 6 (some .int) (Zm G mc ms (XI Q)) pc ls st n K Rf V ca sa
def c0_orders (l : Launch) (G : gT) (d mc ms n : Nat) (K : kT) (Rf : rT) (x1 : Int32) (V : vT) (Q : Int32 → Nat → kT → rT → vT → Prop) : Prop := MOk l G d yX0_orders cX0_orders 6 (some .int) [vr 16, vi x1] n K Rf V mc ms (XI Q)
def w0_init (l : Launch) (G : gT) (d mc ms : Nat) (Q : Nat → kT → rT → vT → Prop) (pc : Nat) (ls : List (Option aV)) (st : List aV) (n : Nat) (K : kT) (Rf : rT) (V : vT) (ca sa : Nat) : Prop := wp l G (rmQ d mc ms) "InsuredFlame" "<init>" cX0_init 1 none (Zm G mc ms (XV Q)) pc ls st n K Rf V ca sa
def c0_init (l : Launch) (G : gT) (d mc ms n : Nat) (K : kT) (Rf : rT)  (V : vT) (Q : Nat → kT → rT → vT → Prop) : Prop := MOk l G d yX0_init cX0_init 1 none [vr 16] n K Rf V mc ms (XV Q)
theorem b8_init_0 {l : Launch} {G : gT} {d mc ms n ca sa : Nat} {K : kT} {Rf : rT} {V : vT} {Q : Nat → kT → rT → vT → Prop} {o : Nat} (hd : 8 ≤ d) (hca : ca ≤ mc) (hsa : sa ≤ ms) (h : Q n K Rf V) : w8_init l G d mc ms Q 0 [some (vr o)] [] n K Rf V ca sa := by
  refine wp_aload_n dX8_init_0 rfl ?_
  refine wp_objInit dX8_init_1 q550 q146 q147 (Nat.succ_le_succ (Nat.zero_le _)) (by show 0 + 12 ≤ 12 + 60 * d; omega) ?_
  refine wp_widen hca hsa ?_
  exact wp_vret dX8_init_4 ⟨rfl, h⟩
theorem n8_init {l : Launch} {G : gT} {d mc ms n : Nat} {K : kT} {Rf : rT} {V : vT} {Q : Nat → kT → rT → vT → Prop} {o : Nat} (h : w8_init l G d mc ms Q 0 [some (vr o)] [] n K Rf V 0 0) : c8_init l G d mc ms n K Rf o V Q := MOk.enter [some (vr o)] pn_X8 rfl rfl (Nat.le_of_ble_eq_true rfl) rfl h
theorem b12_init_0 {l : Launch} {G : gT} {d mc ms n ca sa : Nat} {K : kT} {Rf : rT} {V : vT} {Q : Nat → kT → rT → vT → Prop} {o : Nat} (hd : 8 ≤ d) (hca : ca ≤ mc) (hsa : sa ≤ ms) (h : Q n K Rf V) : w12_init l G d mc ms Q 0 [some (vr o)] [] n K Rf V ca sa := by
  refine wp_aload_n dX12_init_0 rfl ?_
  refine wp_objInit dX12_init_1 q603 q146 q147 (Nat.succ_le_succ (Nat.zero_le _)) (by show 0 + 12 ≤ 12 + 60 * d; omega) ?_
  refine wp_widen hca hsa ?_
  exact wp_vret dX12_init_4 ⟨rfl, h⟩
theorem n12_init {l : Launch} {G : gT} {d mc ms n : Nat} {K : kT} {Rf : rT} {V : vT} {Q : Nat → kT → rT → vT → Prop} {o : Nat} (h : w12_init l G d mc ms Q 0 [some (vr o)] [] n K Rf V 0 0) : c12_init l G d mc ms n K Rf o V Q := MOk.enter [some (vr o)] pn_X12 rfl rfl (Nat.le_of_ble_eq_true rfl) rfl h
theorem b1_init_0 {l : Launch} {G : gT} {d mc ms n ca sa : Nat} {K : kT} {Rf : rT} {V : vT} {Q : Nat → kT → rT → vT → Prop} {o : Nat} (hd : 8 ≤ d) (hca : ca ≤ mc) (hsa : sa ≤ ms) (h : Q n K Rf V) : w1_init l G d mc ms Q 0 [some (vr o)] [] n K Rf V ca sa := by
  refine wp_aload_n dX1_init_0 rfl ?_
  refine wp_objInit dX1_init_1 q156 q146 q147 (Nat.succ_le_succ (Nat.zero_le _)) (by show 0 + 12 ≤ 12 + 60 * d; omega) ?_
  refine wp_widen hca hsa ?_
  exact wp_vret dX1_init_4 ⟨rfl, h⟩
theorem n1_init {l : Launch} {G : gT} {d mc ms n : Nat} {K : kT} {Rf : rT} {V : vT} {Q : Nat → kT → rT → vT → Prop} {o : Nat} (h : w1_init l G d mc ms Q 0 [some (vr o)] [] n K Rf V 0 0) : c1_init l G d mc ms n K Rf o V Q := MOk.enter [some (vr o)] pn_X1 rfl rfl (Nat.le_of_ble_eq_true rfl) rfl h
theorem b9_init_0 {l : Launch} {G : gT} {d mc ms n ca sa : Nat} {K : kT} {Rf : rT} {V : vT} {Q : Nat → kT → rT → vT → Prop} {o : Nat} {x1 : Int32} {q2 : Option Nat} (hd : 8 ≤ d) (hca : ca ≤ mc) (hsa : sa ≤ ms) (hb : 16 ≤ o ∧ o < n) (hk : K o = .inl 7) (h : ∃ d1 mc1 ms1 : Nat, (d1 < d ∧ ca + mc1 ≤ mc ∧ sa + ms1 ≤ ms) ∧ c8_init l G d1 mc1 ms1 n K Rf o  V (fun n1 K1 Rf1 V1 => ((16 ≤ o ∧ o < n1) ∧ K1 o = .inl 7) ∧ ((Q n1 K1 (up2 Rf1 o 1 q2) (up2 V1 o 0 x1))))) : w9_init l G d mc ms Q 0 [some (vr o), some (vi x1), some (.inr q2)] [] n K Rf V ca sa := by
  refine wp_aload_n dX9_init_0 rfl ?_
  obtain ⟨d1, mc1, ms1, ⟨hdd, hmc, hms⟩, h⟩ := h
  refine wx_IN0 lk9_1 dX9_init_1 h (rmQ_ok hdd (by decide)) ⟨hmc, hms⟩ (Nat.le_of_ble_eq_true rfl) (fun n1 K1 Rf1 V1 h => ?_)
  replace hca := hmc
  replace hsa := hms
  obtain ⟨⟨hb, hk⟩, h⟩ := h
  refine wp_aload_n dX9_init_4 rfl ?_
  refine wp_iload_n dX9_init_5 rfl ?_
  refine wp_puti dX9_init_6 fp9_7_7 hb hk rfl ?_
  refine wp_aload_n dX9_init_9 rfl ?_
  refine wp_aload_n dX9_init_10 rfl ?_
  refine wp_putr (r := q2) dX9_init_11 fp9_13_7 hb hk rfl ?_
  refine wp_widen hca hsa ?_
  exact wp_vret dX9_init_14 ⟨rfl, h⟩
theorem n9_init {l : Launch} {G : gT} {d mc ms n : Nat} {K : kT} {Rf : rT} {V : vT} {Q : Nat → kT → rT → vT → Prop} {o : Nat} {x1 : Int32} {q2 : Option Nat} (h : w9_init l G d mc ms Q 0 [some (vr o), some (vi x1), some (.inr q2)] [] n K Rf V 0 0) : c9_init l G d mc ms n K Rf o x1 q2 V Q := MOk.enter [some (vr o), some (vi x1), some (.inr q2)] pn_X9 rfl rfl (Nat.le_of_ble_eq_true rfl) rfl h
theorem b10_init_0 {l : Launch} {G : gT} {d mc ms n ca sa : Nat} {K : kT} {Rf : rT} {V : vT} {Q : Nat → kT → rT → vT → Prop} {o : Nat} {x1 : Int32} (hd : 8 ≤ d) (hca : ca ≤ mc) (hsa : sa ≤ ms) (hb : 16 ≤ o ∧ o < n) (hk : K o = .inl 8) (h : ∃ d1 mc1 ms1 : Nat, (d1 < d ∧ ca + mc1 ≤ mc ∧ sa + ms1 ≤ ms) ∧ c8_init l G d1 mc1 ms1 n K Rf o  V (fun n1 K1 Rf1 V1 => ((16 ≤ o ∧ o < n1) ∧ K1 o = .inl 8) ∧ (Q n1 K1 Rf1 (up2 V1 o 0 x1)))) : w10_init l G d mc ms Q 0 [some (vr o), some (vi x1)] [] n K Rf V ca sa := by
  refine wp_aload_n dX10_init_0 rfl ?_
  obtain ⟨d1, mc1, ms1, ⟨hdd, hmc, hms⟩, h⟩ := h
  refine wx_IN0 lk10_1 dX10_init_1 h (rmQ_ok hdd (by decide)) ⟨hmc, hms⟩ (Nat.le_of_ble_eq_true rfl) (fun n1 K1 Rf1 V1 h => ?_)
  replace hca := hmc
  replace hsa := hms
  obtain ⟨⟨hb, hk⟩, h⟩ := h
  refine wp_aload_n dX10_init_4 rfl ?_
  refine wp_iload_n dX10_init_5 rfl ?_
  refine wp_puti dX10_init_6 fp10_7_8 hb hk rfl ?_
  refine wp_widen hca hsa ?_
  exact wp_vret dX10_init_9 ⟨rfl, h⟩
theorem n10_init {l : Launch} {G : gT} {d mc ms n : Nat} {K : kT} {Rf : rT} {V : vT} {Q : Nat → kT → rT → vT → Prop} {o : Nat} {x1 : Int32} (h : w10_init l G d mc ms Q 0 [some (vr o), some (vi x1)] [] n K Rf V 0 0) : c10_init l G d mc ms n K Rf o x1 V Q := MOk.enter [some (vr o), some (vi x1)] pn_X10 rfl rfl (Nat.le_of_ble_eq_true rfl) rfl h
theorem b11_init_0 {l : Launch} {G : gT} {d mc ms n ca sa : Nat} {K : kT} {Rf : rT} {V : vT} {Q : Nat → kT → rT → vT → Prop} {o : Nat} {x1 : Int32} (hd : 8 ≤ d) (hca : ca ≤ mc) (hsa : sa ≤ ms) (hb : 16 ≤ o ∧ o < n) (hk : K o = .inl 9) (h : ∃ d1 mc1 ms1 : Nat, (d1 < d ∧ ca + mc1 ≤ mc ∧ sa + ms1 ≤ ms) ∧ c8_init l G d1 mc1 ms1 n K Rf o  V (fun n1 K1 Rf1 V1 => ((16 ≤ o ∧ o < n1) ∧ K1 o = .inl 9) ∧ (Q n1 K1 Rf1 (up2 V1 o 0 x1)))) : w11_init l G d mc ms Q 0 [some (vr o), some (vi x1)] [] n K Rf V ca sa := by
  refine wp_aload_n dX11_init_0 rfl ?_
  obtain ⟨d1, mc1, ms1, ⟨hdd, hmc, hms⟩, h⟩ := h
  refine wx_IN0 lk11_1 dX11_init_1 h (rmQ_ok hdd (by decide)) ⟨hmc, hms⟩ (Nat.le_of_ble_eq_true rfl) (fun n1 K1 Rf1 V1 h => ?_)
  replace hca := hmc
  replace hsa := hms
  obtain ⟨⟨hb, hk⟩, h⟩ := h
  refine wp_aload_n dX11_init_4 rfl ?_
  refine wp_iload_n dX11_init_5 rfl ?_
  refine wp_puti dX11_init_6 fp11_7_9 hb hk rfl ?_
  refine wp_widen hca hsa ?_
  exact wp_vret dX11_init_9 ⟨rfl, h⟩
theorem n11_init {l : Launch} {G : gT} {d mc ms n : Nat} {K : kT} {Rf : rT} {V : vT} {Q : Nat → kT → rT → vT → Prop} {o : Nat} {x1 : Int32} (h : w11_init l G d mc ms Q 0 [some (vr o), some (vi x1)] [] n K Rf V 0 0) : c11_init l G d mc ms n K Rf o x1 V Q := MOk.enter [some (vr o), some (vi x1)] pn_X11 rfl rfl (Nat.le_of_ble_eq_true rfl) rfl h
theorem b13_init_0 {l : Launch} {G : gT} {d mc ms n ca sa : Nat} {K : kT} {Rf : rT} {V : vT} {Q : Nat → kT → rT → vT → Prop} {o : Nat} {x2 : Int32} {q1 : Option Nat} (hd : 8 ≤ d) (hca : ca ≤ mc) (hsa : sa ≤ ms) (hb : 16 ≤ o ∧ o < n) (hk : K o = .inl 10) (h : ∃ d1 mc1 ms1 : Nat, (d1 < d ∧ ca + mc1 ≤ mc ∧ sa + ms1 ≤ ms) ∧ c12_init l G d1 mc1 ms1 n K Rf o  V (fun n1 K1 Rf1 V1 => ((16 ≤ o ∧ o < n1) ∧ K1 o = .inl 10) ∧ ((Q n1 K1 (up2 Rf1 o 0 q1) (up2 V1 o 1 x2))))) : w13_init l G d mc ms Q 0 [some (vr o), some (.inr q1), some (vi x2)] [] n K Rf V ca sa := by
  refine wp_aload_n dX13_init_0 rfl ?_
  obtain ⟨d1, mc1, ms1, ⟨hdd, hmc, hms⟩, h⟩ := h
  refine wx_IN0 lk13_1 dX13_init_1 h (rmQ_ok hdd (by decide)) ⟨hmc, hms⟩ (Nat.le_of_ble_eq_true rfl) (fun n1 K1 Rf1 V1 h => ?_)
  replace hca := hmc
  replace hsa := hms
  obtain ⟨⟨hb, hk⟩, h⟩ := h
  refine wp_aload_n dX13_init_4 rfl ?_
  refine wp_aload_n dX13_init_5 rfl ?_
  refine wp_putr (r := q1) dX13_init_6 fp13_7_10 hb hk rfl ?_
  refine wp_aload_n dX13_init_9 rfl ?_
  refine wp_iload_n dX13_init_10 rfl ?_
  refine wp_puti dX13_init_11 fp13_13_10 hb hk rfl ?_
  refine wp_widen hca hsa ?_
  exact wp_vret dX13_init_14 ⟨rfl, h⟩
theorem n13_init {l : Launch} {G : gT} {d mc ms n : Nat} {K : kT} {Rf : rT} {V : vT} {Q : Nat → kT → rT → vT → Prop} {o : Nat} {x2 : Int32} {q1 : Option Nat} (h : w13_init l G d mc ms Q 0 [some (vr o), some (.inr q1), some (vi x2)] [] n K Rf V 0 0) : c13_init l G d mc ms n K Rf o q1 x2 V Q := MOk.enter [some (vr o), some (.inr q1), some (vi x2)] pn_X13 rfl rfl (Nat.le_of_ble_eq_true rfl) rfl h
theorem b14_init_0 {l : Launch} {G : gT} {d mc ms n ca sa : Nat} {K : kT} {Rf : rT} {V : vT} {Q : Nat → kT → rT → vT → Prop} {o : Nat} {q1 : Option Nat} (hd : 8 ≤ d) (hca : ca ≤ mc) (hsa : sa ≤ ms) (hb : 16 ≤ o ∧ o < n) (hk : K o = .inl 11) (h : ∃ d1 mc1 ms1 : Nat, (d1 < d ∧ ca + mc1 ≤ mc ∧ sa + ms1 ≤ ms) ∧ c12_init l G d1 mc1 ms1 n K Rf o  V (fun n1 K1 Rf1 V1 => ((16 ≤ o ∧ o < n1) ∧ K1 o = .inl 11) ∧ ((Q n1 K1 (up2 Rf1 o 0 q1) V1)))) : w14_init l G d mc ms Q 0 [some (vr o), some (.inr q1)] [] n K Rf V ca sa := by
  refine wp_aload_n dX14_init_0 rfl ?_
  obtain ⟨d1, mc1, ms1, ⟨hdd, hmc, hms⟩, h⟩ := h
  refine wx_IN0 lk14_1 dX14_init_1 h (rmQ_ok hdd (by decide)) ⟨hmc, hms⟩ (Nat.le_of_ble_eq_true rfl) (fun n1 K1 Rf1 V1 h => ?_)
  replace hca := hmc
  replace hsa := hms
  obtain ⟨⟨hb, hk⟩, h⟩ := h
  refine wp_aload_n dX14_init_4 rfl ?_
  refine wp_aload_n dX14_init_5 rfl ?_
  refine wp_putr (r := q1) dX14_init_6 fp14_7_11 hb hk rfl ?_
  refine wp_widen hca hsa ?_
  exact wp_vret dX14_init_9 ⟨rfl, h⟩
theorem n14_init {l : Launch} {G : gT} {d mc ms n : Nat} {K : kT} {Rf : rT} {V : vT} {Q : Nat → kT → rT → vT → Prop} {o : Nat} {q1 : Option Nat} (h : w14_init l G d mc ms Q 0 [some (vr o), some (.inr q1)] [] n K Rf V 0 0) : c14_init l G d mc ms n K Rf o q1 V Q := MOk.enter [some (vr o), some (.inr q1)] pn_X14 rfl rfl (Nat.le_of_ble_eq_true rfl) rfl h
theorem b15_init_0 {l : Launch} {G : gT} {d mc ms n ca sa : Nat} {K : kT} {Rf : rT} {V : vT} {Q : Nat → kT → rT → vT → Prop} {o : Nat} {x2 : Int32} {q1 q3 : Option Nat} (hd : 8 ≤ d) (hca : ca ≤ mc) (hsa : sa ≤ ms) (hb : 16 ≤ o ∧ o < n) (hk : K o = .inl 12) (h : ∃ d1 mc1 ms1 : Nat, (d1 < d ∧ ca + mc1 ≤ mc ∧ sa + ms1 ≤ ms) ∧ c12_init l G d1 mc1 ms1 n K Rf o  V (fun n1 K1 Rf1 V1 => ((16 ≤ o ∧ o < n1) ∧ K1 o = .inl 12) ∧ (((Q n1 K1 (up2 (up2 Rf1 o 0 q1) o 1 q3) (up2 V1 o 2 x2)))))) : w15_init l G d mc ms Q 0 [some (vr o), some (.inr q1), some (vi x2), some (.inr q3)] [] n K Rf V ca sa := by
  refine wp_aload_n dX15_init_0 rfl ?_
  obtain ⟨d1, mc1, ms1, ⟨hdd, hmc, hms⟩, h⟩ := h
  refine wx_IN0 lk15_1 dX15_init_1 h (rmQ_ok hdd (by decide)) ⟨hmc, hms⟩ (Nat.le_of_ble_eq_true rfl) (fun n1 K1 Rf1 V1 h => ?_)
  replace hca := hmc
  replace hsa := hms
  obtain ⟨⟨hb, hk⟩, h⟩ := h
  refine wp_aload_n dX15_init_4 rfl ?_
  refine wp_aload_n dX15_init_5 rfl ?_
  refine wp_putr (r := q1) dX15_init_6 fp15_7_12 hb hk rfl ?_
  refine wp_aload_n dX15_init_9 rfl ?_
  refine wp_iload_n dX15_init_10 rfl ?_
  refine wp_puti dX15_init_11 fp15_13_12 hb hk rfl ?_
  refine wp_aload_n dX15_init_14 rfl ?_
  refine wp_aload_n dX15_init_15 rfl ?_
  refine wp_putr (r := q3) dX15_init_16 fp15_17_12 hb hk rfl ?_
  refine wp_widen hca hsa ?_
  exact wp_vret dX15_init_19 ⟨rfl, h⟩
theorem n15_init {l : Launch} {G : gT} {d mc ms n : Nat} {K : kT} {Rf : rT} {V : vT} {Q : Nat → kT → rT → vT → Prop} {o : Nat} {x2 : Int32} {q1 q3 : Option Nat} (h : w15_init l G d mc ms Q 0 [some (vr o), some (.inr q1), some (vi x2), some (.inr q3)] [] n K Rf V 0 0) : c15_init l G d mc ms n K Rf o q1 x2 q3 V Q := MOk.enter [some (vr o), some (.inr q1), some (vi x2), some (.inr q3)] pn_X15 rfl rfl (Nat.le_of_ble_eq_true rfl) rfl h
theorem b2_init_0 {l : Launch} {G : gT} {d mc ms n ca sa : Nat} {K : kT} {Rf : rT} {V : vT} {Q : Nat → kT → rT → vT → Prop} {o : Nat} (hd : 8 ≤ d) (hca : ca ≤ mc) (hsa : sa ≤ ms) (hb : 16 ≤ o ∧ o < n) (hk : K o = .inl 1) (h : ∃ d1 mc1 ms1 : Nat, (d1 < d ∧ ca + mc1 ≤ mc ∧ sa + ms1 ≤ ms) ∧ c1_init l G d1 mc1 ms1 n K Rf o  V (fun n1 K1 Rf1 V1 => ((16 ≤ o ∧ o < n1) ∧ K1 o = .inl 1) ∧ (Q n1 K1 Rf1 V1))) : w2_init l G d mc ms Q 0 [some (vr o)] [] n K Rf V ca sa := by
  refine wp_aload_n dX2_init_0 rfl ?_
  obtain ⟨d1, mc1, ms1, ⟨hdd, hmc, hms⟩, h⟩ := h
  refine wx_IN0 lk2_3 dX2_init_1 h (rmQ_ok hdd (by decide)) ⟨hmc, hms⟩ (Nat.le_of_ble_eq_true rfl) (fun n1 K1 Rf1 V1 h => ?_)
  replace hca := hmc
  replace hsa := hms
  obtain ⟨⟨hb, hk⟩, h⟩ := h
  refine wp_widen hca hsa ?_
  exact wp_vret dX2_init_4 ⟨rfl, h⟩
theorem n2_init {l : Launch} {G : gT} {d mc ms n : Nat} {K : kT} {Rf : rT} {V : vT} {Q : Nat → kT → rT → vT → Prop} {o : Nat} (h : w2_init l G d mc ms Q 0 [some (vr o)] [] n K Rf V 0 0) : c2_init l G d mc ms n K Rf o V Q := MOk.enter [some (vr o)] pn_X2 rfl rfl (Nat.le_of_ble_eq_true rfl) rfl h
theorem b4_init_0 {l : Launch} {G : gT} {d mc ms n ca sa : Nat} {K : kT} {Rf : rT} {V : vT} {Q : Nat → kT → rT → vT → Prop} {o : Nat} (hd : 8 ≤ d) (hca : ca ≤ mc) (hsa : sa ≤ ms) (hb : 16 ≤ o ∧ o < n) (hk : K o = .inl 3) (h : Q n K Rf V) : w4_init l G d mc ms Q 0 [some (vr o)] [] n K Rf V ca sa := by
  refine wp_aload_n dX4_init_0 rfl ?_
  refine wp_objInit dX4_init_1 q203 q146 q147 (Nat.succ_le_succ (Nat.zero_le _)) (by show 0 + 12 ≤ 12 + 60 * d; omega) ?_
  refine wp_widen hca hsa ?_
  exact wp_vret dX4_init_4 ⟨rfl, h⟩
theorem n4_init {l : Launch} {G : gT} {d mc ms n : Nat} {K : kT} {Rf : rT} {V : vT} {Q : Nat → kT → rT → vT → Prop} {o : Nat} (h : w4_init l G d mc ms Q 0 [some (vr o)] [] n K Rf V 0 0) : c4_init l G d mc ms n K Rf o V Q := MOk.enter [some (vr o)] pn_X4 rfl rfl (Nat.le_of_ble_eq_true rfl) rfl h
theorem b5_init_0 {l : Launch} {G : gT} {d mc ms n ca sa : Nat} {K : kT} {Rf : rT} {V : vT} {Q : Nat → kT → rT → vT → Prop} {o : Nat} (hd : 8 ≤ d) (hca : ca ≤ mc) (hsa : sa ≤ ms) (hb : 16 ≤ o ∧ o < n) (hk : K o = .inl 4) (h : (ca + 1 ≤ mc ∧ sa + 16 ≤ ms) ∧ ((((ca + 1) + 1 ≤ mc ∧ (sa + 16) + 16 ≤ ms) ∧ (((((ca + 1) + 1) + 1 ≤ mc ∧ ((sa + 16) + 16) + 16 ≤ ms) ∧ ((Q (((n + 1) + 1) + 1) (upK (upK (upK K n (.inr (0, 16))) (n + 1) (.inr (4, 16))) ((n + 1) + 1) (.inr (5, 16))) (up2 (up2 (up2 Rf o 0 (some n)) o 1 (some (n + 1))) o 2 (some ((n + 1) + 1))) V))))))) : w5_init l G d mc ms Q 0 [some (vr o)] [] n K Rf V ca sa := by
  refine wp_aload_n dX5_init_0 rfl ?_
  refine wp_objInit dX5_init_1 q274 q146 q147 (Nat.succ_le_succ (Nat.zero_le _)) (by show 0 + 12 ≤ 12 + 60 * d; omega) ?_
  refine wp_aload_n dX5_init_4 rfl ?_
  refine wp_bipush (v := 16) dX5_init_5 rfl ?_
  refine wp_newI 16 dX5_init_7 q190 (by decide) (by decide) (by decide) h.1.1 h.1.2 ?_
  replace hca := h.1.1
  replace hsa := h.1.2
  replace h := h.2
  replace hk := (upK_o (k := .inr (0, 16)) _ (Nat.ne_of_lt hb.2)).trans hk
  replace hb := And.intro hb.1 (Nat.lt_succ_of_lt hb.2)
  refine wp_putr (r := (some n)) dX5_init_9 fp5_9_4 hb hk rfl ?_
  refine wp_aload_n dX5_init_12 rfl ?_
  refine wp_bipush (v := 16) dX5_init_13 rfl ?_
  refine wp_anew 4 16 dX5_init_15 q275 (by decide) rfl (fun _ h9 => h9.2.2.1.2.1) (by decide) (by decide) (by decide) h.1.1 h.1.2 ?_
  replace hca := h.1.1
  replace hsa := h.1.2
  replace h := h.2
  replace hk := (upK_o (k := .inr (4, 16)) _ (Nat.ne_of_lt hb.2)).trans hk
  replace hb := And.intro hb.1 (Nat.lt_succ_of_lt hb.2)
  refine wp_putr (r := (some (n + 1))) dX5_init_18 fp5_17_4 hb hk rfl ?_
  refine wp_aload_n dX5_init_21 rfl ?_
  refine wp_bipush (v := 16) dX5_init_22 rfl ?_
  refine wp_anew 5 16 dX5_init_24 q277 (by decide) rfl (fun _ h9 => h9.2.2.1.2.2) (by decide) (by decide) (by decide) h.1.1 h.1.2 ?_
  replace hca := h.1.1
  replace hsa := h.1.2
  replace h := h.2
  replace hk := (upK_o (k := .inr (5, 16)) _ (Nat.ne_of_lt hb.2)).trans hk
  replace hb := And.intro hb.1 (Nat.lt_succ_of_lt hb.2)
  refine wp_putr (r := (some ((n + 1) + 1))) dX5_init_27 fp5_23_4 hb hk rfl ?_
  refine wp_widen hca hsa ?_
  exact wp_vret dX5_init_30 ⟨rfl, h⟩
theorem n5_init {l : Launch} {G : gT} {d mc ms n : Nat} {K : kT} {Rf : rT} {V : vT} {Q : Nat → kT → rT → vT → Prop} {o : Nat} (h : w5_init l G d mc ms Q 0 [some (vr o)] [] n K Rf V 0 0) : c5_init l G d mc ms n K Rf o V Q := MOk.enter [some (vr o)] pn_X5 rfl rfl (Nat.le_of_ble_eq_true rfl) rfl h
theorem b16s_init_0 {l : Launch} {G : gT} {d mc ms n ca sa : Nat} {K : kT} {Rf : rT} {V : vT} {Q : Nat → kT → rT → vT → Prop} {o : Nat} {x2 : Int32} (hd : 8 ≤ d) (hca : ca ≤ mc) (hsa : sa ≤ ms) (hb : 16 ≤ o ∧ o < n) (hk : K o = .inl 13) (h : ∀ Rf2, (Rf2 = up2 Rf o 4 (some 16) ∨ Rf2 = up2 (up2 Rf o 4 (some 16)) o 8 (some 16)) → (Q n K Rf2 (up2 V o 0 x2))) : w16s_init l G d mc ms Q 0 [some (vr o), some (vr 16), some (vi x2)] [] n K Rf V ca sa := by
  refine wp_aload_n dX16_init_0 rfl ?_
  refine wp_aload_n dX16_init_1 rfl ?_
  refine wp_putrd (r := (some 16)) dX16_init_2 fd16_1_13 hb hk rfl rfl (fun Rf2 hR9 => ?_)
  replace h := h Rf2 hR9
  refine wp_aload_n dX16_init_5 rfl ?_
  refine wp_objInit dX16_init_6 q651 q146 q147 (Nat.succ_le_succ (Nat.zero_le _)) (by show 0 + 12 ≤ 12 + 60 * d; omega) ?_
  refine wp_aload_n dX16_init_9 rfl ?_
  refine wp_iload_n dX16_init_10 rfl ?_
  refine wp_puti dX16_init_11 fp16_13_13 hb hk rfl ?_
  refine wp_widen hca hsa ?_
  exact wp_vret dX16_init_14 ⟨rfl, h⟩
theorem n16s_init {l : Launch} {G : gT} {d mc ms n : Nat} {K : kT} {Rf : rT} {V : vT} {Q : Nat → kT → rT → vT → Prop} {o : Nat} {x2 : Int32} (h : w16s_init l G d mc ms Q 0 [some (vr o), some (vr 16), some (vi x2)] [] n K Rf V 0 0) : c16s_init l G d mc ms n K Rf o x2 V Q := MOk.enter [some (vr o), some (vr 16), some (vi x2)] pn_X16 rfl rfl (Nat.le_of_ble_eq_true rfl) rfl h
theorem b16c_init_0 {l : Launch} {G : gT} {d mc ms n ca sa : Nat} {K : kT} {Rf : rT} {V : vT} {Q : Nat → kT → rT → vT → Prop} {o : Nat} {x2 : Int32} (hd : 8 ≤ d) (hca : ca ≤ mc) (hsa : sa ≤ ms) (hb : 16 ≤ o ∧ o < n) (hk : K o = .inl 14) (h : ∀ Rf2, (Rf2 = up2 Rf o 4 (some 16) ∨ Rf2 = up2 (up2 Rf o 4 (some 16)) o 7 (some 16)) → (Q n K Rf2 (up2 V o 0 x2))) : w16c_init l G d mc ms Q 0 [some (vr o), some (vr 16), some (vi x2)] [] n K Rf V ca sa := by
  refine wp_aload_n dX16_init_0 rfl ?_
  refine wp_aload_n dX16_init_1 rfl ?_
  refine wp_putrd (r := (some 16)) dX16_init_2 fd16_1_14 hb hk rfl rfl (fun Rf2 hR9 => ?_)
  replace h := h Rf2 hR9
  refine wp_aload_n dX16_init_5 rfl ?_
  refine wp_objInit dX16_init_6 q651 q146 q147 (Nat.succ_le_succ (Nat.zero_le _)) (by show 0 + 12 ≤ 12 + 60 * d; omega) ?_
  refine wp_aload_n dX16_init_9 rfl ?_
  refine wp_iload_n dX16_init_10 rfl ?_
  refine wp_puti dX16_init_11 fp16_13_14 hb hk rfl ?_
  refine wp_widen hca hsa ?_
  exact wp_vret dX16_init_14 ⟨rfl, h⟩
theorem n16c_init {l : Launch} {G : gT} {d mc ms n : Nat} {K : kT} {Rf : rT} {V : vT} {Q : Nat → kT → rT → vT → Prop} {o : Nat} {x2 : Int32} (h : w16c_init l G d mc ms Q 0 [some (vr o), some (vr 16), some (vi x2)] [] n K Rf V 0 0) : c16c_init l G d mc ms n K Rf o x2 V Q := MOk.enter [some (vr o), some (vr 16), some (vi x2)] pn_X16 rfl rfl (Nat.le_of_ble_eq_true rfl) rfl h
theorem b17_init_0 {l : Launch} {G : gT} {d mc ms n ca sa : Nat} {K : kT} {Rf : rT} {V : vT} {Q : Nat → kT → rT → vT → Prop} {o : Nat} {x2 : Int32} (hd : 8 ≤ d) (hca : ca ≤ mc) (hsa : sa ≤ ms) (hb : 16 ≤ o ∧ o < n) (hk : K o = .inl 13) (h : ∀ Rf2, (Rf2 = up2 Rf o 8 (some 16) ∨ Rf2 = up2 (up2 Rf o 8 (some 16)) o 4 (some 16)) → (∃ d8 mc8 ms8 : Nat, (d8 < d ∧ ca + mc8 ≤ mc ∧ sa + ms8 ≤ ms) ∧ c16s_init l G d8 mc8 ms8 n K Rf2 o x2 V (fun n8 K8 Rf8 V8 => ((16 ≤ o ∧ o < n8) ∧ K8 o = .inl 13) ∧ (((ca + mc8) + 1 ≤ mc ∧ (sa + ms8) + 96 ≤ ms) ∧ ((Q (n8 + 1) (upK K8 n8 (.inr (0, 96))) (up2 Rf8 o 5 (some n8)) V8)))))) : w17_init l G d mc ms Q 0 [some (vr o), some (vr 16), some (vi x2)] [] n K Rf V ca sa := by
  refine wp_aload_n dX17_init_0 rfl ?_
  refine wp_aload_n dX17_init_1 rfl ?_
  refine wp_putrd (r := (some 16)) dX17_init_2 fd17_3_13 hb hk rfl rfl (fun Rf2 hR9 => ?_)
  replace h := h Rf2 hR9
  refine wp_aload_n dX17_init_5 rfl ?_
  refine wp_aload_n dX17_init_6 rfl ?_
  refine wp_iload_n dX17_init_7 rfl ?_
  obtain ⟨d8, mc8, ms8, ⟨hdd, hmc, hms⟩, h⟩ := h
  refine wx_I2 lk17_9 dX17_init_8 h (rmQ_ok hdd (by decide)) ⟨hmc, hms⟩ (Nat.le_of_ble_eq_true rfl) (fun n8 K8 Rf8 V8 h => ?_)
  replace hca := hmc
  replace hsa := hms
  obtain ⟨⟨hb, hk⟩, h⟩ := h
  refine wp_aload_n dX17_init_11 rfl ?_
  refine wp_bipush (v := 96) dX17_init_12 rfl ?_
  refine wp_newI 96 dX17_init_14 q190 (by decide) (by decide) (by decide) h.1.1 h.1.2 ?_
  replace hca := h.1.1
  replace hsa := h.1.2
  replace h := h.2
  replace hk := (upK_o (k := .inr (0, 96)) _ (Nat.ne_of_lt hb.2)).trans hk
  replace hb := And.intro hb.1 (Nat.lt_succ_of_lt hb.2)
  refine wp_putr (r := (some n8)) dX17_init_16 fp17_15_13 hb hk rfl ?_
  refine wp_widen hca hsa ?_
  exact wp_vret dX17_init_19 ⟨rfl, h⟩
theorem n17_init {l : Launch} {G : gT} {d mc ms n : Nat} {K : kT} {Rf : rT} {V : vT} {Q : Nat → kT → rT → vT → Prop} {o : Nat} {x2 : Int32} (h : w17_init l G d mc ms Q 0 [some (vr o), some (vr 16), some (vi x2)] [] n K Rf V 0 0) : c17_init l G d mc ms n K Rf o x2 V Q := MOk.enter [some (vr o), some (vr 16), some (vi x2)] pn_X17 rfl rfl (Nat.le_of_ble_eq_true rfl) rfl h
theorem b18_init_0 {l : Launch} {G : gT} {d mc ms n ca sa : Nat} {K : kT} {Rf : rT} {V : vT} {Q : Nat → kT → rT → vT → Prop} {o : Nat} {x2 : Int32} (hd : 8 ≤ d) (hca : ca ≤ mc) (hsa : sa ≤ ms) (hb : 16 ≤ o ∧ o < n) (hk : K o = .inl 14) (h : ∀ Rf2, (Rf2 = up2 Rf o 7 (some 16) ∨ Rf2 = up2 (up2 Rf o 7 (some 16)) o 4 (some 16)) → (∃ d8 mc8 ms8 : Nat, (d8 < d ∧ ca + mc8 ≤ mc ∧ sa + ms8 ≤ ms) ∧ c16c_init l G d8 mc8 ms8 n K Rf2 o x2 V (fun n8 K8 Rf8 V8 => ((16 ≤ o ∧ o < n8) ∧ K8 o = .inl 14) ∧ (((ca + mc8) + 1 ≤ mc ∧ (sa + ms8) + 96 ≤ ms) ∧ ((Q (n8 + 1) (upK K8 n8 (.inr (2, 96))) (up2 Rf8 o 5 (some n8)) V8)))))) : w18_init l G d mc ms Q 0 [some (vr o), some (vr 16), some (vi x2)] [] n K Rf V ca sa := by
  refine wp_aload_n dX18_init_0 rfl ?_
  refine wp_aload_n dX18_init_1 rfl ?_
  refine wp_putrd (r := (some 16)) dX18_init_2 fd18_3_14 hb hk rfl rfl (fun Rf2 hR9 => ?_)
  replace h := h Rf2 hR9
  refine wp_aload_n dX18_init_5 rfl ?_
  refine wp_aload_n dX18_init_6 rfl ?_
  refine wp_iload_n dX18_init_7 rfl ?_
  obtain ⟨d8, mc8, ms8, ⟨hdd, hmc, hms⟩, h⟩ := h
  refine wx_I2 lk18_9 dX18_init_8 h (rmQ_ok hdd (by decide)) ⟨hmc, hms⟩ (Nat.le_of_ble_eq_true rfl) (fun n8 K8 Rf8 V8 h => ?_)
  replace hca := hmc
  replace hsa := hms
  obtain ⟨⟨hb, hk⟩, h⟩ := h
  refine wp_aload_n dX18_init_11 rfl ?_
  refine wp_bipush (v := 96) dX18_init_12 rfl ?_
  refine wp_newZ 96 dX18_init_14 q234 (by decide) (by decide) (by decide) h.1.1 h.1.2 ?_
  replace hca := h.1.1
  replace hsa := h.1.2
  replace h := h.2
  replace hk := (upK_o (k := .inr (2, 96)) _ (Nat.ne_of_lt hb.2)).trans hk
  replace hb := And.intro hb.1 (Nat.lt_succ_of_lt hb.2)
  refine wp_putr (r := (some n8)) dX18_init_16 fp18_15_14 hb hk rfl ?_
  refine wp_widen hca hsa ?_
  exact wp_vret dX18_init_19 ⟨rfl, h⟩
theorem n18_init {l : Launch} {G : gT} {d mc ms n : Nat} {K : kT} {Rf : rT} {V : vT} {Q : Nat → kT → rT → vT → Prop} {o : Nat} {x2 : Int32} (h : w18_init l G d mc ms Q 0 [some (vr o), some (vr 16), some (vi x2)] [] n K Rf V 0 0) : c18_init l G d mc ms n K Rf o x2 V Q := MOk.enter [some (vr o), some (vr 16), some (vi x2)] pn_X18 rfl rfl (Nat.le_of_ble_eq_true rfl) rfl h
theorem b3_init_0 {l : Launch} {G : gT} {d mc ms n ca sa : Nat} {K : kT} {Rf : rT} {V : vT} {Q : Nat → kT → rT → vT → Prop} {o : Nat} (hd : 8 ≤ d) (hca : ca ≤ mc) (hsa : sa ≤ ms) (hb : 16 ≤ o ∧ o < n) (hk : K o = .inl 2) (h : ((ca + 1 ≤ mc ∧ sa + 96 ≤ ms) ∧ ((((ca + 1) + 1 ≤ mc ∧ (sa + 96) + 96 ≤ ms) ∧ (((((ca + 1) + 1) + 1 ≤ mc ∧ ((sa + 96) + 96) + 96 ≤ ms) ∧ ((((((ca + 1) + 1) + 1) + 1 ≤ mc ∧ (((sa + 96) + 96) + 96) + 24 ≤ ms) ∧ ((w3_init l G d mc ms Q 44 [some (vr o), none, some (vi 0)] [] ((((n + 1) + 1) + 1) + 1) (upK (upK (upK (upK K n (.inr (0, 96))) (n + 1) (.inr (0, 96))) ((n + 1) + 1) (.inr (2, 96))) (((n + 1) + 1) + 1) (.inr (3, 24))) (up2 (up2 (up2 (up2 (up2 Rf o 7 (some 16)) o 0 (some n)) o 1 (some (n + 1))) o 2 (some ((n + 1) + 1))) o 3 (some (((n + 1) + 1) + 1))) V ((((ca + 1) + 1) + 1) + 1) ((((sa + 96) + 96) + 96) + 24))))))))))) : w3_init l G d mc ms Q 0 [some (vr o), some (vr 16), none] [] n K Rf V ca sa := by
  refine wp_aload_n dX3_init_0 rfl ?_
  refine wp_aload_n dX3_init_1 rfl ?_
  refine wp_putr (r := (some 16)) dX3_init_2 fp3_3_2 hb hk rfl ?_
  refine wp_aload_n dX3_init_5 rfl ?_
  refine wp_objInit dX3_init_6 q196 q146 q147 (Nat.succ_le_succ (Nat.zero_le _)) (by show 0 + 12 ≤ 12 + 60 * d; omega) ?_
  refine wp_aload_n dX3_init_9 rfl ?_
  refine wp_bipush (v := 96) dX3_init_10 rfl ?_
  refine wp_newI 96 dX3_init_12 q190 (by decide) (by decide) (by decide) h.1.1 h.1.2 ?_
  replace hca := h.1.1
  replace hsa := h.1.2
  replace h := h.2
  replace hk := (upK_o (k := .inr (0, 96)) _ (Nat.ne_of_lt hb.2)).trans hk
  replace hb := And.intro hb.1 (Nat.lt_succ_of_lt hb.2)
  refine wp_putr (r := (some n)) dX3_init_14 fp3_15_2 hb hk rfl ?_
  refine wp_aload_n dX3_init_17 rfl ?_
  refine wp_bipush (v := 96) dX3_init_18 rfl ?_
  refine wp_newI 96 dX3_init_20 q190 (by decide) (by decide) (by decide) h.1.1 h.1.2 ?_
  replace hca := h.1.1
  replace hsa := h.1.2
  replace h := h.2
  replace hk := (upK_o (k := .inr (0, 96)) _ (Nat.ne_of_lt hb.2)).trans hk
  replace hb := And.intro hb.1 (Nat.lt_succ_of_lt hb.2)
  refine wp_putr (r := (some (n + 1))) dX3_init_22 fp3_19_2 hb hk rfl ?_
  refine wp_aload_n dX3_init_25 rfl ?_
  refine wp_bipush (v := 96) dX3_init_26 rfl ?_
  refine wp_newZ 96 dX3_init_28 q234 (by decide) (by decide) (by decide) h.1.1 h.1.2 ?_
  replace hca := h.1.1
  replace hsa := h.1.2
  replace h := h.2
  replace hk := (upK_o (k := .inr (2, 96)) _ (Nat.ne_of_lt hb.2)).trans hk
  replace hb := And.intro hb.1 (Nat.lt_succ_of_lt hb.2)
  refine wp_putr (r := (some ((n + 1) + 1))) dX3_init_30 fp3_22_2 hb hk rfl ?_
  refine wp_aload_n dX3_init_33 rfl ?_
  refine wp_bipush (v := 24) dX3_init_34 rfl ?_
  refine wp_anew 3 24 dX3_init_36 q197 (by decide) rfl (fun _ h9 => h9.2.2.1.1) (by decide) (by decide) (by decide) h.1.1 h.1.2 ?_
  replace hca := h.1.1
  replace hsa := h.1.2
  replace h := h.2
  replace hk := (upK_o (k := .inr (3, 24)) _ (Nat.ne_of_lt hb.2)).trans hk
  replace hb := And.intro hb.1 (Nat.lt_succ_of_lt hb.2)
  refine wp_putr (r := (some (((n + 1) + 1) + 1))) dX3_init_39 fp3_28_2 hb hk rfl ?_
  refine wp_iconst (v := 0) dX3_init_42 rfl ?_
  refine wi3_2 dX3_init_43 ?_
  exact wp_drop [some (vr o), none, some (vi 0)] ⟨rfl, ⟨rfl, trivial⟩⟩ h
theorem b3_init_44 {l : Launch} {G : gT} {d mc ms n ca sa : Nat} {K : kT} {Rf : rT} {V : vT} {Q : Nat → kT → rT → vT → Prop} {o : Nat} {x2 : Int32} (hd : 8 ≤ d) (hca : ca ≤ mc) (hsa : sa ≤ ms) (hb : 16 ≤ o ∧ o < n) (hk : K o = .inl 2) (h : (24 ≤ x2 → Q n K Rf V) ∧ (x2 < 24 → (ca + 1 ≤ mc ∧ sa + 5 ≤ ms) ∧ (∃ d59 mc59 ms59 : Nat, (d59 < d ∧ (ca + 1) + mc59 ≤ mc ∧ (sa + 5) + ms59 ≤ ms) ∧ c4_init l G d59 mc59 ms59 (n + 1) (upK K n (.inl 3)) Rf n  V (fun n59 K59 Rf59 V59 => ((16 ≤ o ∧ o < n59) ∧ K59 o = .inl 2) ∧ (∃ a62, Rf o 3 = some a62 ∧ ((16 ≤ a62 ∧ a62 < n59) ∧ K59 a62 = .inr (3, 24)) ∧ (∀ b62, (some n) = some b62 → (16 ≤ b62 ∧ b62 < n59) ∧ K59 b62 = .inl 3) ∧ vp_in x2 24 ∧ (w3_init l G d mc ms Q 44 [some (vr o), none, some (vi (x2 + 1))] [] n59 K59 (up2 Rf59 a62 (x2).toNatClampNeg (some n)) V59 ((ca + 1) + mc59) ((sa + 5) + ms59))))))) : w3_init l G d mc ms Q 44 [some (vr o), none, some (vi x2)] [] n K Rf V ca sa := by
  refine wp_iload_n dX3_init_44 rfl ?_
  refine wp_bipush (v := 24) dX3_init_45 rfl ?_
  refine wp_icmp_ge 69 dX3_init_47 (by decide) (fun hc => ?_) (fun hc => ?_)
  · replace h := h.1 hc
    refine wp_widen hca hsa ?_
    exact wp_vret dX3_init_69 ⟨rfl, h⟩
  · replace h := h.2 (Int32.not_le.mp hc)
    refine wp_aload_n dX3_init_50 rfl ?_
    refine wp_getr dX3_init_51 fk3_28_2 hb hk rfl ?_
    refine wp_iload_n dX3_init_54 rfl ?_
    refine wp_new dX3_init_55 fn3_26 h.1.1 h.1.2 ?_
    replace hca := h.1.1
    replace hsa := h.1.2
    replace h := h.2
    replace hk := (upK_o (k := .inl 3) _ (Nat.ne_of_lt hb.2)).trans hk
    replace hb := And.intro hb.1 (Nat.lt_succ_of_lt hb.2)
    refine wp_dup dX3_init_58 ?_
    obtain ⟨d59, mc59, ms59, ⟨hdd, hmc, hms⟩, h⟩ := h
    refine wx_IN0 lk3_32 dX3_init_59 h (rmQ_ok hdd (by decide)) ⟨hmc, hms⟩ (Nat.le_of_ble_eq_true rfl) (fun n59 K59 Rf59 V59 h => ?_)
    replace hca := hmc
    replace hsa := hms
    obtain ⟨⟨hb, hk⟩, h⟩ := h
    obtain ⟨a62, hqa62, ⟨hba62, hka62⟩, h⟩ := h
    rw [hqa62]
    refine wp_aastq (r := (some n)) dX3_init_62 hba62 hka62 rfl (by decide) h.1 (show qcl[3]? = some _ from rfl) (Or.inl rfl) h.2.1 ?_
    replace h := h.2.2
    refine wc3_2 1 dX3_init_63 rfl ?_
    refine wp_goto 44 dX3_init_66 (by decide) ?_
    exact h
theorem n3_init {l : Launch} {G : gT} {d mc ms n : Nat} {K : kT} {Rf : rT} {V : vT} {Q : Nat → kT → rT → vT → Prop} {o : Nat} (h : w3_init l G d mc ms Q 0 [some (vr o), some (vr 16), none] [] n K Rf V 0 0) : c3_init l G d mc ms n K Rf o V Q := MOk.enter [some (vr o), some (vr 16), none] pn_X3 rfl rfl (Nat.le_of_ble_eq_true rfl) rfl h
theorem b7_init_0 {l : Launch} {G : gT} {d mc ms n ca sa : Nat} {K : kT} {Rf : rT} {V : vT} {Q : Nat → kT → rT → vT → Prop} {o : Nat} {x2 : Int32} (hd : 8 ≤ d) (hca : ca ≤ mc) (hsa : sa ≤ ms) (hb : 16 ≤ o ∧ o < n) (hk : K o = .inl 6) (h : ((ca + 1 ≤ mc ∧ sa + 4 ≤ ms) ∧ (∃ d14 mc14 ms14 : Nat, (d14 < d ∧ (ca + 1) + mc14 ≤ mc ∧ (sa + 4) + ms14 ≤ ms) ∧ c5_init l G d14 mc14 ms14 (n + 1) (upK K n (.inl 4)) (up2 Rf o 6 (some 16)) n  V (fun n14 K14 Rf14 V14 => ((16 ≤ o ∧ o < n14) ∧ K14 o = .inl 6) ∧ ((Q n14 K14 (up2 Rf14 o 1 (some n)) (up2 V14 o 0 x2))))))) : w7_init l G d mc ms Q 0 [some (vr o), some (vr 16), some (vi x2)] [] n K Rf V ca sa := by
  refine wp_aload_n dX7_init_0 rfl ?_
  refine wp_aload_n dX7_init_1 rfl ?_
  refine wp_putr (r := (some 16)) dX7_init_2 fp7_3_6 hb hk rfl ?_
  refine wp_aload_n dX7_init_5 rfl ?_
  refine wp_objInit dX7_init_6 q379 q146 q147 (Nat.succ_le_succ (Nat.zero_le _)) (by show 0 + 12 ≤ 12 + 60 * d; omega) ?_
  refine wp_aload_n dX7_init_9 rfl ?_
  refine wp_new dX7_init_10 fn7_15 h.1.1 h.1.2 ?_
  replace hca := h.1.1
  replace hsa := h.1.2
  replace h := h.2
  replace hk := (upK_o (k := .inl 4) _ (Nat.ne_of_lt hb.2)).trans hk
  replace hb := And.intro hb.1 (Nat.lt_succ_of_lt hb.2)
  refine wp_dup dX7_init_13 ?_
  obtain ⟨d14, mc14, ms14, ⟨hdd, hmc, hms⟩, h⟩ := h
  refine wx_IN0 lk7_17 dX7_init_14 h (rmQ_ok hdd (by decide)) ⟨hmc, hms⟩ (Nat.le_of_ble_eq_true rfl) (fun n14 K14 Rf14 V14 h => ?_)
  replace hca := hmc
  replace hsa := hms
  obtain ⟨⟨hb, hk⟩, h⟩ := h
  refine wp_putr (r := (some n)) dX7_init_17 fp7_18_6 hb hk rfl ?_
  refine wp_aload_n dX7_init_20 rfl ?_
  refine wp_iload_n dX7_init_21 rfl ?_
  refine wp_puti dX7_init_22 fp7_22_6 hb hk rfl ?_
  refine wp_widen hca hsa ?_
  exact wp_vret dX7_init_25 ⟨rfl, h⟩
theorem n7_init {l : Launch} {G : gT} {d mc ms n : Nat} {K : kT} {Rf : rT} {V : vT} {Q : Nat → kT → rT → vT → Prop} {o : Nat} {x2 : Int32} (h : w7_init l G d mc ms Q 0 [some (vr o), some (vr 16), some (vi x2)] [] n K Rf V 0 0) : c7_init l G d mc ms n K Rf o x2 V Q := MOk.enter [some (vr o), some (vr 16), some (vi x2)] pn_X7 rfl rfl (Nat.le_of_ble_eq_true rfl) rfl h
theorem b6_init_0 {l : Launch} {G : gT} {d mc ms n ca sa : Nat} {K : kT} {Rf : rT} {V : vT} {Q : Nat → kT → rT → vT → Prop} (hd : 8 ≤ d) (hca : ca ≤ mc) (hsa : sa ≤ ms) (hb : 16 ≤ 214 ∧ 214 < n) (hk : K 214 = .inl 5) (h : (ca + 1 ≤ mc ∧ sa + 315 ≤ ms) ∧ ((((ca + 1) + 1 ≤ mc ∧ (sa + 315) + 315 ≤ ms) ∧ (((((ca + 1) + 1) + 1 ≤ mc ∧ ((sa + 315) + 315) + 315 ≤ ms) ∧ ((((((ca + 1) + 1) + 1) + 1 ≤ mc ∧ (((sa + 315) + 315) + 315) + 96 ≤ ms) ∧ (((((((ca + 1) + 1) + 1) + 1) + 1 ≤ mc ∧ ((((sa + 315) + 315) + 315) + 96) + 96 ≤ ms) ∧ ((((((((ca + 1) + 1) + 1) + 1) + 1) + 1 ≤ mc ∧ (((((sa + 315) + 315) + 315) + 96) + 96) + 260 ≤ ms) ∧ (((((((((ca + 1) + 1) + 1) + 1) + 1) + 1) + 1 ≤ mc ∧ ((((((sa + 315) + 315) + 315) + 96) + 96) + 260) + 260 ≤ ms) ∧ ((((((((((ca + 1) + 1) + 1) + 1) + 1) + 1) + 1) + 1 ≤ mc ∧ (((((((sa + 315) + 315) + 315) + 96) + 96) + 260) + 260) + 260 ≤ ms) ∧ (((((((((((ca + 1) + 1) + 1) + 1) + 1) + 1) + 1) + 1) + 1 ≤ mc ∧ ((((((((sa + 315) + 315) + 315) + 96) + 96) + 260) + 260) + 260) + 16 ≤ ms) ∧ ((((((((((((ca + 1) + 1) + 1) + 1) + 1) + 1) + 1) + 1) + 1) + 1 ≤ mc ∧ (((((((((sa + 315) + 315) + 315) + 96) + 96) + 260) + 260) + 260) + 16) + 16 ≤ ms) ∧ (((((((((((((ca + 1) + 1) + 1) + 1) + 1) + 1) + 1) + 1) + 1) + 1) + 1 ≤ mc ∧ ((((((((((sa + 315) + 315) + 315) + 96) + 96) + 260) + 260) + 260) + 16) + 16) + 16 ≤ ms) ∧ ((((((((((((((ca + 1) + 1) + 1) + 1) + 1) + 1) + 1) + 1) + 1) + 1) + 1) + 1 ≤ mc ∧ (((((((((((sa + 315) + 315) + 315) + 96) + 96) + 260) + 260) + 260) + 16) + 16) + 16) + 16 ≤ ms) ∧ (((((((((((((((ca + 1) + 1) + 1) + 1) + 1) + 1) + 1) + 1) + 1) + 1) + 1) + 1) + 1 ≤ mc ∧ ((((((((((((sa + 315) + 315) + 315) + 96) + 96) + 260) + 260) + 260) + 16) + 16) + 16) + 16) + 260 ≤ ms) ∧ ((((((((((((((((ca + 1) + 1) + 1) + 1) + 1) + 1) + 1) + 1) + 1) + 1) + 1) + 1) + 1) + 1 ≤ mc ∧ (((((((((((((sa + 315) + 315) + 315) + 96) + 96) + 260) + 260) + 260) + 16) + 16) + 16) + 16) + 260) + 16 ≤ ms) ∧ (((((((((((((((((ca + 1) + 1) + 1) + 1) + 1) + 1) + 1) + 1) + 1) + 1) + 1) + 1) + 1) + 1) + 1 ≤ mc ∧ ((((((((((((((sa + 315) + 315) + 315) + 96) + 96) + 260) + 260) + 260) + 16) + 16) + 16) + 16) + 260) + 16) + 16 ≤ ms) ∧ ((((((((((((((((((ca + 1) + 1) + 1) + 1) + 1) + 1) + 1) + 1) + 1) + 1) + 1) + 1) + 1) + 1) + 1) + 1 ≤ mc ∧ (((((((((((((((sa + 315) + 315) + 315) + 96) + 96) + 260) + 260) + 260) + 16) + 16) + 16) + 16) + 260) + 16) + 16) + 16 ≤ ms) ∧ (((((((((((((((((((ca + 1) + 1) + 1) + 1) + 1) + 1) + 1) + 1) + 1) + 1) + 1) + 1) + 1) + 1) + 1) + 1) + 1 ≤ mc ∧ ((((((((((((((((sa + 315) + 315) + 315) + 96) + 96) + 260) + 260) + 260) + 16) + 16) + 16) + 16) + 260) + 16) + 16) + 16) + 16 ≤ ms) ∧ ((((((((((((((((((((ca + 1) + 1) + 1) + 1) + 1) + 1) + 1) + 1) + 1) + 1) + 1) + 1) + 1) + 1) + 1) + 1) + 1) + 1 ≤ mc ∧ (((((((((((((((((sa + 315) + 315) + 315) + 96) + 96) + 260) + 260) + 260) + 16) + 16) + 16) + 16) + 260) + 16) + 16) + 16) + 16) + 260 ≤ ms) ∧ (((((((((((((((((((((ca + 1) + 1) + 1) + 1) + 1) + 1) + 1) + 1) + 1) + 1) + 1) + 1) + 1) + 1) + 1) + 1) + 1) + 1) + 1 ≤ mc ∧ ((((((((((((((((((sa + 315) + 315) + 315) + 96) + 96) + 260) + 260) + 260) + 16) + 16) + 16) + 16) + 260) + 16) + 16) + 16) + 16) + 260) + 9 ≤ ms) ∧ ((((((((((((((((((((((ca + 1) + 1) + 1) + 1) + 1) + 1) + 1) + 1) + 1) + 1) + 1) + 1) + 1) + 1) + 1) + 1) + 1) + 1) + 1) + 1 ≤ mc ∧ (((((((((((((((((((sa + 315) + 315) + 315) + 96) + 96) + 260) + 260) + 260) + 16) + 16) + 16) + 16) + 260) + 16) + 16) + 16) + 16) + 260) + 9) + 96 ≤ ms) ∧ (((((((((((((((((((((((ca + 1) + 1) + 1) + 1) + 1) + 1) + 1) + 1) + 1) + 1) + 1) + 1) + 1) + 1) + 1) + 1) + 1) + 1) + 1) + 1) + 1 ≤ mc ∧ ((((((((((((((((((((sa + 315) + 315) + 315) + 96) + 96) + 260) + 260) + 260) + 16) + 16) + 16) + 16) + 260) + 16) + 16) + 16) + 16) + 260) + 9) + 96) + 96 ≤ ms) ∧ ((((((((((((((((((((((((ca + 1) + 1) + 1) + 1) + 1) + 1) + 1) + 1) + 1) + 1) + 1) + 1) + 1) + 1) + 1) + 1) + 1) + 1) + 1) + 1) + 1) + 1 ≤ mc ∧ (((((((((((((((((((((sa + 315) + 315) + 315) + 96) + 96) + 260) + 260) + 260) + 16) + 16) + 16) + 16) + 260) + 16) + 16) + 16) + 16) + 260) + 9) + 96) + 96) + 96 ≤ ms) ∧ (((((((((((((((((((((((((ca + 1) + 1) + 1) + 1) + 1) + 1) + 1) + 1) + 1) + 1) + 1) + 1) + 1) + 1) + 1) + 1) + 1) + 1) + 1) + 1) + 1) + 1) + 1 ≤ mc ∧ ((((((((((((((((((((((sa + 315) + 315) + 315) + 96) + 96) + 260) + 260) + 260) + 16) + 16) + 16) + 16) + 260) + 16) + 16) + 16) + 16) + 260) + 9) + 96) + 96) + 96) + 192 ≤ ms) ∧ ((((((((((((((((((((((((((ca + 1) + 1) + 1) + 1) + 1) + 1) + 1) + 1) + 1) + 1) + 1) + 1) + 1) + 1) + 1) + 1) + 1) + 1) + 1) + 1) + 1) + 1) + 1) + 1 ≤ mc ∧ (((((((((((((((((((((((sa + 315) + 315) + 315) + 96) + 96) + 260) + 260) + 260) + 16) + 16) + 16) + 16) + 260) + 16) + 16) + 16) + 16) + 260) + 9) + 96) + 96) + 96) + 192) + 96 ≤ ms) ∧ (((((((((((((((((((((((((((ca + 1) + 1) + 1) + 1) + 1) + 1) + 1) + 1) + 1) + 1) + 1) + 1) + 1) + 1) + 1) + 1) + 1) + 1) + 1) + 1) + 1) + 1) + 1) + 1) + 1 ≤ mc ∧ ((((((((((((((((((((((((sa + 315) + 315) + 315) + 96) + 96) + 260) + 260) + 260) + 16) + 16) + 16) + 16) + 260) + 16) + 16) + 16) + 16) + 260) + 9) + 96) + 96) + 96) + 192) + 96) + 96 ≤ ms) ∧ ((((((((((((((((((((((((((((ca + 1) + 1) + 1) + 1) + 1) + 1) + 1) + 1) + 1) + 1) + 1) + 1) + 1) + 1) + 1) + 1) + 1) + 1) + 1) + 1) + 1) + 1) + 1) + 1) + 1) + 1 ≤ mc ∧ (((((((((((((((((((((((((sa + 315) + 315) + 315) + 96) + 96) + 260) + 260) + 260) + 16) + 16) + 16) + 16) + 260) + 16) + 16) + 16) + 16) + 260) + 9) + 96) + 96) + 96) + 192) + 96) + 96) + 192 ≤ ms) ∧ (((((((((((((((((((((((((((((ca + 1) + 1) + 1) + 1) + 1) + 1) + 1) + 1) + 1) + 1) + 1) + 1) + 1) + 1) + 1) + 1) + 1) + 1) + 1) + 1) + 1) + 1) + 1) + 1) + 1) + 1) + 1 ≤ mc ∧ ((((((((((((((((((((((((((sa + 315) + 315) + 315) + 96) + 96) + 260) + 260) + 260) + 16) + 16) + 16) + 16) + 260) + 16) + 16) + 16) + 16) + 260) + 9) + 96) + 96) + 96) + 192) + 96) + 96) + 192) + 192 ≤ ms) ∧ ((((((((((((((((((((((((((((((ca + 1) + 1) + 1) + 1) + 1) + 1) + 1) + 1) + 1) + 1) + 1) + 1) + 1) + 1) + 1) + 1) + 1) + 1) + 1) + 1) + 1) + 1) + 1) + 1) + 1) + 1) + 1) + 1 ≤ mc ∧ (((((((((((((((((((((((((((sa + 315) + 315) + 315) + 96) + 96) + 260) + 260) + 260) + 16) + 16) + 16) + 16) + 260) + 16) + 16) + 16) + 16) + 260) + 9) + 96) + 96) + 96) + 192) + 96) + 96) + 192) + 192) + 96 ≤ ms) ∧ (((((((((((((((((((((((((((((((ca + 1) + 1) + 1) + 1) + 1) + 1) + 1) + 1) + 1) + 1) + 1) + 1) + 1) + 1) + 1) + 1) + 1) + 1) + 1) + 1) + 1) + 1) + 1) + 1) + 1) + 1) + 1) + 1) + 1 ≤ mc ∧ ((((((((((((((((((((((((((((sa + 315) + 315) + 315) + 96) + 96) + 260) + 260) + 260) + 16) + 16) + 16) + 16) + 260) + 16) + 16) + 16) + 16) + 260) + 9) + 96) + 96) + 96) + 192) + 96) + 96) + 192) + 192) + 96) + 96 ≤ ms) ∧ ((((((((((((((((((((((((((((((((ca + 1) + 1) + 1) + 1) + 1) + 1) + 1) + 1) + 1) + 1) + 1) + 1) + 1) + 1) + 1) + 1) + 1) + 1) + 1) + 1) + 1) + 1) + 1) + 1) + 1) + 1) + 1) + 1) + 1) + 1 ≤ mc ∧ (((((((((((((((((((((((((((((sa + 315) + 315) + 315) + 96) + 96) + 260) + 260) + 260) + 16) + 16) + 16) + 16) + 260) + 16) + 16) + 16) + 16) + 260) + 9) + 96) + 96) + 96) + 192) + 96) + 96) + 192) + 192) + 96) + 96) + 10 ≤ ms) ∧ ((∃ a263 L263, (up2 (up2 (up2 (up2 (up2 (up2 (up2 (up2 (up2 (up2 (up2 (up2 (up2 (up2 (up2 (up2 (up2 (up2 (up2 (up2 (up2 (up2 (up2 (up2 (up2 (up2 (up2 (up2 (up2 (up2 Rf 214 0 (some n)) 214 1 (some (n + 1))) 214 2 (some ((n + 1) + 1))) 214 3 (some (((n + 1) + 1) + 1))) 214 4 (some ((((n + 1) + 1) + 1) + 1))) 214 5 (some (((((n + 1) + 1) + 1) + 1) + 1))) 214 16 (some ((((((n + 1) + 1) + 1) + 1) + 1) + 1))) 214 17 (some (((((((n + 1) + 1) + 1) + 1) + 1) + 1) + 1))) 214 18 (some ((((((((n + 1) + 1) + 1) + 1) + 1) + 1) + 1) + 1))) 214 19 (some (((((((((n + 1) + 1) + 1) + 1) + 1) + 1) + 1) + 1) + 1))) 214 20 (some ((((((((((n + 1) + 1) + 1) + 1) + 1) + 1) + 1) + 1) + 1) + 1))) 214 21 (some (((((((((((n + 1) + 1) + 1) + 1) + 1) + 1) + 1) + 1) + 1) + 1) + 1))) 214 22 (some ((((((((((((n + 1) + 1) + 1) + 1) + 1) + 1) + 1) + 1) + 1) + 1) + 1) + 1))) 214 23 (some (((((((((((((n + 1) + 1) + 1) + 1) + 1) + 1) + 1) + 1) + 1) + 1) + 1) + 1) + 1))) 214 24 (some ((((((((((((((n + 1) + 1) + 1) + 1) + 1) + 1) + 1) + 1) + 1) + 1) + 1) + 1) + 1) + 1))) 214 25 (some (((((((((((((((n + 1) + 1) + 1) + 1) + 1) + 1) + 1) + 1) + 1) + 1) + 1) + 1) + 1) + 1) + 1))) 214 26 (some ((((((((((((((((n + 1) + 1) + 1) + 1) + 1) + 1) + 1) + 1) + 1) + 1) + 1) + 1) + 1) + 1) + 1) + 1))) 214 27 (some (((((((((((((((((n + 1) + 1) + 1) + 1) + 1) + 1) + 1) + 1) + 1) + 1) + 1) + 1) + 1) + 1) + 1) + 1) + 1))) 214 28 (some ((((((((((((((((((n + 1) + 1) + 1) + 1) + 1) + 1) + 1) + 1) + 1) + 1) + 1) + 1) + 1) + 1) + 1) + 1) + 1) + 1))) 214 29 (some (((((((((((((((((((n + 1) + 1) + 1) + 1) + 1) + 1) + 1) + 1) + 1) + 1) + 1) + 1) + 1) + 1) + 1) + 1) + 1) + 1) + 1))) 214 33 (some ((((((((((((((((((((n + 1) + 1) + 1) + 1) + 1) + 1) + 1) + 1) + 1) + 1) + 1) + 1) + 1) + 1) + 1) + 1) + 1) + 1) + 1) + 1))) 214 35 (some (((((((((((((((((((((n + 1) + 1) + 1) + 1) + 1) + 1) + 1) + 1) + 1) + 1) + 1) + 1) + 1) + 1) + 1) + 1) + 1) + 1) + 1) + 1) + 1))) 214 36 (some ((((((((((((((((((((((n + 1) + 1) + 1) + 1) + 1) + 1) + 1) + 1) + 1) + 1) + 1) + 1) + 1) + 1) + 1) + 1) + 1) + 1) + 1) + 1) + 1) + 1))) 214 37 (some (((((((((((((((((((((((n + 1) + 1) + 1) + 1) + 1) + 1) + 1) + 1) + 1) + 1) + 1) + 1) + 1) + 1) + 1) + 1) + 1) + 1) + 1) + 1) + 1) + 1) + 1))) 214 38 (some ((((((((((((((((((((((((n + 1) + 1) + 1) + 1) + 1) + 1) + 1) + 1) + 1) + 1) + 1) + 1) + 1) + 1) + 1) + 1) + 1) + 1) + 1) + 1) + 1) + 1) + 1) + 1))) 214 39 (some (((((((((((((((((((((((((n + 1) + 1) + 1) + 1) + 1) + 1) + 1) + 1) + 1) + 1) + 1) + 1) + 1) + 1) + 1) + 1) + 1) + 1) + 1) + 1) + 1) + 1) + 1) + 1) + 1))) 214 41 (some ((((((((((((((((((((((((((n + 1) + 1) + 1) + 1) + 1) + 1) + 1) + 1) + 1) + 1) + 1) + 1) + 1) + 1) + 1) + 1) + 1) + 1) + 1) + 1) + 1) + 1) + 1) + 1) + 1) + 1))) 214 42 (some (((((((((((((((((((((((((((n + 1) + 1) + 1) + 1) + 1) + 1) + 1) + 1) + 1) + 1) + 1) + 1) + 1) + 1) + 1) + 1) + 1) + 1) + 1) + 1) + 1) + 1) + 1) + 1) + 1) + 1) + 1))) 214 43 (some ((((((((((((((((((((((((((((n + 1) + 1) + 1) + 1) + 1) + 1) + 1) + 1) + 1) + 1) + 1) + 1) + 1) + 1) + 1) + 1) + 1) + 1) + 1) + 1) + 1) + 1) + 1) + 1) + 1) + 1) + 1) + 1))) 214 44 (some (((((((((((((((((((((((((((((n + 1) + 1) + 1) + 1) + 1) + 1) + 1) + 1) + 1) + 1) + 1) + 1) + 1) + 1) + 1) + 1) + 1) + 1) + 1) + 1) + 1) + 1) + 1) + 1) + 1) + 1) + 1) + 1) + 1))) 214 0 = some a263 ∧ ((16 ≤ a263 ∧ a263 < ((((((((((((((((((((((((((((((n + 1) + 1) + 1) + 1) + 1) + 1) + 1) + 1) + 1) + 1) + 1) + 1) + 1) + 1) + 1) + 1) + 1) + 1) + 1) + 1) + 1) + 1) + 1) + 1) + 1) + 1) + 1) + 1) + 1) + 1)) ∧ (upK (upK (upK (upK (upK (upK (upK (upK (upK (upK (upK (upK (upK (upK (upK (upK (upK (upK (upK (upK (upK (upK (upK (upK (upK (upK (upK (upK (upK (upK K n (.inr (0, 315))) (n + 1) (.inr (0, 315))) ((n + 1) + 1) (.inr (0, 315))) (((n + 1) + 1) + 1) (.inr (0, 96))) ((((n + 1) + 1) + 1) + 1) (.inr (0, 96))) (((((n + 1) + 1) + 1) + 1) + 1) (.inr (1, 260))) ((((((n + 1) + 1) + 1) + 1) + 1) + 1) (.inr (0, 260))) (((((((n + 1) + 1) + 1) + 1) + 1) + 1) + 1) (.inr (0, 260))) ((((((((n + 1) + 1) + 1) + 1) + 1) + 1) + 1) + 1) (.inr (0, 16))) (((((((((n + 1) + 1) + 1) + 1) + 1) + 1) + 1) + 1) + 1) (.inr (0, 16))) ((((((((((n + 1) + 1) + 1) + 1) + 1) + 1) + 1) + 1) + 1) + 1) (.inr (0, 16))) (((((((((((n + 1) + 1) + 1) + 1) + 1) + 1) + 1) + 1) + 1) + 1) + 1) (.inr (0, 16))) ((((((((((((n + 1) + 1) + 1) + 1) + 1) + 1) + 1) + 1) + 1) + 1) + 1) + 1) (.inr (0, 260))) (((((((((((((n + 1) + 1) + 1) + 1) + 1) + 1) + 1) + 1) + 1) + 1) + 1) + 1) + 1) (.inr (0, 16))) ((((((((((((((n + 1) + 1) + 1) + 1) + 1) + 1) + 1) + 1) + 1) + 1) + 1) + 1) + 1) + 1) (.inr (0, 16))) (((((((((((((((n + 1) + 1) + 1) + 1) + 1) + 1) + 1) + 1) + 1) + 1) + 1) + 1) + 1) + 1) + 1) (.inr (0, 16))) ((((((((((((((((n + 1) + 1) + 1) + 1) + 1) + 1) + 1) + 1) + 1) + 1) + 1) + 1) + 1) + 1) + 1) + 1) (.inr (0, 16))) (((((((((((((((((n + 1) + 1) + 1) + 1) + 1) + 1) + 1) + 1) + 1) + 1) + 1) + 1) + 1) + 1) + 1) + 1) + 1) (.inr (0, 260))) ((((((((((((((((((n + 1) + 1) + 1) + 1) + 1) + 1) + 1) + 1) + 1) + 1) + 1) + 1) + 1) + 1) + 1) + 1) + 1) + 1) (.inr (0, 9))) (((((((((((((((((((n + 1) + 1) + 1) + 1) + 1) + 1) + 1) + 1) + 1) + 1) + 1) + 1) + 1) + 1) + 1) + 1) + 1) + 1) + 1) (.inr (0, 96))) ((((((((((((((((((((n + 1) + 1) + 1) + 1) + 1) + 1) + 1) + 1) + 1) + 1) + 1) + 1) + 1) + 1) + 1) + 1) + 1) + 1) + 1) + 1) (.inr (2, 96))) (((((((((((((((((((((n + 1) + 1) + 1) + 1) + 1) + 1) + 1) + 1) + 1) + 1) + 1) + 1) + 1) + 1) + 1) + 1) + 1) + 1) + 1) + 1) + 1) (.inr (0, 96))) ((((((((((((((((((((((n + 1) + 1) + 1) + 1) + 1) + 1) + 1) + 1) + 1) + 1) + 1) + 1) + 1) + 1) + 1) + 1) + 1) + 1) + 1) + 1) + 1) + 1) (.inr (0, 192))) (((((((((((((((((((((((n + 1) + 1) + 1) + 1) + 1) + 1) + 1) + 1) + 1) + 1) + 1) + 1) + 1) + 1) + 1) + 1) + 1) + 1) + 1) + 1) + 1) + 1) + 1) (.inr (0, 96))) ((((((((((((((((((((((((n + 1) + 1) + 1) + 1) + 1) + 1) + 1) + 1) + 1) + 1) + 1) + 1) + 1) + 1) + 1) + 1) + 1) + 1) + 1) + 1) + 1) + 1) + 1) + 1) (.inr (0, 96))) (((((((((((((((((((((((((n + 1) + 1) + 1) + 1) + 1) + 1) + 1) + 1) + 1) + 1) + 1) + 1) + 1) + 1) + 1) + 1) + 1) + 1) + 1) + 1) + 1) + 1) + 1) + 1) + 1) (.inr (0, 192))) ((((((((((((((((((((((((((n + 1) + 1) + 1) + 1) + 1) + 1) + 1) + 1) + 1) + 1) + 1) + 1) + 1) + 1) + 1) + 1) + 1) + 1) + 1) + 1) + 1) + 1) + 1) + 1) + 1) + 1) (.inr (0, 192))) (((((((((((((((((((((((((((n + 1) + 1) + 1) + 1) + 1) + 1) + 1) + 1) + 1) + 1) + 1) + 1) + 1) + 1) + 1) + 1) + 1) + 1) + 1) + 1) + 1) + 1) + 1) + 1) + 1) + 1) + 1) (.inr (0, 96))) ((((((((((((((((((((((((((((n + 1) + 1) + 1) + 1) + 1) + 1) + 1) + 1) + 1) + 1) + 1) + 1) + 1) + 1) + 1) + 1) + 1) + 1) + 1) + 1) + 1) + 1) + 1) + 1) + 1) + 1) + 1) + 1) (.inr (0, 96))) (((((((((((((((((((((((((((((n + 1) + 1) + 1) + 1) + 1) + 1) + 1) + 1) + 1) + 1) + 1) + 1) + 1) + 1) + 1) + 1) + 1) + 1) + 1) + 1) + 1) + 1) + 1) + 1) + 1) + 1) + 1) + 1) + 1) (.inr (0, 10))) a263 = .inr (0, L263)) ∧ (vp_in 314 L263 ∧ (Q ((((((((((((((((((((((((((((((n + 1) + 1) + 1) + 1) + 1) + 1) + 1) + 1) + 1) + 1) + 1) + 1) + 1) + 1) + 1) + 1) + 1) + 1) + 1) + 1) + 1) + 1) + 1) + 1) + 1) + 1) + 1) + 1) + 1) + 1) (upK (upK (upK (upK (upK (upK (upK (upK (upK (upK (upK (upK (upK (upK (upK (upK (upK (upK (upK (upK (upK (upK (upK (upK (upK (upK (upK (upK (upK (upK K n (.inr (0, 315))) (n + 1) (.inr (0, 315))) ((n + 1) + 1) (.inr (0, 315))) (((n + 1) + 1) + 1) (.inr (0, 96))) ((((n + 1) + 1) + 1) + 1) (.inr (0, 96))) (((((n + 1) + 1) + 1) + 1) + 1) (.inr (1, 260))) ((((((n + 1) + 1) + 1) + 1) + 1) + 1) (.inr (0, 260))) (((((((n + 1) + 1) + 1) + 1) + 1) + 1) + 1) (.inr (0, 260))) ((((((((n + 1) + 1) + 1) + 1) + 1) + 1) + 1) + 1) (.inr (0, 16))) (((((((((n + 1) + 1) + 1) + 1) + 1) + 1) + 1) + 1) + 1) (.inr (0, 16))) ((((((((((n + 1) + 1) + 1) + 1) + 1) + 1) + 1) + 1) + 1) + 1) (.inr (0, 16))) (((((((((((n + 1) + 1) + 1) + 1) + 1) + 1) + 1) + 1) + 1) + 1) + 1) (.inr (0, 16))) ((((((((((((n + 1) + 1) + 1) + 1) + 1) + 1) + 1) + 1) + 1) + 1) + 1) + 1) (.inr (0, 260))) (((((((((((((n + 1) + 1) + 1) + 1) + 1) + 1) + 1) + 1) + 1) + 1) + 1) + 1) + 1) (.inr (0, 16))) ((((((((((((((n + 1) + 1) + 1) + 1) + 1) + 1) + 1) + 1) + 1) + 1) + 1) + 1) + 1) + 1) (.inr (0, 16))) (((((((((((((((n + 1) + 1) + 1) + 1) + 1) + 1) + 1) + 1) + 1) + 1) + 1) + 1) + 1) + 1) + 1) (.inr (0, 16))) ((((((((((((((((n + 1) + 1) + 1) + 1) + 1) + 1) + 1) + 1) + 1) + 1) + 1) + 1) + 1) + 1) + 1) + 1) (.inr (0, 16))) (((((((((((((((((n + 1) + 1) + 1) + 1) + 1) + 1) + 1) + 1) + 1) + 1) + 1) + 1) + 1) + 1) + 1) + 1) + 1) (.inr (0, 260))) ((((((((((((((((((n + 1) + 1) + 1) + 1) + 1) + 1) + 1) + 1) + 1) + 1) + 1) + 1) + 1) + 1) + 1) + 1) + 1) + 1) (.inr (0, 9))) (((((((((((((((((((n + 1) + 1) + 1) + 1) + 1) + 1) + 1) + 1) + 1) + 1) + 1) + 1) + 1) + 1) + 1) + 1) + 1) + 1) + 1) (.inr (0, 96))) ((((((((((((((((((((n + 1) + 1) + 1) + 1) + 1) + 1) + 1) + 1) + 1) + 1) + 1) + 1) + 1) + 1) + 1) + 1) + 1) + 1) + 1) + 1) (.inr (2, 96))) (((((((((((((((((((((n + 1) + 1) + 1) + 1) + 1) + 1) + 1) + 1) + 1) + 1) + 1) + 1) + 1) + 1) + 1) + 1) + 1) + 1) + 1) + 1) + 1) (.inr (0, 96))) ((((((((((((((((((((((n + 1) + 1) + 1) + 1) + 1) + 1) + 1) + 1) + 1) + 1) + 1) + 1) + 1) + 1) + 1) + 1) + 1) + 1) + 1) + 1) + 1) + 1) (.inr (0, 192))) (((((((((((((((((((((((n + 1) + 1) + 1) + 1) + 1) + 1) + 1) + 1) + 1) + 1) + 1) + 1) + 1) + 1) + 1) + 1) + 1) + 1) + 1) + 1) + 1) + 1) + 1) (.inr (0, 96))) ((((((((((((((((((((((((n + 1) + 1) + 1) + 1) + 1) + 1) + 1) + 1) + 1) + 1) + 1) + 1) + 1) + 1) + 1) + 1) + 1) + 1) + 1) + 1) + 1) + 1) + 1) + 1) (.inr (0, 96))) (((((((((((((((((((((((((n + 1) + 1) + 1) + 1) + 1) + 1) + 1) + 1) + 1) + 1) + 1) + 1) + 1) + 1) + 1) + 1) + 1) + 1) + 1) + 1) + 1) + 1) + 1) + 1) + 1) (.inr (0, 192))) ((((((((((((((((((((((((((n + 1) + 1) + 1) + 1) + 1) + 1) + 1) + 1) + 1) + 1) + 1) + 1) + 1) + 1) + 1) + 1) + 1) + 1) + 1) + 1) + 1) + 1) + 1) + 1) + 1) + 1) (.inr (0, 192))) (((((((((((((((((((((((((((n + 1) + 1) + 1) + 1) + 1) + 1) + 1) + 1) + 1) + 1) + 1) + 1) + 1) + 1) + 1) + 1) + 1) + 1) + 1) + 1) + 1) + 1) + 1) + 1) + 1) + 1) + 1) (.inr (0, 96))) ((((((((((((((((((((((((((((n + 1) + 1) + 1) + 1) + 1) + 1) + 1) + 1) + 1) + 1) + 1) + 1) + 1) + 1) + 1) + 1) + 1) + 1) + 1) + 1) + 1) + 1) + 1) + 1) + 1) + 1) + 1) + 1) (.inr (0, 96))) (((((((((((((((((((((((((((((n + 1) + 1) + 1) + 1) + 1) + 1) + 1) + 1) + 1) + 1) + 1) + 1) + 1) + 1) + 1) + 1) + 1) + 1) + 1) + 1) + 1) + 1) + 1) + 1) + 1) + 1) + 1) + 1) + 1) (.inr (0, 10))) (up2 (up2 (up2 (up2 (up2 (up2 (up2 (up2 (up2 (up2 (up2 (up2 (up2 (up2 (up2 (up2 (up2 (up2 (up2 (up2 (up2 (up2 (up2 (up2 (up2 (up2 (up2 (up2 (up2 (up2 Rf 214 0 (some n)) 214 1 (some (n + 1))) 214 2 (some ((n + 1) + 1))) 214 3 (some (((n + 1) + 1) + 1))) 214 4 (some ((((n + 1) + 1) + 1) + 1))) 214 5 (some (((((n + 1) + 1) + 1) + 1) + 1))) 214 16 (some ((((((n + 1) + 1) + 1) + 1) + 1) + 1))) 214 17 (some (((((((n + 1) + 1) + 1) + 1) + 1) + 1) + 1))) 214 18 (some ((((((((n + 1) + 1) + 1) + 1) + 1) + 1) + 1) + 1))) 214 19 (some (((((((((n + 1) + 1) + 1) + 1) + 1) + 1) + 1) + 1) + 1))) 214 20 (some ((((((((((n + 1) + 1) + 1) + 1) + 1) + 1) + 1) + 1) + 1) + 1))) 214 21 (some (((((((((((n + 1) + 1) + 1) + 1) + 1) + 1) + 1) + 1) + 1) + 1) + 1))) 214 22 (some ((((((((((((n + 1) + 1) + 1) + 1) + 1) + 1) + 1) + 1) + 1) + 1) + 1) + 1))) 214 23 (some (((((((((((((n + 1) + 1) + 1) + 1) + 1) + 1) + 1) + 1) + 1) + 1) + 1) + 1) + 1))) 214 24 (some ((((((((((((((n + 1) + 1) + 1) + 1) + 1) + 1) + 1) + 1) + 1) + 1) + 1) + 1) + 1) + 1))) 214 25 (some (((((((((((((((n + 1) + 1) + 1) + 1) + 1) + 1) + 1) + 1) + 1) + 1) + 1) + 1) + 1) + 1) + 1))) 214 26 (some ((((((((((((((((n + 1) + 1) + 1) + 1) + 1) + 1) + 1) + 1) + 1) + 1) + 1) + 1) + 1) + 1) + 1) + 1))) 214 27 (some (((((((((((((((((n + 1) + 1) + 1) + 1) + 1) + 1) + 1) + 1) + 1) + 1) + 1) + 1) + 1) + 1) + 1) + 1) + 1))) 214 28 (some ((((((((((((((((((n + 1) + 1) + 1) + 1) + 1) + 1) + 1) + 1) + 1) + 1) + 1) + 1) + 1) + 1) + 1) + 1) + 1) + 1))) 214 29 (some (((((((((((((((((((n + 1) + 1) + 1) + 1) + 1) + 1) + 1) + 1) + 1) + 1) + 1) + 1) + 1) + 1) + 1) + 1) + 1) + 1) + 1))) 214 33 (some ((((((((((((((((((((n + 1) + 1) + 1) + 1) + 1) + 1) + 1) + 1) + 1) + 1) + 1) + 1) + 1) + 1) + 1) + 1) + 1) + 1) + 1) + 1))) 214 35 (some (((((((((((((((((((((n + 1) + 1) + 1) + 1) + 1) + 1) + 1) + 1) + 1) + 1) + 1) + 1) + 1) + 1) + 1) + 1) + 1) + 1) + 1) + 1) + 1))) 214 36 (some ((((((((((((((((((((((n + 1) + 1) + 1) + 1) + 1) + 1) + 1) + 1) + 1) + 1) + 1) + 1) + 1) + 1) + 1) + 1) + 1) + 1) + 1) + 1) + 1) + 1))) 214 37 (some (((((((((((((((((((((((n + 1) + 1) + 1) + 1) + 1) + 1) + 1) + 1) + 1) + 1) + 1) + 1) + 1) + 1) + 1) + 1) + 1) + 1) + 1) + 1) + 1) + 1) + 1))) 214 38 (some ((((((((((((((((((((((((n + 1) + 1) + 1) + 1) + 1) + 1) + 1) + 1) + 1) + 1) + 1) + 1) + 1) + 1) + 1) + 1) + 1) + 1) + 1) + 1) + 1) + 1) + 1) + 1))) 214 39 (some (((((((((((((((((((((((((n + 1) + 1) + 1) + 1) + 1) + 1) + 1) + 1) + 1) + 1) + 1) + 1) + 1) + 1) + 1) + 1) + 1) + 1) + 1) + 1) + 1) + 1) + 1) + 1) + 1))) 214 41 (some ((((((((((((((((((((((((((n + 1) + 1) + 1) + 1) + 1) + 1) + 1) + 1) + 1) + 1) + 1) + 1) + 1) + 1) + 1) + 1) + 1) + 1) + 1) + 1) + 1) + 1) + 1) + 1) + 1) + 1))) 214 42 (some (((((((((((((((((((((((((((n + 1) + 1) + 1) + 1) + 1) + 1) + 1) + 1) + 1) + 1) + 1) + 1) + 1) + 1) + 1) + 1) + 1) + 1) + 1) + 1) + 1) + 1) + 1) + 1) + 1) + 1) + 1))) 214 43 (some ((((((((((((((((((((((((((((n + 1) + 1) + 1) + 1) + 1) + 1) + 1) + 1) + 1) + 1) + 1) + 1) + 1) + 1) + 1) + 1) + 1) + 1) + 1) + 1) + 1) + 1) + 1) + 1) + 1) + 1) + 1) + 1))) 214 44 (some (((((((((((((((((((((((((((((n + 1) + 1) + 1) + 1) + 1) + 1) + 1) + 1) + 1) + 1) + 1) + 1) + 1) + 1) + 1) + 1) + 1) + 1) + 1) + 1) + 1) + 1) + 1) + 1) + 1) + 1) + 1) + 1) + 1))) (up2 V a263 ((314 : Int32).toNatClampNeg) 1)))))))))))))))))))))))))))))))))))))))))))))))))))))))))))))))) : w6_init l G d mc ms Q 0 [some (vr 214)] [] n K Rf V ca sa := by
  refine wp_aload_n dX6_init_0 rfl ?_
  refine wp_objInit dX6_init_1 q1183 q146 q147 (Nat.succ_le_succ (Nat.zero_le _)) (by show 0 + 12 ≤ 12 + 60 * d; omega) ?_
  refine wp_aload_n dX6_init_4 rfl ?_
  refine wp_sipush (v := 315) dX6_init_5 rfl ?_
  refine wp_newI 315 dX6_init_8 q190 (by decide) (by decide) (by decide) h.1.1 h.1.2 ?_
  replace hca := h.1.1
  replace hsa := h.1.2
  replace h := h.2
  replace hk := (upK_o (k := .inr (0, 315)) _ (Nat.ne_of_lt hb.2)).trans hk
  replace hb := And.intro hb.1 (Nat.lt_succ_of_lt hb.2)
  refine wp_putr (r := (some n)) dX6_init_10 fp6_7_5 hb hk rfl ?_
  refine wp_aload_n dX6_init_13 rfl ?_
  refine wp_sipush (v := 315) dX6_init_14 rfl ?_
  refine wp_newI 315 dX6_init_17 q190 (by decide) (by decide) (by decide) h.1.1 h.1.2 ?_
  replace hca := h.1.1
  replace hsa := h.1.2
  replace h := h.2
  replace hk := (upK_o (k := .inr (0, 315)) _ (Nat.ne_of_lt hb.2)).trans hk
  replace hb := And.intro hb.1 (Nat.lt_succ_of_lt hb.2)
  refine wp_putr (r := (some (n + 1))) dX6_init_19 fp6_13_5 hb hk rfl ?_
  refine wp_aload_n dX6_init_22 rfl ?_
  refine wp_sipush (v := 315) dX6_init_23 rfl ?_
  refine wp_newI 315 dX6_init_26 q190 (by decide) (by decide) (by decide) h.1.1 h.1.2 ?_
  replace hca := h.1.1
  replace hsa := h.1.2
  replace h := h.2
  replace hk := (upK_o (k := .inr (0, 315)) _ (Nat.ne_of_lt hb.2)).trans hk
  replace hb := And.intro hb.1 (Nat.lt_succ_of_lt hb.2)
  refine wp_putr (r := (some ((n + 1) + 1))) dX6_init_28 fp6_16_5 hb hk rfl ?_
  refine wp_aload_n dX6_init_31 rfl ?_
  refine wp_bipush (v := 96) dX6_init_32 rfl ?_
  refine wp_newI 96 dX6_init_34 q190 (by decide) (by decide) (by decide) h.1.1 h.1.2 ?_
  replace hca := h.1.1
  replace hsa := h.1.2
  replace h := h.2
  replace hk := (upK_o (k := .inr (0, 96)) _ (Nat.ne_of_lt hb.2)).trans hk
  replace hb := And.intro hb.1 (Nat.lt_succ_of_lt hb.2)
  refine wp_putr (r := (some (((n + 1) + 1) + 1))) dX6_init_36 fp6_19_5 hb hk rfl ?_
  refine wp_aload_n dX6_init_39 rfl ?_
  refine wp_bipush (v := 96) dX6_init_40 rfl ?_
  refine wp_newI 96 dX6_init_42 q190 (by decide) (by decide) (by decide) h.1.1 h.1.2 ?_
  replace hca := h.1.1
  replace hsa := h.1.2
  replace h := h.2
  replace hk := (upK_o (k := .inr (0, 96)) _ (Nat.ne_of_lt hb.2)).trans hk
  replace hb := And.intro hb.1 (Nat.lt_succ_of_lt hb.2)
  refine wp_putr (r := (some ((((n + 1) + 1) + 1) + 1))) dX6_init_44 fp6_22_5 hb hk rfl ?_
  refine wp_aload_n dX6_init_47 rfl ?_
  refine wp_sipush (v := 260) dX6_init_48 rfl ?_
  refine wp_newB 260 dX6_init_51 q297 (by decide) (by decide) (by decide) h.1.1 h.1.2 ?_
  replace hca := h.1.1
  replace hsa := h.1.2
  replace h := h.2
  replace hk := (upK_o (k := .inr (1, 260)) _ (Nat.ne_of_lt hb.2)).trans hk
  replace hb := And.intro hb.1 (Nat.lt_succ_of_lt hb.2)
  refine wp_putr (r := (some (((((n + 1) + 1) + 1) + 1) + 1))) dX6_init_53 fp6_25_5 hb hk rfl ?_
  refine wp_aload_n dX6_init_56 rfl ?_
  refine wp_sipush (v := 260) dX6_init_57 rfl ?_
  refine wp_newI 260 dX6_init_60 q190 (by decide) (by decide) (by decide) h.1.1 h.1.2 ?_
  replace hca := h.1.1
  replace hsa := h.1.2
  replace h := h.2
  replace hk := (upK_o (k := .inr (0, 260)) _ (Nat.ne_of_lt hb.2)).trans hk
  replace hb := And.intro hb.1 (Nat.lt_succ_of_lt hb.2)
  refine wp_putr (r := (some ((((((n + 1) + 1) + 1) + 1) + 1) + 1))) dX6_init_62 fp6_29_5 hb hk rfl ?_
  refine wp_aload_n dX6_init_65 rfl ?_
  refine wp_sipush (v := 260) dX6_init_66 rfl ?_
  refine wp_newI 260 dX6_init_69 q190 (by decide) (by decide) (by decide) h.1.1 h.1.2 ?_
  replace hca := h.1.1
  replace hsa := h.1.2
  replace h := h.2
  replace hk := (upK_o (k := .inr (0, 260)) _ (Nat.ne_of_lt hb.2)).trans hk
  replace hb := And.intro hb.1 (Nat.lt_succ_of_lt hb.2)
  refine wp_putr (r := (some (((((((n + 1) + 1) + 1) + 1) + 1) + 1) + 1))) dX6_init_71 fp6_32_5 hb hk rfl ?_
  refine wp_aload_n dX6_init_74 rfl ?_
  refine wp_bipush (v := 16) dX6_init_75 rfl ?_
  refine wp_newI 16 dX6_init_77 q190 (by decide) (by decide) (by decide) h.1.1 h.1.2 ?_
  replace hca := h.1.1
  replace hsa := h.1.2
  replace h := h.2
  replace hk := (upK_o (k := .inr (0, 16)) _ (Nat.ne_of_lt hb.2)).trans hk
  replace hb := And.intro hb.1 (Nat.lt_succ_of_lt hb.2)
  refine wp_putr (r := (some ((((((((n + 1) + 1) + 1) + 1) + 1) + 1) + 1) + 1))) dX6_init_79 fp6_35_5 hb hk rfl ?_
  refine wp_aload_n dX6_init_82 rfl ?_
  refine wp_bipush (v := 16) dX6_init_83 rfl ?_
  refine wp_newI 16 dX6_init_85 q190 (by decide) (by decide) (by decide) h.1.1 h.1.2 ?_
  replace hca := h.1.1
  replace hsa := h.1.2
  replace h := h.2
  replace hk := (upK_o (k := .inr (0, 16)) _ (Nat.ne_of_lt hb.2)).trans hk
  replace hb := And.intro hb.1 (Nat.lt_succ_of_lt hb.2)
  refine wp_putr (r := (some (((((((((n + 1) + 1) + 1) + 1) + 1) + 1) + 1) + 1) + 1))) dX6_init_87 fp6_38_5 hb hk rfl ?_
  refine wp_aload_n dX6_init_90 rfl ?_
  refine wp_bipush (v := 16) dX6_init_91 rfl ?_
  refine wp_newI 16 dX6_init_93 q190 (by decide) (by decide) (by decide) h.1.1 h.1.2 ?_
  replace hca := h.1.1
  replace hsa := h.1.2
  replace h := h.2
  replace hk := (upK_o (k := .inr (0, 16)) _ (Nat.ne_of_lt hb.2)).trans hk
  replace hb := And.intro hb.1 (Nat.lt_succ_of_lt hb.2)
  refine wp_putr (r := (some ((((((((((n + 1) + 1) + 1) + 1) + 1) + 1) + 1) + 1) + 1) + 1))) dX6_init_95 fp6_41_5 hb hk rfl ?_
  refine wp_aload_n dX6_init_98 rfl ?_
  refine wp_bipush (v := 16) dX6_init_99 rfl ?_
  refine wp_newI 16 dX6_init_101 q190 (by decide) (by decide) (by decide) h.1.1 h.1.2 ?_
  replace hca := h.1.1
  replace hsa := h.1.2
  replace h := h.2
  replace hk := (upK_o (k := .inr (0, 16)) _ (Nat.ne_of_lt hb.2)).trans hk
  replace hb := And.intro hb.1 (Nat.lt_succ_of_lt hb.2)
  refine wp_putr (r := (some (((((((((((n + 1) + 1) + 1) + 1) + 1) + 1) + 1) + 1) + 1) + 1) + 1))) dX6_init_103 fp6_44_5 hb hk rfl ?_
  refine wp_aload_n dX6_init_106 rfl ?_
  refine wp_sipush (v := 260) dX6_init_107 rfl ?_
  refine wp_newI 260 dX6_init_110 q190 (by decide) (by decide) (by decide) h.1.1 h.1.2 ?_
  replace hca := h.1.1
  replace hsa := h.1.2
  replace h := h.2
  replace hk := (upK_o (k := .inr (0, 260)) _ (Nat.ne_of_lt hb.2)).trans hk
  replace hb := And.intro hb.1 (Nat.lt_succ_of_lt hb.2)
  refine wp_putr (r := (some ((((((((((((n + 1) + 1) + 1) + 1) + 1) + 1) + 1) + 1) + 1) + 1) + 1) + 1))) dX6_init_112 fp6_47_5 hb hk rfl ?_
  refine wp_aload_n dX6_init_115 rfl ?_
  refine wp_bipush (v := 16) dX6_init_116 rfl ?_
  refine wp_newI 16 dX6_init_118 q190 (by decide) (by decide) (by decide) h.1.1 h.1.2 ?_
  replace hca := h.1.1
  replace hsa := h.1.2
  replace h := h.2
  replace hk := (upK_o (k := .inr (0, 16)) _ (Nat.ne_of_lt hb.2)).trans hk
  replace hb := And.intro hb.1 (Nat.lt_succ_of_lt hb.2)
  refine wp_putr (r := (some (((((((((((((n + 1) + 1) + 1) + 1) + 1) + 1) + 1) + 1) + 1) + 1) + 1) + 1) + 1))) dX6_init_120 fp6_50_5 hb hk rfl ?_
  refine wp_aload_n dX6_init_123 rfl ?_
  refine wp_bipush (v := 16) dX6_init_124 rfl ?_
  refine wp_newI 16 dX6_init_126 q190 (by decide) (by decide) (by decide) h.1.1 h.1.2 ?_
  replace hca := h.1.1
  replace hsa := h.1.2
  replace h := h.2
  replace hk := (upK_o (k := .inr (0, 16)) _ (Nat.ne_of_lt hb.2)).trans hk
  replace hb := And.intro hb.1 (Nat.lt_succ_of_lt hb.2)
  refine wp_putr (r := (some ((((((((((((((n + 1) + 1) + 1) + 1) + 1) + 1) + 1) + 1) + 1) + 1) + 1) + 1) + 1) + 1))) dX6_init_128 fp6_53_5 hb hk rfl ?_
  refine wp_aload_n dX6_init_131 rfl ?_
  refine wp_bipush (v := 16) dX6_init_132 rfl ?_
  refine wp_newI 16 dX6_init_134 q190 (by decide) (by decide) (by decide) h.1.1 h.1.2 ?_
  replace hca := h.1.1
  replace hsa := h.1.2
  replace h := h.2
  replace hk := (upK_o (k := .inr (0, 16)) _ (Nat.ne_of_lt hb.2)).trans hk
  replace hb := And.intro hb.1 (Nat.lt_succ_of_lt hb.2)
  refine wp_putr (r := (some (((((((((((((((n + 1) + 1) + 1) + 1) + 1) + 1) + 1) + 1) + 1) + 1) + 1) + 1) + 1) + 1) + 1))) dX6_init_136 fp6_56_5 hb hk rfl ?_
  refine wp_aload_n dX6_init_139 rfl ?_
  refine wp_bipush (v := 16) dX6_init_140 rfl ?_
  refine wp_newI 16 dX6_init_142 q190 (by decide) (by decide) (by decide) h.1.1 h.1.2 ?_
  replace hca := h.1.1
  replace hsa := h.1.2
  replace h := h.2
  replace hk := (upK_o (k := .inr (0, 16)) _ (Nat.ne_of_lt hb.2)).trans hk
  replace hb := And.intro hb.1 (Nat.lt_succ_of_lt hb.2)
  refine wp_putr (r := (some ((((((((((((((((n + 1) + 1) + 1) + 1) + 1) + 1) + 1) + 1) + 1) + 1) + 1) + 1) + 1) + 1) + 1) + 1))) dX6_init_144 fp6_59_5 hb hk rfl ?_
  refine wp_aload_n dX6_init_147 rfl ?_
  refine wp_sipush (v := 260) dX6_init_148 rfl ?_
  refine wp_newI 260 dX6_init_151 q190 (by decide) (by decide) (by decide) h.1.1 h.1.2 ?_
  replace hca := h.1.1
  replace hsa := h.1.2
  replace h := h.2
  replace hk := (upK_o (k := .inr (0, 260)) _ (Nat.ne_of_lt hb.2)).trans hk
  replace hb := And.intro hb.1 (Nat.lt_succ_of_lt hb.2)
  refine wp_putr (r := (some (((((((((((((((((n + 1) + 1) + 1) + 1) + 1) + 1) + 1) + 1) + 1) + 1) + 1) + 1) + 1) + 1) + 1) + 1) + 1))) dX6_init_153 fp6_62_5 hb hk rfl ?_
  refine wp_aload_n dX6_init_156 rfl ?_
  refine wp_bipush (v := 9) dX6_init_157 rfl ?_
  refine wp_newI 9 dX6_init_159 q190 (by decide) (by decide) (by decide) h.1.1 h.1.2 ?_
  replace hca := h.1.1
  replace hsa := h.1.2
  replace h := h.2
  replace hk := (upK_o (k := .inr (0, 9)) _ (Nat.ne_of_lt hb.2)).trans hk
  replace hb := And.intro hb.1 (Nat.lt_succ_of_lt hb.2)
  refine wp_putr (r := (some ((((((((((((((((((n + 1) + 1) + 1) + 1) + 1) + 1) + 1) + 1) + 1) + 1) + 1) + 1) + 1) + 1) + 1) + 1) + 1) + 1))) dX6_init_161 fp6_65_5 hb hk rfl ?_
  refine wp_aload_n dX6_init_164 rfl ?_
  refine wp_bipush (v := 96) dX6_init_165 rfl ?_
  refine wp_newI 96 dX6_init_167 q190 (by decide) (by decide) (by decide) h.1.1 h.1.2 ?_
  replace hca := h.1.1
  replace hsa := h.1.2
  replace h := h.2
  replace hk := (upK_o (k := .inr (0, 96)) _ (Nat.ne_of_lt hb.2)).trans hk
  replace hb := And.intro hb.1 (Nat.lt_succ_of_lt hb.2)
  refine wp_putr (r := (some (((((((((((((((((((n + 1) + 1) + 1) + 1) + 1) + 1) + 1) + 1) + 1) + 1) + 1) + 1) + 1) + 1) + 1) + 1) + 1) + 1) + 1))) dX6_init_169 fp6_68_5 hb hk rfl ?_
  refine wp_aload_n dX6_init_172 rfl ?_
  refine wp_bipush (v := 96) dX6_init_173 rfl ?_
  refine wp_newZ 96 dX6_init_175 q234 (by decide) (by decide) (by decide) h.1.1 h.1.2 ?_
  replace hca := h.1.1
  replace hsa := h.1.2
  replace h := h.2
  replace hk := (upK_o (k := .inr (2, 96)) _ (Nat.ne_of_lt hb.2)).trans hk
  replace hb := And.intro hb.1 (Nat.lt_succ_of_lt hb.2)
  refine wp_putr (r := (some ((((((((((((((((((((n + 1) + 1) + 1) + 1) + 1) + 1) + 1) + 1) + 1) + 1) + 1) + 1) + 1) + 1) + 1) + 1) + 1) + 1) + 1) + 1))) dX6_init_177 fp6_71_5 hb hk rfl ?_
  refine wp_aload_n dX6_init_180 rfl ?_
  refine wp_bipush (v := 96) dX6_init_181 rfl ?_
  refine wp_newI 96 dX6_init_183 q190 (by decide) (by decide) (by decide) h.1.1 h.1.2 ?_
  replace hca := h.1.1
  replace hsa := h.1.2
  replace h := h.2
  replace hk := (upK_o (k := .inr (0, 96)) _ (Nat.ne_of_lt hb.2)).trans hk
  replace hb := And.intro hb.1 (Nat.lt_succ_of_lt hb.2)
  refine wp_putr (r := (some (((((((((((((((((((((n + 1) + 1) + 1) + 1) + 1) + 1) + 1) + 1) + 1) + 1) + 1) + 1) + 1) + 1) + 1) + 1) + 1) + 1) + 1) + 1) + 1))) dX6_init_185 fp6_75_5 hb hk rfl ?_
  refine wp_aload_n dX6_init_188 rfl ?_
  refine wp_sipush (v := 192) dX6_init_189 rfl ?_
  refine wp_newI 192 dX6_init_192 q190 (by decide) (by decide) (by decide) h.1.1 h.1.2 ?_
  replace hca := h.1.1
  replace hsa := h.1.2
  replace h := h.2
  replace hk := (upK_o (k := .inr (0, 192)) _ (Nat.ne_of_lt hb.2)).trans hk
  replace hb := And.intro hb.1 (Nat.lt_succ_of_lt hb.2)
  refine wp_putr (r := (some ((((((((((((((((((((((n + 1) + 1) + 1) + 1) + 1) + 1) + 1) + 1) + 1) + 1) + 1) + 1) + 1) + 1) + 1) + 1) + 1) + 1) + 1) + 1) + 1) + 1))) dX6_init_194 fp6_78_5 hb hk rfl ?_
  refine wp_aload_n dX6_init_197 rfl ?_
  refine wp_bipush (v := 96) dX6_init_198 rfl ?_
  refine wp_newI 96 dX6_init_200 q190 (by decide) (by decide) (by decide) h.1.1 h.1.2 ?_
  replace hca := h.1.1
  replace hsa := h.1.2
  replace h := h.2
  replace hk := (upK_o (k := .inr (0, 96)) _ (Nat.ne_of_lt hb.2)).trans hk
  replace hb := And.intro hb.1 (Nat.lt_succ_of_lt hb.2)
  refine wp_putr (r := (some (((((((((((((((((((((((n + 1) + 1) + 1) + 1) + 1) + 1) + 1) + 1) + 1) + 1) + 1) + 1) + 1) + 1) + 1) + 1) + 1) + 1) + 1) + 1) + 1) + 1) + 1))) dX6_init_202 fp6_81_5 hb hk rfl ?_
  refine wp_aload_n dX6_init_205 rfl ?_
  refine wp_bipush (v := 96) dX6_init_206 rfl ?_
  refine wp_newI 96 dX6_init_208 q190 (by decide) (by decide) (by decide) h.1.1 h.1.2 ?_
  replace hca := h.1.1
  replace hsa := h.1.2
  replace h := h.2
  replace hk := (upK_o (k := .inr (0, 96)) _ (Nat.ne_of_lt hb.2)).trans hk
  replace hb := And.intro hb.1 (Nat.lt_succ_of_lt hb.2)
  refine wp_putr (r := (some ((((((((((((((((((((((((n + 1) + 1) + 1) + 1) + 1) + 1) + 1) + 1) + 1) + 1) + 1) + 1) + 1) + 1) + 1) + 1) + 1) + 1) + 1) + 1) + 1) + 1) + 1) + 1))) dX6_init_210 fp6_84_5 hb hk rfl ?_
  refine wp_aload_n dX6_init_213 rfl ?_
  refine wp_sipush (v := 192) dX6_init_214 rfl ?_
  refine wp_newI 192 dX6_init_217 q190 (by decide) (by decide) (by decide) h.1.1 h.1.2 ?_
  replace hca := h.1.1
  replace hsa := h.1.2
  replace h := h.2
  replace hk := (upK_o (k := .inr (0, 192)) _ (Nat.ne_of_lt hb.2)).trans hk
  replace hb := And.intro hb.1 (Nat.lt_succ_of_lt hb.2)
  refine wp_putr (r := (some (((((((((((((((((((((((((n + 1) + 1) + 1) + 1) + 1) + 1) + 1) + 1) + 1) + 1) + 1) + 1) + 1) + 1) + 1) + 1) + 1) + 1) + 1) + 1) + 1) + 1) + 1) + 1) + 1))) dX6_init_219 fp6_87_5 hb hk rfl ?_
  refine wp_aload_n dX6_init_222 rfl ?_
  refine wp_sipush (v := 192) dX6_init_223 rfl ?_
  refine wp_newI 192 dX6_init_226 q190 (by decide) (by decide) (by decide) h.1.1 h.1.2 ?_
  replace hca := h.1.1
  replace hsa := h.1.2
  replace h := h.2
  replace hk := (upK_o (k := .inr (0, 192)) _ (Nat.ne_of_lt hb.2)).trans hk
  replace hb := And.intro hb.1 (Nat.lt_succ_of_lt hb.2)
  refine wp_putr (r := (some ((((((((((((((((((((((((((n + 1) + 1) + 1) + 1) + 1) + 1) + 1) + 1) + 1) + 1) + 1) + 1) + 1) + 1) + 1) + 1) + 1) + 1) + 1) + 1) + 1) + 1) + 1) + 1) + 1) + 1))) dX6_init_228 fp6_90_5 hb hk rfl ?_
  refine wp_aload_n dX6_init_231 rfl ?_
  refine wp_bipush (v := 96) dX6_init_232 rfl ?_
  refine wp_newI 96 dX6_init_234 q190 (by decide) (by decide) (by decide) h.1.1 h.1.2 ?_
  replace hca := h.1.1
  replace hsa := h.1.2
  replace h := h.2
  replace hk := (upK_o (k := .inr (0, 96)) _ (Nat.ne_of_lt hb.2)).trans hk
  replace hb := And.intro hb.1 (Nat.lt_succ_of_lt hb.2)
  refine wp_putr (r := (some (((((((((((((((((((((((((((n + 1) + 1) + 1) + 1) + 1) + 1) + 1) + 1) + 1) + 1) + 1) + 1) + 1) + 1) + 1) + 1) + 1) + 1) + 1) + 1) + 1) + 1) + 1) + 1) + 1) + 1) + 1))) dX6_init_236 fp6_93_5 hb hk rfl ?_
  refine wp_aload_n dX6_init_239 rfl ?_
  refine wp_bipush (v := 96) dX6_init_240 rfl ?_
  refine wp_newI 96 dX6_init_242 q190 (by decide) (by decide) (by decide) h.1.1 h.1.2 ?_
  replace hca := h.1.1
  replace hsa := h.1.2
  replace h := h.2
  replace hk := (upK_o (k := .inr (0, 96)) _ (Nat.ne_of_lt hb.2)).trans hk
  replace hb := And.intro hb.1 (Nat.lt_succ_of_lt hb.2)
  refine wp_putr (r := (some ((((((((((((((((((((((((((((n + 1) + 1) + 1) + 1) + 1) + 1) + 1) + 1) + 1) + 1) + 1) + 1) + 1) + 1) + 1) + 1) + 1) + 1) + 1) + 1) + 1) + 1) + 1) + 1) + 1) + 1) + 1) + 1))) dX6_init_244 fp6_96_5 hb hk rfl ?_
  refine wp_aload_n dX6_init_247 rfl ?_
  refine wp_bipush (v := 10) dX6_init_248 rfl ?_
  refine wp_newI 10 dX6_init_250 q190 (by decide) (by decide) (by decide) h.1.1 h.1.2 ?_
  replace hca := h.1.1
  replace hsa := h.1.2
  replace h := h.2
  replace hk := (upK_o (k := .inr (0, 10)) _ (Nat.ne_of_lt hb.2)).trans hk
  replace hb := And.intro hb.1 (Nat.lt_succ_of_lt hb.2)
  refine wp_putr (r := (some (((((((((((((((((((((((((((((n + 1) + 1) + 1) + 1) + 1) + 1) + 1) + 1) + 1) + 1) + 1) + 1) + 1) + 1) + 1) + 1) + 1) + 1) + 1) + 1) + 1) + 1) + 1) + 1) + 1) + 1) + 1) + 1) + 1))) dX6_init_252 fp6_99_5 hb hk rfl ?_
  refine wp_aload_n dX6_init_255 rfl ?_
  refine wp_getr dX6_init_256 fk6_7_5 hb hk rfl ?_
  refine wp_sipush (v := 314) dX6_init_259 rfl ?_
  refine wp_iconst (v := 1) dX6_init_262 rfl ?_
  obtain ⟨a263, L263, hqa263, ⟨hba263, hka263⟩, h⟩ := h
  rw [hqa263]
  refine wp_iast dX6_init_263 hba263 hka263 h.1 ?_
  replace h := h.2
  refine wp_widen hca hsa ?_
  exact wp_vret dX6_init_264 ⟨rfl, h⟩
theorem n6_init {l : Launch} {G : gT} {d mc ms n : Nat} {K : kT} {Rf : rT} {V : vT} {Q : Nat → kT → rT → vT → Prop} (h : w6_init l G d mc ms Q 0 [some (vr 214)] [] n K Rf V 0 0) : c6_init l G d mc ms n K Rf V Q := MOk.enter [some (vr 214)] pn_X6 rfl rfl (Nat.le_of_ble_eq_true rfl) rfl h
theorem b7_sum_0 {l : Launch} {G : gT} {d mc ms n ca sa : Nat} {K : kT} {Rf : rT} {V : vT} {Q : Option Nat → Nat → kT → rT → vT → Prop} {tl : Nat} {o : Nat} (hd : 30 ≤ d) (hca : ca ≤ mc) (hsa : sa ≤ ms) (hC : CM (l, G, n, K, Rf) tl) (hS : RD (l, G, n, K, Rf) o) (h : (ca + 1 ≤ mc ∧ sa + 3 ≤ ms) ∧ (∃ d6 mc6 ms6 : Nat, (d6 < d ∧ (ca + 1) + mc6 ≤ mc ∧ (sa + 3) + ms6 ≤ ms) ∧ c7_product l G d6 mc6 ms6 (n + 1) (upK K n (.inl 7)) Rf o  V (fun r6 n6 K6 Rf6 V6 => (CM (l, G, n6, K6, Rf6) tl ∧ RD (l, G, n6, K6, Rf6) o) ∧ (∃ d9 mc9 ms9 : Nat, (d9 < d ∧ ((ca + 1) + mc6) + mc9 ≤ mc ∧ ((sa + 3) + ms6) + ms9 ≤ ms) ∧ c9_init l G d9 mc9 ms9 n6 K6 Rf6 n 0 r6 V6 (fun n9 K9 Rf9 V9 => (CM (l, G, n9, K9, Rf9) tl ∧ RD (l, G, n9, K9, Rf9) o) ∧ (w7_sum l G d mc ms Q 15 [some (vr o), some (vr n), some (vr n), none] [] n9 K9 Rf9 V9 (((ca + 1) + mc6) + mc9) (((sa + 3) + ms6) + ms9))))))) : w7_sum l G d mc ms Q 0 [some (vr o), none, none, none] [] n K Rf V ca sa := by
  refine wp_new dX7_sum_0 fn7_86 h.1.1 h.1.2 ?_
  replace hca := h.1.1
  replace hsa := h.1.2
  replace h := h.2
  replace hC := hC.ext (EX.new (.inl 7))
  replace hS := hS.ext (EX.new (.inl 7))
  refine wp_dup dX7_sum_3 ?_
  refine wp_iconst (v := 0) dX7_sum_4 rfl ?_
  refine wp_aload_n dX7_sum_5 rfl ?_
  obtain ⟨d6, mc6, ms6, ⟨hdd, hmc, hms⟩, h⟩ := h
  refine wx_VR0 lk7_98 rfl (RD.b0 hS) (RD.k0 hS) dX7_sum_6 h (rmQ_ok hdd (by decide)) ⟨hmc, hms⟩ (Nat.le_of_ble_eq_true rfl) (fun r6 n6 K6 Rf6 V6 h => ?_)
  replace hca := hmc
  replace hsa := hms
  obtain ⟨⟨hC, hS⟩, h⟩ := h
  obtain ⟨d9, mc9, ms9, ⟨hdd, hmc, hms⟩, h⟩ := h
  refine wx_I2 lk7_91 dX7_sum_9 h (rmQ_ok hdd (by decide)) ⟨hmc, hms⟩ (Nat.le_of_ble_eq_true rfl) (fun n9 K9 Rf9 V9 h => ?_)
  replace hca := hmc
  replace hsa := hms
  obtain ⟨⟨hC, hS⟩, h⟩ := h
  refine wa4_1 dX7_sum_12 ?_
  refine wp_aload_n dX7_sum_13 rfl ?_
  refine wa4_2 dX7_sum_14 ?_
  exact h
theorem b7_sum_15 {l : Launch} {G : gT} {d mc ms n ca sa : Nat} {K : kT} {Rf : rT} {V : vT} {Q : Option Nat → Nat → kT → rT → vT → Prop} {tl : Nat} {o : Nat} {q2 : Option Nat} {a1 : Nat} (hd : 30 ≤ d) (hca : ca ≤ mc) (hsa : sa ≤ ms) (hC : CM (l, G, n, K, Rf) tl) (hS : RD (l, G, n, K, Rf) o) (h : c7_isGood (l, G, n, K, Rf) o V (fun r16 V16 => (r16 = 0 → Q (some a1) n K Rf V16) ∧ (¬ r16 = 0 → c7_here (l, G, n, K, Rf) o V16 (fun r23 V23 => (r23 = 43 → c7_here (l, G, n, K, Rf) o V23 (fun r41 V41 => (ca + 1 ≤ mc ∧ sa + 3 ≤ ms) ∧ (∃ d62 mc62 ms62 : Nat, (d62 < d ∧ (ca + 1) + mc62 ≤ mc ∧ (sa + 3) + ms62 ≤ ms) ∧ c7_product l G d62 mc62 ms62 (n + 1) (upK K n (.inl 7)) Rf o  (up2 V41 o 2 ((V41 o 2) + 1)) (fun r62 n62 K62 Rf62 V62 => (CM (l, G, n62, K62, Rf62) tl ∧ RD (l, G, n62, K62, Rf62) o) ∧ (∃ d65 mc65 ms65 : Nat, (d65 < d ∧ ((ca + 1) + mc62) + mc65 ≤ mc ∧ ((sa + 3) + ms62) + ms65 ≤ ms) ∧ c9_init l G d65 mc65 ms65 n62 K62 Rf62 n r41 r62 V62 (fun n65 K65 Rf65 V65 => (CM (l, G, n65, K65, Rf65) tl ∧ RD (l, G, n65, K65, Rf65) o) ∧ (∃ a68, q2 = some a68 ∧ ((16 ≤ a68 ∧ a68 < (l, G, n65, K65, Rf65).2.2.1) ∧ (l, G, n65, K65, Rf65).2.2.2.1 a68 = .inl 7) ∧ ((CM (l, G, n65, K65, (up2 Rf65 a68 2 (some n))) tl ∧ RD (l, G, n65, K65, (up2 Rf65 a68 2 (some n))) o) ∧ (((16 ≤ a68 ∧ a68 < (l, G, n65, K65, (up2 Rf65 a68 2 (some n))).2.2.1) ∧ (l, G, n65, K65, (up2 Rf65 a68 2 (some n))).2.2.2.1 a68 = .inl 7) ∧ (w7_sum l G d mc ms Q 15 [some (vr o), some (vr a1), some (.inr ((up2 Rf65 a68 2 (some n)) a68 2)), none] [] n65 K65 (up2 Rf65 a68 2 (some n)) V65 (((ca + 1) + mc62) + mc65) (((sa + 3) + ms62) + ms65))))))))))) ∧ (¬ r23 = 43 → c7_here (l, G, n, K, Rf) o V23 (fun r32 V32 => (¬ r32 = 45 → Q (some a1) n K Rf V32) ∧ (r32 = 45 → c7_here (l, G, n, K, Rf) o V32 (fun r41' V41' => (ca + 1 ≤ mc ∧ sa + 3 ≤ ms) ∧ (∃ d62' mc62' ms62' : Nat, (d62' < d ∧ (ca + 1) + mc62' ≤ mc ∧ (sa + 3) + ms62' ≤ ms) ∧ c7_product l G d62' mc62' ms62' (n + 1) (upK K n (.inl 7)) Rf o  (up2 V41' o 2 ((V41' o 2) + 1)) (fun r62' n62' K62' Rf62' V62' => (CM (l, G, n62', K62', Rf62') tl ∧ RD (l, G, n62', K62', Rf62') o) ∧ (∃ d65' mc65' ms65' : Nat, (d65' < d ∧ ((ca + 1) + mc62') + mc65' ≤ mc ∧ ((sa + 3) + ms62') + ms65' ≤ ms) ∧ c9_init l G d65' mc65' ms65' n62' K62' Rf62' n r41' r62' V62' (fun n65' K65' Rf65' V65' => (CM (l, G, n65', K65', Rf65') tl ∧ RD (l, G, n65', K65', Rf65') o) ∧ (∃ a68', q2 = some a68' ∧ ((16 ≤ a68' ∧ a68' < (l, G, n65', K65', Rf65').2.2.1) ∧ (l, G, n65', K65', Rf65').2.2.2.1 a68' = .inl 7) ∧ ((CM (l, G, n65', K65', (up2 Rf65' a68' 2 (some n))) tl ∧ RD (l, G, n65', K65', (up2 Rf65' a68' 2 (some n))) o) ∧ (((16 ≤ a68' ∧ a68' < (l, G, n65', K65', (up2 Rf65' a68' 2 (some n))).2.2.1) ∧ (l, G, n65', K65', (up2 Rf65' a68' 2 (some n))).2.2.2.1 a68' = .inl 7) ∧ (w7_sum l G d mc ms Q 15 [some (vr o), some (vr a1), some (.inr ((up2 Rf65' a68' 2 (some n)) a68' 2)), none] [] n65' K65' (up2 Rf65' a68' 2 (some n)) V65' (((ca + 1) + mc62') + mc65') (((sa + 3) + ms62') + ms65'))))))))))))))))) : w7_sum l G d mc ms Q 15 [some (vr o), some (vr a1), some (.inr q2), none] [] n K Rf V ca sa := by
  refine wp_aload_n dX7_sum_15 rfl ?_
  refine wq_VI0 lk7_43 rfl (RD.b0 hS) (RD.k0 hS) dX7_sum_16 h (rmQ_ok (Nat.lt_of_lt_of_le (by decide) hd) (by decide)) ⟨hca, hsa⟩ (Nat.le_of_ble_eq_true rfl) (fun r16 V16 h => ?_)
  refine wp_if_eq 79 dX7_sum_19 (by decide) (fun hc => ?_) (fun hc => ?_)
  · replace h := h.1 hc
    refine wp_aload_n dX7_sum_79 rfl ?_
    refine wp_widen hca hsa ?_
    exact wp_aret dX7_sum_80 (Or.inl ⟨_, rfl⟩) ⟨_, rfl, h⟩
  · replace h := h.2 hc
    refine wp_aload_n dX7_sum_22 rfl ?_
    refine wq_VI0 lk7_39 rfl (RD.b0 hS) (RD.k0 hS) dX7_sum_23 h (rmQ_ok (Nat.lt_of_lt_of_le (by decide) hd) (by decide)) ⟨hca, hsa⟩ (Nat.le_of_ble_eq_true rfl) (fun r23 V23 h => ?_)
    refine wp_bipush (v := 43) dX7_sum_26 rfl ?_
    refine wp_icmp_eq 40 dX7_sum_28 (by decide) (fun hc => ?_) (fun hc => ?_)
    · replace h := h.1 hc
      refine wp_aload_n dX7_sum_40 rfl ?_
      refine wq_VI0 lk7_39 rfl (RD.b0 hS) (RD.k0 hS) dX7_sum_41 h (rmQ_ok (Nat.lt_of_lt_of_le (by decide) hd) (by decide)) ⟨hca, hsa⟩ (Nat.le_of_ble_eq_true rfl) (fun r41 V41 h => ?_)
      refine wi4_3 dX7_sum_44 ?_
      refine wp_aload_n dX7_sum_45 rfl ?_
      refine wp_dup dX7_sum_46 ?_
      refine wp_geti dX7_sum_47 fk7_26_6 (RD.b0 hS) (RD.k0 hS) rfl ?_
      refine wp_iconst (v := 1) dX7_sum_50 rfl ?_
      refine wp_iadd dX7_sum_51 ?_
      refine wp_puti dX7_sum_52 fp7_26_6 (RD.b0 hS) (RD.k0 hS) rfl ?_
      refine wp_aload_n dX7_sum_55 rfl ?_
      refine wp_new dX7_sum_56 fn7_86 h.1.1 h.1.2 ?_
      replace hca := h.1.1
      replace hsa := h.1.2
      replace h := h.2
      replace hC := hC.ext (EX.new (.inl 7))
      replace hS := hS.ext (EX.new (.inl 7))
      refine wp_dup dX7_sum_59 ?_
      refine wp_iload_n dX7_sum_60 rfl ?_
      refine wp_aload_n dX7_sum_61 rfl ?_
      obtain ⟨d62, mc62, ms62, ⟨hdd, hmc, hms⟩, h⟩ := h
      refine wx_VR0 lk7_98 rfl (RD.b0 hS) (RD.k0 hS) dX7_sum_62 h (rmQ_ok hdd (by decide)) ⟨hmc, hms⟩ (Nat.le_of_ble_eq_true rfl) (fun r62 n62 K62 Rf62 V62 h => ?_)
      replace hca := hmc
      replace hsa := hms
      obtain ⟨⟨hC, hS⟩, h⟩ := h
      obtain ⟨d65, mc65, ms65, ⟨hdd, hmc, hms⟩, h⟩ := h
      refine wx_I2 lk7_91 dX7_sum_65 h (rmQ_ok hdd (by decide)) ⟨hmc, hms⟩ (Nat.le_of_ble_eq_true rfl) (fun n65 K65 Rf65 V65 h => ?_)
      replace hca := hmc
      replace hsa := hms
      obtain ⟨⟨hC, hS⟩, h⟩ := h
      obtain ⟨a68, hqa68, ⟨hba68, hka68⟩, h⟩ := h
      rw [hqa68]
      refine wp_putr (r := (some n)) dX7_sum_68 fp7_94_7 hba68 hka68 rfl ?_
      obtain ⟨⟨hC, hS⟩, h⟩ := h
      refine wp_aload_n dX7_sum_71 rfl ?_
      obtain ⟨⟨hba68, hka68⟩, h⟩ := h
      refine wp_getr dX7_sum_72 fk7_94_7 hba68 hka68 rfl ?_
      refine wa4_2 dX7_sum_75 ?_
      refine wp_goto 15 dX7_sum_76 (by decide) ?_
      exact wp_drop [some (vr o), some (vr a1), some (.inr ((up2 Rf65 a68 2 (some n)) a68 2)), none] ⟨rfl, ⟨rfl, ⟨rfl, trivial⟩⟩⟩ h
    · replace h := h.2 hc
      refine wp_aload_n dX7_sum_31 rfl ?_
      refine wq_VI0 lk7_39 rfl (RD.b0 hS) (RD.k0 hS) dX7_sum_32 h (rmQ_ok (Nat.lt_of_lt_of_le (by decide) hd) (by decide)) ⟨hca, hsa⟩ (Nat.le_of_ble_eq_true rfl) (fun r32 V32 h => ?_)
      refine wp_bipush (v := 45) dX7_sum_35 rfl ?_
      refine wp_icmp_ne 79 dX7_sum_37 (by decide) (fun hc => ?_) (fun hc => ?_)
      · replace h := h.1 hc
        refine wp_aload_n dX7_sum_79 rfl ?_
        refine wp_widen hca hsa ?_
        exact wp_aret dX7_sum_80 (Or.inl ⟨_, rfl⟩) ⟨_, rfl, h⟩
      · replace h := h.2 hc
        refine wp_aload_n dX7_sum_40 rfl ?_
        refine wq_VI0 lk7_39 rfl (RD.b0 hS) (RD.k0 hS) dX7_sum_41 h (rmQ_ok (Nat.lt_of_lt_of_le (by decide) hd) (by decide)) ⟨hca, hsa⟩ (Nat.le_of_ble_eq_true rfl) (fun r41' V41' h => ?_)
        refine wi4_3 dX7_sum_44 ?_
        refine wp_aload_n dX7_sum_45 rfl ?_
        refine wp_dup dX7_sum_46 ?_
        refine wp_geti dX7_sum_47 fk7_26_6 (RD.b0 hS) (RD.k0 hS) rfl ?_
        refine wp_iconst (v := 1) dX7_sum_50 rfl ?_
        refine wp_iadd dX7_sum_51 ?_
        refine wp_puti dX7_sum_52 fp7_26_6 (RD.b0 hS) (RD.k0 hS) rfl ?_
        refine wp_aload_n dX7_sum_55 rfl ?_
        refine wp_new dX7_sum_56 fn7_86 h.1.1 h.1.2 ?_
        replace hca := h.1.1
        replace hsa := h.1.2
        replace h := h.2
        replace hC := hC.ext (EX.new (.inl 7))
        replace hS := hS.ext (EX.new (.inl 7))
        refine wp_dup dX7_sum_59 ?_
        refine wp_iload_n dX7_sum_60 rfl ?_
        refine wp_aload_n dX7_sum_61 rfl ?_
        obtain ⟨d62', mc62', ms62', ⟨hdd, hmc, hms⟩, h⟩ := h
        refine wx_VR0 lk7_98 rfl (RD.b0 hS) (RD.k0 hS) dX7_sum_62 h (rmQ_ok hdd (by decide)) ⟨hmc, hms⟩ (Nat.le_of_ble_eq_true rfl) (fun r62' n62' K62' Rf62' V62' h => ?_)
        replace hca := hmc
        replace hsa := hms
        obtain ⟨⟨hC, hS⟩, h⟩ := h
        obtain ⟨d65', mc65', ms65', ⟨hdd, hmc, hms⟩, h⟩ := h
        refine wx_I2 lk7_91 dX7_sum_65 h (rmQ_ok hdd (by decide)) ⟨hmc, hms⟩ (Nat.le_of_ble_eq_true rfl) (fun n65' K65' Rf65' V65' h => ?_)
        replace hca := hmc
        replace hsa := hms
        obtain ⟨⟨hC, hS⟩, h⟩ := h
        obtain ⟨a68', hqa68', ⟨hba68', hka68'⟩, h⟩ := h
        rw [hqa68']
        refine wp_putr (r := (some n)) dX7_sum_68 fp7_94_7 hba68' hka68' rfl ?_
        obtain ⟨⟨hC, hS⟩, h⟩ := h
        refine wp_aload_n dX7_sum_71 rfl ?_
        obtain ⟨⟨hba68', hka68'⟩, h⟩ := h
        refine wp_getr dX7_sum_72 fk7_94_7 hba68' hka68' rfl ?_
        refine wa4_2 dX7_sum_75 ?_
        refine wp_goto 15 dX7_sum_76 (by decide) ?_
        exact wp_drop [some (vr o), some (vr a1), some (.inr ((up2 Rf65' a68' 2 (some n)) a68' 2)), none] ⟨rfl, ⟨rfl, ⟨rfl, trivial⟩⟩⟩ h
theorem n7_sum {l : Launch} {G : gT} {d mc ms n : Nat} {K : kT} {Rf : rT} {V : vT} {Q : Option Nat → Nat → kT → rT → vT → Prop} {o : Nat} (h : w7_sum l G d mc ms Q 0 [some (vr o), none, none, none] [] n K Rf V 0 0) : c7_sum l G d mc ms n K Rf o V Q := MOk.enter [some (vr o), none, none, none] pn_X7 rfl rfl (Nat.le_of_ble_eq_true rfl) rfl h
theorem b7_product_0 {l : Launch} {G : gT} {d mc ms n ca sa : Nat} {K : kT} {Rf : rT} {V : vT} {Q : Option Nat → Nat → kT → rT → vT → Prop} {tl : Nat} {o : Nat} (hd : 30 ≤ d) (hca : ca ≤ mc) (hsa : sa ≤ ms) (hC : CM (l, G, n, K, Rf) tl) (hS : RD (l, G, n, K, Rf) o) (h : (ca + 1 ≤ mc ∧ sa + 3 ≤ ms) ∧ (∃ d6 mc6 ms6 : Nat, (d6 < d ∧ (ca + 1) + mc6 ≤ mc ∧ (sa + 3) + ms6 ≤ ms) ∧ c7_factor l G d6 mc6 ms6 (n + 1) (upK K n (.inl 7)) Rf o  V (fun r6 n6 K6 Rf6 V6 => (CM (l, G, n6, K6, Rf6) tl ∧ RD (l, G, n6, K6, Rf6) o) ∧ (∃ d9 mc9 ms9 : Nat, (d9 < d ∧ ((ca + 1) + mc6) + mc9 ≤ mc ∧ ((sa + 3) + ms6) + ms9 ≤ ms) ∧ c9_init l G d9 mc9 ms9 n6 K6 Rf6 n 0 r6 V6 (fun n9 K9 Rf9 V9 => (CM (l, G, n9, K9, Rf9) tl ∧ RD (l, G, n9, K9, Rf9) o) ∧ (w7_product l G d mc ms Q 15 [some (vr o), some (vr n), some (vr n), none] [] n9 K9 Rf9 V9 (((ca + 1) + mc6) + mc9) (((sa + 3) + ms6) + ms9))))))) : w7_product l G d mc ms Q 0 [some (vr o), none, none, none] [] n K Rf V ca sa := by
  refine wp_new dX7_product_0 fn7_86 h.1.1 h.1.2 ?_
  replace hca := h.1.1
  replace hsa := h.1.2
  replace h := h.2
  replace hC := hC.ext (EX.new (.inl 7))
  replace hS := hS.ext (EX.new (.inl 7))
  refine wp_dup dX7_product_3 ?_
  refine wp_iconst (v := 0) dX7_product_4 rfl ?_
  refine wp_aload_n dX7_product_5 rfl ?_
  obtain ⟨d6, mc6, ms6, ⟨hdd, hmc, hms⟩, h⟩ := h
  refine wx_VR0 lk7_88 rfl (RD.b0 hS) (RD.k0 hS) dX7_product_6 h (rmQ_ok hdd (by decide)) ⟨hmc, hms⟩ (Nat.le_of_ble_eq_true rfl) (fun r6 n6 K6 Rf6 V6 h => ?_)
  replace hca := hmc
  replace hsa := hms
  obtain ⟨⟨hC, hS⟩, h⟩ := h
  obtain ⟨d9, mc9, ms9, ⟨hdd, hmc, hms⟩, h⟩ := h
  refine wx_I2 lk7_91 dX7_product_9 h (rmQ_ok hdd (by decide)) ⟨hmc, hms⟩ (Nat.le_of_ble_eq_true rfl) (fun n9 K9 Rf9 V9 h => ?_)
  replace hca := hmc
  replace hsa := hms
  obtain ⟨⟨hC, hS⟩, h⟩ := h
  refine wa4_1 dX7_product_12 ?_
  refine wp_aload_n dX7_product_13 rfl ?_
  refine wa4_2 dX7_product_14 ?_
  exact h
theorem b7_product_15 {l : Launch} {G : gT} {d mc ms n ca sa : Nat} {K : kT} {Rf : rT} {V : vT} {Q : Option Nat → Nat → kT → rT → vT → Prop} {tl : Nat} {o : Nat} {a1 a2 : Nat} (hd : 30 ≤ d) (hca : ca ≤ mc) (hsa : sa ≤ ms) (hC : CM (l, G, n, K, Rf) tl) (hS : RD (l, G, n, K, Rf) o) (h : c7_isGood (l, G, n, K, Rf) o V (fun r16 V16 => (r16 = 0 → Q (some a1) n K Rf V16) ∧ (¬ r16 = 0 → c7_here (l, G, n, K, Rf) o V16 (fun r23 V23 => (r23 = 42 → w7_product l G d mc ms Q 49 [some (vr o), some (vr a1), some (vr a2), none] [] n K Rf V23 ca sa) ∧ (¬ r23 = 42 → c7_here (l, G, n, K, Rf) o V23 (fun r32 V32 => (r32 = 47 → w7_product l G d mc ms Q 49 [some (vr o), some (vr a1), some (vr a2), none] [] n K Rf V32 ca sa) ∧ (¬ r32 = 47 → c7_here (l, G, n, K, Rf) o V32 (fun r41 V41 => (¬ r41 = 37 → Q (some a1) n K Rf V41) ∧ (r41 = 37 → w7_product l G d mc ms Q 49 [some (vr o), some (vr a1), some (vr a2), none] [] n K Rf V41 ca sa))))))))) : w7_product l G d mc ms Q 15 [some (vr o), some (vr a1), some (vr a2), none] [] n K Rf V ca sa := by
  refine wp_aload_n dX7_product_15 rfl ?_
  refine wq_VI0 lk7_43 rfl (RD.b0 hS) (RD.k0 hS) dX7_product_16 h (rmQ_ok (Nat.lt_of_lt_of_le (by decide) hd) (by decide)) ⟨hca, hsa⟩ (Nat.le_of_ble_eq_true rfl) (fun r16 V16 h => ?_)
  refine wp_if_eq 88 dX7_product_19 (by decide) (fun hc => ?_) (fun hc => ?_)
  · replace h := h.1 hc
    refine wp_aload_n dX7_product_88 rfl ?_
    refine wp_widen hca hsa ?_
    exact wp_aret dX7_product_89 (Or.inl ⟨_, rfl⟩) ⟨_, rfl, h⟩
  · replace h := h.2 hc
    refine wp_aload_n dX7_product_22 rfl ?_
    refine wq_VI0 lk7_39 rfl (RD.b0 hS) (RD.k0 hS) dX7_product_23 h (rmQ_ok (Nat.lt_of_lt_of_le (by decide) hd) (by decide)) ⟨hca, hsa⟩ (Nat.le_of_ble_eq_true rfl) (fun r23 V23 h => ?_)
    refine wp_bipush (v := 42) dX7_product_26 rfl ?_
    refine wp_icmp_eq 49 dX7_product_28 (by decide) (fun hc => ?_) (fun hc => ?_)
    · replace h := h.1 hc
      exact h
    · replace h := h.2 hc
      refine wp_aload_n dX7_product_31 rfl ?_
      refine wq_VI0 lk7_39 rfl (RD.b0 hS) (RD.k0 hS) dX7_product_32 h (rmQ_ok (Nat.lt_of_lt_of_le (by decide) hd) (by decide)) ⟨hca, hsa⟩ (Nat.le_of_ble_eq_true rfl) (fun r32 V32 h => ?_)
      refine wp_bipush (v := 47) dX7_product_35 rfl ?_
      refine wp_icmp_eq 49 dX7_product_37 (by decide) (fun hc => ?_) (fun hc => ?_)
      · replace h := h.1 hc
        exact h
      · replace h := h.2 hc
        refine wp_aload_n dX7_product_40 rfl ?_
        refine wq_VI0 lk7_39 rfl (RD.b0 hS) (RD.k0 hS) dX7_product_41 h (rmQ_ok (Nat.lt_of_lt_of_le (by decide) hd) (by decide)) ⟨hca, hsa⟩ (Nat.le_of_ble_eq_true rfl) (fun r41 V41 h => ?_)
        refine wp_bipush (v := 37) dX7_product_44 rfl ?_
        refine wp_icmp_ne 88 dX7_product_46 (by decide) (fun hc => ?_) (fun hc => ?_)
        · replace h := h.1 hc
          refine wp_aload_n dX7_product_88 rfl ?_
          refine wp_widen hca hsa ?_
          exact wp_aret dX7_product_89 (Or.inl ⟨_, rfl⟩) ⟨_, rfl, h⟩
        · replace h := h.2 hc
          exact h
theorem b7_product_49 {l : Launch} {G : gT} {d mc ms n ca sa : Nat} {K : kT} {Rf : rT} {V : vT} {Q : Option Nat → Nat → kT → rT → vT → Prop} {tl : Nat} {o : Nat} {a1 a2 : Nat} (hd : 30 ≤ d) (hca : ca ≤ mc) (hsa : sa ≤ ms) (hC : CM (l, G, n, K, Rf) tl) (hS : RD (l, G, n, K, Rf) o) (h : c7_here (l, G, n, K, Rf) o V (fun r50 V50 => (ca + 1 ≤ mc ∧ sa + 3 ≤ ms) ∧ (∃ d71 mc71 ms71 : Nat, (d71 < d ∧ (ca + 1) + mc71 ≤ mc ∧ (sa + 3) + ms71 ≤ ms) ∧ c7_factor l G d71 mc71 ms71 (n + 1) (upK K n (.inl 7)) Rf o  (up2 V50 o 2 ((V50 o 2) + 1)) (fun r71 n71 K71 Rf71 V71 => (CM (l, G, n71, K71, Rf71) tl ∧ RD (l, G, n71, K71, Rf71) o) ∧ (∃ d74 mc74 ms74 : Nat, (d74 < d ∧ ((ca + 1) + mc71) + mc74 ≤ mc ∧ ((sa + 3) + ms71) + ms74 ≤ ms) ∧ c9_init l G d74 mc74 ms74 n71 K71 Rf71 n r50 r71 V71 (fun n74 K74 Rf74 V74 => (CM (l, G, n74, K74, Rf74) tl ∧ RD (l, G, n74, K74, Rf74) o) ∧ (((16 ≤ a2 ∧ a2 < (l, G, n74, K74, Rf74).2.2.1) ∧ (l, G, n74, K74, Rf74).2.2.2.1 a2 = .inl 7) ∧ ((CM (l, G, n74, K74, (up2 Rf74 a2 2 (some n))) tl ∧ RD (l, G, n74, K74, (up2 Rf74 a2 2 (some n))) o) ∧ (((16 ≤ a2 ∧ a2 < (l, G, n74, K74, (up2 Rf74 a2 2 (some n))).2.2.1) ∧ (l, G, n74, K74, (up2 Rf74 a2 2 (some n))).2.2.2.1 a2 = .inl 7) ∧ (w7_product l G d mc ms Q 15 [some (vr o), some (vr a1), some (.inr ((up2 Rf74 a2 2 (some n)) a2 2)), none] [] n74 K74 (up2 Rf74 a2 2 (some n)) V74 (((ca + 1) + mc71) + mc74) (((sa + 3) + ms71) + ms74))))))))))) : w7_product l G d mc ms Q 49 [some (vr o), some (vr a1), some (vr a2), none] [] n K Rf V ca sa := by
  refine wp_aload_n dX7_product_49 rfl ?_
  refine wq_VI0 lk7_39 rfl (RD.b0 hS) (RD.k0 hS) dX7_product_50 h (rmQ_ok (Nat.lt_of_lt_of_le (by decide) hd) (by decide)) ⟨hca, hsa⟩ (Nat.le_of_ble_eq_true rfl) (fun r50 V50 h => ?_)
  refine wi4_3 dX7_product_53 ?_
  refine wp_aload_n dX7_product_54 rfl ?_
  refine wp_dup dX7_product_55 ?_
  refine wp_geti dX7_product_56 fk7_26_6 (RD.b0 hS) (RD.k0 hS) rfl ?_
  refine wp_iconst (v := 1) dX7_product_59 rfl ?_
  refine wp_iadd dX7_product_60 ?_
  refine wp_puti dX7_product_61 fp7_26_6 (RD.b0 hS) (RD.k0 hS) rfl ?_
  refine wp_aload_n dX7_product_64 rfl ?_
  refine wp_new dX7_product_65 fn7_86 h.1.1 h.1.2 ?_
  replace hca := h.1.1
  replace hsa := h.1.2
  replace h := h.2
  replace hC := hC.ext (EX.new (.inl 7))
  replace hS := hS.ext (EX.new (.inl 7))
  refine wp_dup dX7_product_68 ?_
  refine wp_iload_n dX7_product_69 rfl ?_
  refine wp_aload_n dX7_product_70 rfl ?_
  obtain ⟨d71, mc71, ms71, ⟨hdd, hmc, hms⟩, h⟩ := h
  refine wx_VR0 lk7_88 rfl (RD.b0 hS) (RD.k0 hS) dX7_product_71 h (rmQ_ok hdd (by decide)) ⟨hmc, hms⟩ (Nat.le_of_ble_eq_true rfl) (fun r71 n71 K71 Rf71 V71 h => ?_)
  replace hca := hmc
  replace hsa := hms
  obtain ⟨⟨hC, hS⟩, h⟩ := h
  obtain ⟨d74, mc74, ms74, ⟨hdd, hmc, hms⟩, h⟩ := h
  refine wx_I2 lk7_91 dX7_product_74 h (rmQ_ok hdd (by decide)) ⟨hmc, hms⟩ (Nat.le_of_ble_eq_true rfl) (fun n74 K74 Rf74 V74 h => ?_)
  replace hca := hmc
  replace hsa := hms
  obtain ⟨⟨hC, hS⟩, h⟩ := h
  obtain ⟨⟨hba2, hka2⟩, h⟩ := h
  refine wp_putr (r := (some n)) dX7_product_77 fp7_94_7 hba2 hka2 rfl ?_
  obtain ⟨⟨hC, hS⟩, h⟩ := h
  refine wp_aload_n dX7_product_80 rfl ?_
  obtain ⟨⟨hba2, hka2⟩, h⟩ := h
  refine wp_getr dX7_product_81 fk7_94_7 hba2 hka2 rfl ?_
  refine wa4_2 dX7_product_84 ?_
  refine wp_goto 15 dX7_product_85 (by decide) ?_
  exact wp_drop [some (vr o), some (vr a1), some (.inr ((up2 Rf74 a2 2 (some n)) a2 2)), none] ⟨rfl, ⟨rfl, ⟨rfl, trivial⟩⟩⟩ h
theorem n7_product {l : Launch} {G : gT} {d mc ms n : Nat} {K : kT} {Rf : rT} {V : vT} {Q : Option Nat → Nat → kT → rT → vT → Prop} {o : Nat} (h : w7_product l G d mc ms Q 0 [some (vr o), none, none, none] [] n K Rf V 0 0) : c7_product l G d mc ms n K Rf o V Q := MOk.enter [some (vr o), none, none, none] pn_X7 rfl rfl (Nat.le_of_ble_eq_true rfl) rfl h
theorem b7_factor_0 {l : Launch} {G : gT} {d mc ms n ca sa : Nat} {K : kT} {Rf : rT} {V : vT} {Q : Option Nat → Nat → kT → rT → vT → Prop} {tl : Nat} {o : Nat} (hd : 30 ≤ d) (hca : ca ≤ mc) (hsa : sa ≤ ms) (hC : CM (l, G, n, K, Rf) tl) (hS : RD (l, G, n, K, Rf) o) (h : c7_here (l, G, n, K, Rf) o V (fun r1 V1 => (¬ r1 = 91 → c7_seesDigit (l, G, n, K, Rf) o V1 (fun r57 V57 => (r57 = 0 → (r1 = 0 → w7_factor l G d mc ms Q 88 [some (vr o), some (vi r1), none] [] n K Rf V57 ca sa) ∧ (¬ r1 = 0 → cj0_indexOf (l, G, n, K, Rf) 3 r1 V57 (fun r82 V82 => (0 ≤ r82 → w7_factor l G d mc ms Q 97 [some (vr o), some (vi r1), none] [] n K Rf V82 ca sa) ∧ (r82 < 0 → w7_factor l G d mc ms Q 88 [some (vr o), some (vi r1), none] [] n K Rf V82 ca sa)))) ∧ (¬ r57 = 0 → (ca + 1 ≤ mc ∧ sa + 1 ≤ ms) ∧ (c7_number (l, G, (n + 1), (upK K n (.inl 8)), Rf) o V57 (fun r68 V68 => ∃ d71 mc71 ms71 : Nat, (d71 < d ∧ (ca + 1) + mc71 ≤ mc ∧ (sa + 1) + ms71 ≤ ms) ∧ c10_init l G d71 mc71 ms71 (n + 1) (upK K n (.inl 8)) Rf n r68 V68 (fun n71 K71 Rf71 V71 => (CM (l, G, n71, K71, Rf71) tl ∧ RD (l, G, n71, K71, Rf71) o) ∧ (Q (some n) n71 K71 Rf71 V71))))))) ∧ (r1 = 91 → c7_opens (l, G, n, K, Rf) o V1 (fun V12 => c7_isGood (l, G, n, K, Rf) o V12 (fun r16 V16 => (r16 = 0 → c7_isGood (l, G, n, K, Rf) o V16 (fun r32 V32 => (r32 = 0 → w7_factor l G d mc ms Q 44 [some (vr o), none, some (.inr none)] [] n K Rf V32 ca sa) ∧ (¬ r32 = 0 → c7_must (l, G, n, K, Rf) o 93 V32 (fun V41 => w7_factor l G d mc ms Q 44 [some (vr o), none, some (.inr none)] [] n K Rf V41 ca sa)))) ∧ (¬ r16 = 0 → ∃ d23 mc23 ms23 : Nat, (d23 < d ∧ ca + mc23 ≤ mc ∧ sa + ms23 ≤ ms) ∧ c7_sum l G d23 mc23 ms23 n K Rf o  V16 (fun r23 n23 K23 Rf23 V23 => (CM (l, G, n23, K23, Rf23) tl ∧ RD (l, G, n23, K23, Rf23) o) ∧ (c7_isGood (l, G, n23, K23, Rf23) o V23 (fun r32' V32' => (r32' = 0 → w7_factor l G d mc ms Q 44 [some (vr o), none, some (.inr r23)] [] n23 K23 Rf23 V32' (ca + mc23) (sa + ms23)) ∧ (¬ r32' = 0 → c7_must (l, G, n23, K23, Rf23) o 93 V32' (fun V41' => w7_factor l G d mc ms Q 44 [some (vr o), none, some (.inr r23)] [] n23 K23 Rf23 V41' (ca + mc23) (sa + ms23)))))))))))) : w7_factor l G d mc ms Q 0 [some (vr o), none, none] [] n K Rf V ca sa := by
  refine wp_aload_n dX7_factor_0 rfl ?_
  refine wq_VI0 lk7_39 rfl (RD.b0 hS) (RD.k0 hS) dX7_factor_1 h (rmQ_ok (Nat.lt_of_lt_of_le (by decide) hd) (by decide)) ⟨hca, hsa⟩ (Nat.le_of_ble_eq_true rfl) (fun r1 V1 h => ?_)
  refine wi3_1 dX7_factor_4 ?_
  refine wp_iload_n dX7_factor_5 rfl ?_
  refine wp_bipush (v := 91) dX7_factor_6 rfl ?_
  refine wp_icmp_ne 56 dX7_factor_8 (by decide) (fun hc => ?_) (fun hc => ?_)
  · replace h := h.1 hc
    refine wp_aload_n dX7_factor_56 rfl ?_
    refine wq_VI0 lk7_47 rfl (RD.b0 hS) (RD.k0 hS) dX7_factor_57 h (rmQ_ok (Nat.lt_of_lt_of_le (by decide) hd) (by decide)) ⟨hca, hsa⟩ (Nat.le_of_ble_eq_true rfl) (fun r57 V57 h => ?_)
    refine wp_if_eq 75 dX7_factor_60 (by decide) (fun hc => ?_) (fun hc => ?_)
    · replace h := h.1 hc
      refine wp_iload_n dX7_factor_75 rfl ?_
      refine wp_if_eq 88 dX7_factor_76 (by decide) (fun hc => ?_) (fun hc => ?_)
      · replace h := h.1 hc
        exact h
      · replace h := h.2 hc
        refine wp_ldcS (i := 3) dX7_factor_79 (fun _ hK9 => hK9.2.2.2.2.1.1) ?_
        refine wp_iload_n dX7_factor_81 rfl ?_
        refine wq_ZI1 lk7_77 (STR.b (cstr_3 hC)) (STR.k (cstr_3 hC)) dX7_factor_82 h (rmQ_ok (Nat.lt_of_lt_of_le (by decide) hd) (by decide)) ⟨hca, hsa⟩ (Nat.le_of_ble_eq_true rfl) (fun r82 V82 h => ?_)
        refine wp_if_ge 97 dX7_factor_85 (by decide) (fun hc => ?_) (fun hc => ?_)
        · replace h := h.1 hc
          exact h
        · replace h := h.2 (Int32.not_le.mp hc)
          exact h
    · replace h := h.2 hc
      refine wp_new dX7_factor_63 fn7_68 h.1.1 h.1.2 ?_
      replace hca := h.1.1
      replace hsa := h.1.2
      replace h := h.2
      replace hC := hC.ext (EX.new (.inl 8))
      replace hS := hS.ext (EX.new (.inl 8))
      refine wp_dup dX7_factor_66 ?_
      refine wp_aload_n dX7_factor_67 rfl ?_
      refine wq_VI0 lk7_70 rfl (RD.b0 hS) (RD.k0 hS) dX7_factor_68 h (rmQ_ok (Nat.lt_of_lt_of_le (by decide) hd) (by decide)) ⟨hca, hsa⟩ (Nat.le_of_ble_eq_true rfl) (fun r68 V68 h => ?_)
      obtain ⟨d71, mc71, ms71, ⟨hdd, hmc, hms⟩, h⟩ := h
      refine wx_I1 lk7_73 dX7_factor_71 h (rmQ_ok hdd (by decide)) ⟨hmc, hms⟩ (Nat.le_of_ble_eq_true rfl) (fun n71 K71 Rf71 V71 h => ?_)
      replace hca := hmc
      replace hsa := hms
      obtain ⟨⟨hC, hS⟩, h⟩ := h
      refine wp_widen hca hsa ?_
      exact wp_aret dX7_factor_74 (Or.inl ⟨_, rfl⟩) ⟨_, rfl, h⟩
  · replace h := h.2 hc
    refine wp_aload_n dX7_factor_11 rfl ?_
    refine wq_VV0 lk7_57 rfl (RD.b0 hS) (RD.k0 hS) dX7_factor_12 h (rmQ_ok (Nat.lt_of_lt_of_le (by decide) hd) (by decide)) ⟨hca, hsa⟩ (Nat.le_of_ble_eq_true rfl) (fun V12 h => ?_)
    refine wp_aload_n dX7_factor_15 rfl ?_
    refine wq_VI0 lk7_43 rfl (RD.b0 hS) (RD.k0 hS) dX7_factor_16 h (rmQ_ok (Nat.lt_of_lt_of_le (by decide) hd) (by decide)) ⟨hca, hsa⟩ (Nat.le_of_ble_eq_true rfl) (fun r16 V16 h => ?_)
    refine wp_if_eq 29 dX7_factor_19 (by decide) (fun hc => ?_) (fun hc => ?_)
    · replace h := h.1 hc
      refine wp_null dX7_factor_29 ?_
      refine wa3_2 dX7_factor_30 ?_
      refine wp_aload_n dX7_factor_31 rfl ?_
      refine wq_VI0 lk7_43 rfl (RD.b0 hS) (RD.k0 hS) dX7_factor_32 h (rmQ_ok (Nat.lt_of_lt_of_le (by decide) hd) (by decide)) ⟨hca, hsa⟩ (Nat.le_of_ble_eq_true rfl) (fun r32 V32 h => ?_)
      refine wp_if_eq 44 dX7_factor_35 (by decide) (fun hc => ?_) (fun hc => ?_)
      · replace h := h.1 hc
        exact wp_drop [some (vr o), none, some (.inr none)] ⟨rfl, ⟨rfl, trivial⟩⟩ h
      · replace h := h.2 hc
        refine wp_aload_n dX7_factor_38 rfl ?_
        refine wp_bipush (v := 93) dX7_factor_39 rfl ?_
        refine wq_VV1 lk7_64 rfl (RD.b0 hS) (RD.k0 hS) dX7_factor_41 h (rmQ_ok (Nat.lt_of_lt_of_le (by decide) hd) (by decide)) ⟨hca, hsa⟩ (Nat.le_of_ble_eq_true rfl) (fun V41 h => ?_)
        exact wp_drop [some (vr o), none, some (.inr none)] ⟨rfl, ⟨rfl, trivial⟩⟩ h
    · replace h := h.2 hc
      refine wp_aload_n dX7_factor_22 rfl ?_
      obtain ⟨d23, mc23, ms23, ⟨hdd, hmc, hms⟩, h⟩ := h
      refine wx_VR0 lk7_60 rfl (RD.b0 hS) (RD.k0 hS) dX7_factor_23 h (rmQ_ok hdd (by decide)) ⟨hmc, hms⟩ (Nat.le_of_ble_eq_true rfl) (fun r23 n23 K23 Rf23 V23 h => ?_)
      replace hca := hmc
      replace hsa := hms
      obtain ⟨⟨hC, hS⟩, h⟩ := h
      refine wp_goto 30 dX7_factor_26 (by decide) ?_
      refine wa3_2 dX7_factor_30 ?_
      refine wp_aload_n dX7_factor_31 rfl ?_
      refine wq_VI0 lk7_43 rfl (RD.b0 hS) (RD.k0 hS) dX7_factor_32 h (rmQ_ok (Nat.lt_of_lt_of_le (by decide) hd) (by decide)) ⟨hca, hsa⟩ (Nat.le_of_ble_eq_true rfl) (fun r32' V32' h => ?_)
      refine wp_if_eq 44 dX7_factor_35 (by decide) (fun hc => ?_) (fun hc => ?_)
      · replace h := h.1 hc
        exact wp_drop [some (vr o), none, some (.inr r23)] ⟨rfl, ⟨rfl, trivial⟩⟩ h
      · replace h := h.2 hc
        refine wp_aload_n dX7_factor_38 rfl ?_
        refine wp_bipush (v := 93) dX7_factor_39 rfl ?_
        refine wq_VV1 lk7_64 rfl (RD.b0 hS) (RD.k0 hS) dX7_factor_41 h (rmQ_ok (Nat.lt_of_lt_of_le (by decide) hd) (by decide)) ⟨hca, hsa⟩ (Nat.le_of_ble_eq_true rfl) (fun V41' h => ?_)
        exact wp_drop [some (vr o), none, some (.inr r23)] ⟨rfl, ⟨rfl, trivial⟩⟩ h
theorem b7_factor_44 {l : Launch} {G : gT} {d mc ms n ca sa : Nat} {K : kT} {Rf : rT} {V : vT} {Q : Option Nat → Nat → kT → rT → vT → Prop} {tl : Nat} {o : Nat} {q2 : Option Nat} (hd : 30 ≤ d) (hca : ca ≤ mc) (hsa : sa ≤ ms) (hC : CM (l, G, n, K, Rf) tl) (hS : RD (l, G, n, K, Rf) o) (h : Q q2 n K Rf (up2 V o 3 ((V o 3) - 1))) : w7_factor l G d mc ms Q 44 [some (vr o), none, some (.inr q2)] [] n K Rf V ca sa := by
  refine wp_aload_n dX7_factor_44 rfl ?_
  refine wp_dup dX7_factor_45 ?_
  refine wp_geti dX7_factor_46 fk7_54_6 (RD.b0 hS) (RD.k0 hS) rfl ?_
  refine wp_iconst (v := 1) dX7_factor_49 rfl ?_
  refine wp_isub dX7_factor_50 ?_
  refine wp_puti dX7_factor_51 fp7_54_6 (RD.b0 hS) (RD.k0 hS) rfl ?_
  refine wp_aload_n dX7_factor_54 rfl ?_
  refine wp_widen hca hsa ?_
  exact wp_aret dX7_factor_55 (Or.inl ⟨_, rfl⟩) ⟨_, rfl, h⟩
theorem b7_factor_88 {l : Launch} {G : gT} {d mc ms n ca sa : Nat} {K : kT} {Rf : rT} {V : vT} {Q : Option Nat → Nat → kT → rT → vT → Prop} {tl : Nat} {o : Nat} {x1 : Int32} (hd : 30 ≤ d) (hca : ca ≤ mc) (hsa : sa ≤ ms) (hC : CM (l, G, n, K, Rf) tl) (hS : RD (l, G, n, K, Rf) o) (h : c7_bad (l, G, n, K, Rf) o 1 (V o 2) V (fun V94 => w7_factor l G d mc ms Q 97 [some (vr o), some (vi x1), none] [] n K Rf V94 ca sa)) : w7_factor l G d mc ms Q 88 [some (vr o), some (vi x1), none] [] n K Rf V ca sa := by
  refine wp_aload_n dX7_factor_88 rfl ?_
  refine wp_iconst (v := 1) dX7_factor_89 rfl ?_
  refine wp_aload_n dX7_factor_90 rfl ?_
  refine wp_geti dX7_factor_91 fk7_26_6 (RD.b0 hS) (RD.k0 hS) rfl ?_
  refine wq_VV2 lk7_50 rfl (RD.b0 hS) (RD.k0 hS) dX7_factor_94 h (rmQ_ok (Nat.lt_of_lt_of_le (by decide) hd) (by decide)) ⟨hca, hsa⟩ (Nat.le_of_ble_eq_true rfl) (fun V94 h => ?_)
  exact h
theorem b7_factor_97 {l : Launch} {G : gT} {d mc ms n ca sa : Nat} {K : kT} {Rf : rT} {V : vT} {Q : Option Nat → Nat → kT → rT → vT → Prop} {tl : Nat} {o : Nat} {x1 : Int32} (hd : 30 ≤ d) (hca : ca ≤ mc) (hsa : sa ≤ ms) (hC : CM (l, G, n, K, Rf) tl) (hS : RD (l, G, n, K, Rf) o) (h : (ca + 1 ≤ mc ∧ sa + 1 ≤ ms) ∧ (∃ d112 mc112 ms112 : Nat, (d112 < d ∧ (ca + 1) + mc112 ≤ mc ∧ (sa + 1) + ms112 ≤ ms) ∧ c11_init l G d112 mc112 ms112 (n + 1) (upK K n (.inl 9)) Rf n x1 (up2 V o 2 ((V o 2) + 1)) (fun n112 K112 Rf112 V112 => (CM (l, G, n112, K112, Rf112) tl ∧ RD (l, G, n112, K112, Rf112) o) ∧ (Q (some n) n112 K112 Rf112 V112)))) : w7_factor l G d mc ms Q 97 [some (vr o), some (vi x1), none] [] n K Rf V ca sa := by
  refine wp_aload_n dX7_factor_97 rfl ?_
  refine wp_dup dX7_factor_98 ?_
  refine wp_geti dX7_factor_99 fk7_26_6 (RD.b0 hS) (RD.k0 hS) rfl ?_
  refine wp_iconst (v := 1) dX7_factor_102 rfl ?_
  refine wp_iadd dX7_factor_103 ?_
  refine wp_puti dX7_factor_104 fp7_26_6 (RD.b0 hS) (RD.k0 hS) rfl ?_
  refine wp_new dX7_factor_107 fn7_83 h.1.1 h.1.2 ?_
  replace hca := h.1.1
  replace hsa := h.1.2
  replace h := h.2
  replace hC := hC.ext (EX.new (.inl 9))
  replace hS := hS.ext (EX.new (.inl 9))
  refine wp_dup dX7_factor_110 ?_
  refine wp_iload_n dX7_factor_111 rfl ?_
  obtain ⟨d112, mc112, ms112, ⟨hdd, hmc, hms⟩, h⟩ := h
  refine wx_I1 lk7_85 dX7_factor_112 h (rmQ_ok hdd (by decide)) ⟨hmc, hms⟩ (Nat.le_of_ble_eq_true rfl) (fun n112 K112 Rf112 V112 h => ?_)
  replace hca := hmc
  replace hsa := hms
  obtain ⟨⟨hC, hS⟩, h⟩ := h
  refine wp_widen hca hsa ?_
  exact wp_aret dX7_factor_115 (Or.inl ⟨_, rfl⟩) ⟨_, rfl, h⟩
theorem n7_factor {l : Launch} {G : gT} {d mc ms n : Nat} {K : kT} {Rf : rT} {V : vT} {Q : Option Nat → Nat → kT → rT → vT → Prop} {o : Nat} (h : w7_factor l G d mc ms Q 0 [some (vr o), none, none] [] n K Rf V 0 0) : c7_factor l G d mc ms n K Rf o V Q := MOk.enter [some (vr o), none, none] pn_X7 rfl rfl (Nat.le_of_ble_eq_true rfl) rfl h
theorem b7_condition_0 {l : Launch} {G : gT} {d mc ms n ca sa : Nat} {K : kT} {Rf : rT} {V : vT} {Q : Option Nat → Nat → kT → rT → vT → Prop} {tl : Nat} {o : Nat} (hd : 30 ≤ d) (hca : ca ≤ mc) (hsa : sa ≤ ms) (hC : CM (l, G, n, K, Rf) tl) (hS : RD (l, G, n, K, Rf) o) (h : c7_opens (l, G, n, K, Rf) o V (fun V1 => c7_isGood (l, G, n, K, Rf) o V1 (fun r5 V5 => (r5 = 0 → w7_condition l G d mc ms Q 30 [some (vr o), some (.inr none), some (.inr none)] [] n K Rf V5 ca sa) ∧ (¬ r5 = 0 → (ca + 1 ≤ mc ∧ sa + 3 ≤ ms) ∧ (∃ d16 mc16 ms16 : Nat, (d16 < d ∧ (ca + 1) + mc16 ≤ mc ∧ (sa + 3) + ms16 ≤ ms) ∧ c7_pieces l G d16 mc16 ms16 (n + 1) (upK K n (.inl 10)) Rf o  V5 (fun r16 n16 K16 Rf16 V16 => (CM (l, G, n16, K16, Rf16) tl ∧ RD (l, G, n16, K16, Rf16) o) ∧ (∃ d20 mc20 ms20 : Nat, (d20 < d ∧ ((ca + 1) + mc16) + mc20 ≤ mc ∧ ((sa + 3) + ms16) + ms20 ≤ ms) ∧ c13_init l G d20 mc20 ms20 n16 K16 Rf16 n r16 1 V16 (fun n20 K20 Rf20 V20 => (CM (l, G, n20, K20, Rf20) tl ∧ RD (l, G, n20, K20, Rf20) o) ∧ (w7_condition l G d mc ms Q 30 [some (vr o), some (vr n), some (vr n)] [] n20 K20 Rf20 V20 (((ca + 1) + mc16) + mc20) (((sa + 3) + ms16) + ms20)))))))))) : w7_condition l G d mc ms Q 0 [some (vr o), none, none] [] n K Rf V ca sa := by
  refine wp_aload_n dX7_condition_0 rfl ?_
  refine wq_VV0 lk7_57 rfl (RD.b0 hS) (RD.k0 hS) dX7_condition_1 h (rmQ_ok (Nat.lt_of_lt_of_le (by decide) hd) (by decide)) ⟨hca, hsa⟩ (Nat.le_of_ble_eq_true rfl) (fun V1 h => ?_)
  refine wp_aload_n dX7_condition_4 rfl ?_
  refine wq_VI0 lk7_43 rfl (RD.b0 hS) (RD.k0 hS) dX7_condition_5 h (rmQ_ok (Nat.lt_of_lt_of_le (by decide) hd) (by decide)) ⟨hca, hsa⟩ (Nat.le_of_ble_eq_true rfl) (fun r5 V5 h => ?_)
  refine wp_if_eq 26 dX7_condition_8 (by decide) (fun hc => ?_) (fun hc => ?_)
  · replace h := h.1 hc
    refine wp_null dX7_condition_26 ?_
    refine wa3_1 dX7_condition_27 ?_
    refine wp_aload_n dX7_condition_28 rfl ?_
    refine wa3_2 dX7_condition_29 ?_
    exact h
  · replace h := h.2 hc
    refine wp_new dX7_condition_11 fn7_118 h.1.1 h.1.2 ?_
    replace hca := h.1.1
    replace hsa := h.1.2
    replace h := h.2
    replace hC := hC.ext (EX.new (.inl 10))
    replace hS := hS.ext (EX.new (.inl 10))
    refine wp_dup dX7_condition_14 ?_
    refine wp_aload_n dX7_condition_15 rfl ?_
    obtain ⟨d16, mc16, ms16, ⟨hdd, hmc, hms⟩, h⟩ := h
    refine wx_VR0 lk7_126 rfl (RD.b0 hS) (RD.k0 hS) dX7_condition_16 h (rmQ_ok hdd (by decide)) ⟨hmc, hms⟩ (Nat.le_of_ble_eq_true rfl) (fun r16 n16 K16 Rf16 V16 h => ?_)
    replace hca := hmc
    replace hsa := hms
    obtain ⟨⟨hC, hS⟩, h⟩ := h
    refine wp_iconst (v := 1) dX7_condition_19 rfl ?_
    obtain ⟨d20, mc20, ms20, ⟨hdd, hmc, hms⟩, h⟩ := h
    refine wx_I2 lk7_120 dX7_condition_20 h (rmQ_ok hdd (by decide)) ⟨hmc, hms⟩ (Nat.le_of_ble_eq_true rfl) (fun n20 K20 Rf20 V20 h => ?_)
    replace hca := hmc
    replace hsa := hms
    obtain ⟨⟨hC, hS⟩, h⟩ := h
    refine wp_goto 27 dX7_condition_23 (by decide) ?_
    refine wa3_1 dX7_condition_27 ?_
    refine wp_aload_n dX7_condition_28 rfl ?_
    refine wa3_2 dX7_condition_29 ?_
    exact h
theorem b7_condition_30 {l : Launch} {G : gT} {d mc ms n ca sa : Nat} {K : kT} {Rf : rT} {V : vT} {Q : Option Nat → Nat → kT → rT → vT → Prop} {tl : Nat} {o : Nat} {q1 q2 : Option Nat} (hd : 30 ≤ d) (hca : ca ≤ mc) (hsa : sa ≤ ms) (hC : CM (l, G, n, K, Rf) tl) (hS : RD (l, G, n, K, Rf) o) (h : c7_isGood (l, G, n, K, Rf) o V (fun r31 V31 => (r31 = 0 → c7_isGood (l, G, n, K, Rf) o V31 (fun r81 V81 => (r81 = 0 → Q q1 n K Rf (up2 V81 o 3 ((V81 o 3) - 1))) ∧ (¬ r81 = 0 → c7_must (l, G, n, K, Rf) o 41 V81 (fun V90 => Q q1 n K Rf (up2 V90 o 3 ((V90 o 3) - 1)))))) ∧ (¬ r31 = 0 → c7_here (l, G, n, K, Rf) o V31 (fun r38 V38 => (¬ r38 = 124 → c7_isGood (l, G, n, K, Rf) o V38 (fun r81' V81' => (r81' = 0 → Q q1 n K Rf (up2 V81' o 3 ((V81' o 3) - 1))) ∧ (¬ r81' = 0 → c7_must (l, G, n, K, Rf) o 41 V81' (fun V90' => Q q1 n K Rf (up2 V90' o 3 ((V90' o 3) - 1)))))) ∧ (r38 = 124 → (ca + 1 ≤ mc ∧ sa + 3 ≤ ms) ∧ (∃ d62 mc62 ms62 : Nat, (d62 < d ∧ (ca + 1) + mc62 ≤ mc ∧ (sa + 3) + ms62 ≤ ms) ∧ c7_pieces l G d62 mc62 ms62 (n + 1) (upK K n (.inl 10)) Rf o  (up2 V38 o 2 ((V38 o 2) + 1)) (fun r62 n62 K62 Rf62 V62 => (CM (l, G, n62, K62, Rf62) tl ∧ RD (l, G, n62, K62, Rf62) o) ∧ (∃ d66 mc66 ms66 : Nat, (d66 < d ∧ ((ca + 1) + mc62) + mc66 ≤ mc ∧ ((sa + 3) + ms62) + ms66 ≤ ms) ∧ c13_init l G d66 mc66 ms66 n62 K62 Rf62 n r62 1 V62 (fun n66 K66 Rf66 V66 => (CM (l, G, n66, K66, Rf66) tl ∧ RD (l, G, n66, K66, Rf66) o) ∧ (∃ a69, q2 = some a69 ∧ ((16 ≤ a69 ∧ a69 < (l, G, n66, K66, Rf66).2.2.1) ∧ (l, G, n66, K66, Rf66).2.2.2.1 a69 = .inl 10) ∧ ((CM (l, G, n66, K66, (up2 Rf66 a69 2 (some n))) tl ∧ RD (l, G, n66, K66, (up2 Rf66 a69 2 (some n))) o) ∧ (((16 ≤ a69 ∧ a69 < (l, G, n66, K66, (up2 Rf66 a69 2 (some n))).2.2.1) ∧ (l, G, n66, K66, (up2 Rf66 a69 2 (some n))).2.2.2.1 a69 = .inl 10) ∧ (w7_condition l G d mc ms Q 30 [some (vr o), some (.inr q1), some (.inr ((up2 Rf66 a69 2 (some n)) a69 2))] [] n66 K66 (up2 Rf66 a69 2 (some n)) V66 (((ca + 1) + mc62) + mc66) (((sa + 3) + ms62) + ms66)))))))))))))) : w7_condition l G d mc ms Q 30 [some (vr o), some (.inr q1), some (.inr q2)] [] n K Rf V ca sa := by
  refine wp_aload_n dX7_condition_30 rfl ?_
  refine wq_VI0 lk7_43 rfl (RD.b0 hS) (RD.k0 hS) dX7_condition_31 h (rmQ_ok (Nat.lt_of_lt_of_le (by decide) hd) (by decide)) ⟨hca, hsa⟩ (Nat.le_of_ble_eq_true rfl) (fun r31 V31 h => ?_)
  refine wp_if_eq 80 dX7_condition_34 (by decide) (fun hc => ?_) (fun hc => ?_)
  · replace h := h.1 hc
    refine wp_aload_n dX7_condition_80 rfl ?_
    refine wq_VI0 lk7_43 rfl (RD.b0 hS) (RD.k0 hS) dX7_condition_81 h (rmQ_ok (Nat.lt_of_lt_of_le (by decide) hd) (by decide)) ⟨hca, hsa⟩ (Nat.le_of_ble_eq_true rfl) (fun r81 V81 h => ?_)
    refine wp_if_eq 93 dX7_condition_84 (by decide) (fun hc => ?_) (fun hc => ?_)
    · replace h := h.1 hc
      refine wp_aload_n dX7_condition_93 rfl ?_
      refine wp_dup dX7_condition_94 ?_
      refine wp_geti dX7_condition_95 fk7_54_6 (RD.b0 hS) (RD.k0 hS) rfl ?_
      refine wp_iconst (v := 1) dX7_condition_98 rfl ?_
      refine wp_isub dX7_condition_99 ?_
      refine wp_puti dX7_condition_100 fp7_54_6 (RD.b0 hS) (RD.k0 hS) rfl ?_
      refine wp_aload_n dX7_condition_103 rfl ?_
      refine wp_widen hca hsa ?_
      exact wp_aret dX7_condition_104 (Or.inl ⟨_, rfl⟩) ⟨_, rfl, h⟩
    · replace h := h.2 hc
      refine wp_aload_n dX7_condition_87 rfl ?_
      refine wp_bipush (v := 41) dX7_condition_88 rfl ?_
      refine wq_VV1 lk7_64 rfl (RD.b0 hS) (RD.k0 hS) dX7_condition_90 h (rmQ_ok (Nat.lt_of_lt_of_le (by decide) hd) (by decide)) ⟨hca, hsa⟩ (Nat.le_of_ble_eq_true rfl) (fun V90 h => ?_)
      refine wp_aload_n dX7_condition_93 rfl ?_
      refine wp_dup dX7_condition_94 ?_
      refine wp_geti dX7_condition_95 fk7_54_6 (RD.b0 hS) (RD.k0 hS) rfl ?_
      refine wp_iconst (v := 1) dX7_condition_98 rfl ?_
      refine wp_isub dX7_condition_99 ?_
      refine wp_puti dX7_condition_100 fp7_54_6 (RD.b0 hS) (RD.k0 hS) rfl ?_
      refine wp_aload_n dX7_condition_103 rfl ?_
      refine wp_widen hca hsa ?_
      exact wp_aret dX7_condition_104 (Or.inl ⟨_, rfl⟩) ⟨_, rfl, h⟩
  · replace h := h.2 hc
    refine wp_aload_n dX7_condition_37 rfl ?_
    refine wq_VI0 lk7_39 rfl (RD.b0 hS) (RD.k0 hS) dX7_condition_38 h (rmQ_ok (Nat.lt_of_lt_of_le (by decide) hd) (by decide)) ⟨hca, hsa⟩ (Nat.le_of_ble_eq_true rfl) (fun r38 V38 h => ?_)
    refine wp_bipush (v := 124) dX7_condition_41 rfl ?_
    refine wp_icmp_ne 80 dX7_condition_43 (by decide) (fun hc => ?_) (fun hc => ?_)
    · replace h := h.1 hc
      refine wp_aload_n dX7_condition_80 rfl ?_
      refine wq_VI0 lk7_43 rfl (RD.b0 hS) (RD.k0 hS) dX7_condition_81 h (rmQ_ok (Nat.lt_of_lt_of_le (by decide) hd) (by decide)) ⟨hca, hsa⟩ (Nat.le_of_ble_eq_true rfl) (fun r81' V81' h => ?_)
      refine wp_if_eq 93 dX7_condition_84 (by decide) (fun hc => ?_) (fun hc => ?_)
      · replace h := h.1 hc
        refine wp_aload_n dX7_condition_93 rfl ?_
        refine wp_dup dX7_condition_94 ?_
        refine wp_geti dX7_condition_95 fk7_54_6 (RD.b0 hS) (RD.k0 hS) rfl ?_
        refine wp_iconst (v := 1) dX7_condition_98 rfl ?_
        refine wp_isub dX7_condition_99 ?_
        refine wp_puti dX7_condition_100 fp7_54_6 (RD.b0 hS) (RD.k0 hS) rfl ?_
        refine wp_aload_n dX7_condition_103 rfl ?_
        refine wp_widen hca hsa ?_
        exact wp_aret dX7_condition_104 (Or.inl ⟨_, rfl⟩) ⟨_, rfl, h⟩
      · replace h := h.2 hc
        refine wp_aload_n dX7_condition_87 rfl ?_
        refine wp_bipush (v := 41) dX7_condition_88 rfl ?_
        refine wq_VV1 lk7_64 rfl (RD.b0 hS) (RD.k0 hS) dX7_condition_90 h (rmQ_ok (Nat.lt_of_lt_of_le (by decide) hd) (by decide)) ⟨hca, hsa⟩ (Nat.le_of_ble_eq_true rfl) (fun V90' h => ?_)
        refine wp_aload_n dX7_condition_93 rfl ?_
        refine wp_dup dX7_condition_94 ?_
        refine wp_geti dX7_condition_95 fk7_54_6 (RD.b0 hS) (RD.k0 hS) rfl ?_
        refine wp_iconst (v := 1) dX7_condition_98 rfl ?_
        refine wp_isub dX7_condition_99 ?_
        refine wp_puti dX7_condition_100 fp7_54_6 (RD.b0 hS) (RD.k0 hS) rfl ?_
        refine wp_aload_n dX7_condition_103 rfl ?_
        refine wp_widen hca hsa ?_
        exact wp_aret dX7_condition_104 (Or.inl ⟨_, rfl⟩) ⟨_, rfl, h⟩
    · replace h := h.2 hc
      refine wp_aload_n dX7_condition_46 rfl ?_
      refine wp_dup dX7_condition_47 ?_
      refine wp_geti dX7_condition_48 fk7_26_6 (RD.b0 hS) (RD.k0 hS) rfl ?_
      refine wp_iconst (v := 1) dX7_condition_51 rfl ?_
      refine wp_iadd dX7_condition_52 ?_
      refine wp_puti dX7_condition_53 fp7_26_6 (RD.b0 hS) (RD.k0 hS) rfl ?_
      refine wp_aload_n dX7_condition_56 rfl ?_
      refine wp_new dX7_condition_57 fn7_118 h.1.1 h.1.2 ?_
      replace hca := h.1.1
      replace hsa := h.1.2
      replace h := h.2
      replace hC := hC.ext (EX.new (.inl 10))
      replace hS := hS.ext (EX.new (.inl 10))
      refine wp_dup dX7_condition_60 ?_
      refine wp_aload_n dX7_condition_61 rfl ?_
      obtain ⟨d62, mc62, ms62, ⟨hdd, hmc, hms⟩, h⟩ := h
      refine wx_VR0 lk7_126 rfl (RD.b0 hS) (RD.k0 hS) dX7_condition_62 h (rmQ_ok hdd (by decide)) ⟨hmc, hms⟩ (Nat.le_of_ble_eq_true rfl) (fun r62 n62 K62 Rf62 V62 h => ?_)
      replace hca := hmc
      replace hsa := hms
      obtain ⟨⟨hC, hS⟩, h⟩ := h
      refine wp_iconst (v := 1) dX7_condition_65 rfl ?_
      obtain ⟨d66, mc66, ms66, ⟨hdd, hmc, hms⟩, h⟩ := h
      refine wx_I2 lk7_120 dX7_condition_66 h (rmQ_ok hdd (by decide)) ⟨hmc, hms⟩ (Nat.le_of_ble_eq_true rfl) (fun n66 K66 Rf66 V66 h => ?_)
      replace hca := hmc
      replace hsa := hms
      obtain ⟨⟨hC, hS⟩, h⟩ := h
      obtain ⟨a69, hqa69, ⟨hba69, hka69⟩, h⟩ := h
      rw [hqa69]
      refine wp_putr (r := (some n)) dX7_condition_69 fp7_123_10 hba69 hka69 rfl ?_
      obtain ⟨⟨hC, hS⟩, h⟩ := h
      refine wp_aload_n dX7_condition_72 rfl ?_
      obtain ⟨⟨hba69, hka69⟩, h⟩ := h
      refine wp_getr dX7_condition_73 fk7_123_10 hba69 hka69 rfl ?_
      refine wa3_2 dX7_condition_76 ?_
      refine wp_goto 30 dX7_condition_77 (by decide) ?_
      exact h
theorem n7_condition {l : Launch} {G : gT} {d mc ms n : Nat} {K : kT} {Rf : rT} {V : vT} {Q : Option Nat → Nat → kT → rT → vT → Prop} {o : Nat} (h : w7_condition l G d mc ms Q 0 [some (vr o), none, none] [] n K Rf V 0 0) : c7_condition l G d mc ms n K Rf o V Q := MOk.enter [some (vr o), none, none] pn_X7 rfl rfl (Nat.le_of_ble_eq_true rfl) rfl h
theorem b7_pieces_0 {l : Launch} {G : gT} {d mc ms n ca sa : Nat} {K : kT} {Rf : rT} {V : vT} {Q : Option Nat → Nat → kT → rT → vT → Prop} {tl : Nat} {o : Nat} (hd : 30 ≤ d) (hca : ca ≤ mc) (hsa : sa ≤ ms) (hC : CM (l, G, n, K, Rf) tl) (hS : RD (l, G, n, K, Rf) o) (h : (ca + 1 ≤ mc ∧ sa + 3 ≤ ms) ∧ (∃ d5 mc5 ms5 : Nat, (d5 < d ∧ (ca + 1) + mc5 ≤ mc ∧ (sa + 3) + ms5 ≤ ms) ∧ c7_piece l G d5 mc5 ms5 (n + 1) (upK K n (.inl 10)) Rf o  V (fun r5 n5 K5 Rf5 V5 => (CM (l, G, n5, K5, Rf5) tl ∧ RD (l, G, n5, K5, Rf5) o) ∧ (∃ d9 mc9 ms9 : Nat, (d9 < d ∧ ((ca + 1) + mc5) + mc9 ≤ mc ∧ ((sa + 3) + ms5) + ms9 ≤ ms) ∧ c13_init l G d9 mc9 ms9 n5 K5 Rf5 n r5 0 V5 (fun n9 K9 Rf9 V9 => (CM (l, G, n9, K9, Rf9) tl ∧ RD (l, G, n9, K9, Rf9) o) ∧ (w7_pieces l G d mc ms Q 15 [some (vr o), some (vr n), some (vr n)] [] n9 K9 Rf9 V9 (((ca + 1) + mc5) + mc9) (((sa + 3) + ms5) + ms9))))))) : w7_pieces l G d mc ms Q 0 [some (vr o), none, none] [] n K Rf V ca sa := by
  refine wp_new dX7_pieces_0 fn7_118 h.1.1 h.1.2 ?_
  replace hca := h.1.1
  replace hsa := h.1.2
  replace h := h.2
  replace hC := hC.ext (EX.new (.inl 10))
  replace hS := hS.ext (EX.new (.inl 10))
  refine wp_dup dX7_pieces_3 ?_
  refine wp_aload_n dX7_pieces_4 rfl ?_
  obtain ⟨d5, mc5, ms5, ⟨hdd, hmc, hms⟩, h⟩ := h
  refine wx_VR0 lk7_101 rfl (RD.b0 hS) (RD.k0 hS) dX7_pieces_5 h (rmQ_ok hdd (by decide)) ⟨hmc, hms⟩ (Nat.le_of_ble_eq_true rfl) (fun r5 n5 K5 Rf5 V5 h => ?_)
  replace hca := hmc
  replace hsa := hms
  obtain ⟨⟨hC, hS⟩, h⟩ := h
  refine wp_iconst (v := 0) dX7_pieces_8 rfl ?_
  obtain ⟨d9, mc9, ms9, ⟨hdd, hmc, hms⟩, h⟩ := h
  refine wx_I2 lk7_120 dX7_pieces_9 h (rmQ_ok hdd (by decide)) ⟨hmc, hms⟩ (Nat.le_of_ble_eq_true rfl) (fun n9 K9 Rf9 V9 h => ?_)
  replace hca := hmc
  replace hsa := hms
  obtain ⟨⟨hC, hS⟩, h⟩ := h
  refine wa3_1 dX7_pieces_12 ?_
  refine wp_aload_n dX7_pieces_13 rfl ?_
  refine wa3_2 dX7_pieces_14 ?_
  exact h
theorem b7_pieces_15 {l : Launch} {G : gT} {d mc ms n ca sa : Nat} {K : kT} {Rf : rT} {V : vT} {Q : Option Nat → Nat → kT → rT → vT → Prop} {tl : Nat} {o : Nat} {q2 : Option Nat} {a1 : Nat} (hd : 30 ≤ d) (hca : ca ≤ mc) (hsa : sa ≤ ms) (hC : CM (l, G, n, K, Rf) tl) (hS : RD (l, G, n, K, Rf) o) (h : c7_isGood (l, G, n, K, Rf) o V (fun r16 V16 => (r16 = 0 → Q (some a1) n K Rf V16) ∧ (¬ r16 = 0 → c7_here (l, G, n, K, Rf) o V16 (fun r23 V23 => (¬ r23 = 38 → Q (some a1) n K Rf V23) ∧ (r23 = 38 → (ca + 1 ≤ mc ∧ sa + 3 ≤ ms) ∧ (∃ d47 mc47 ms47 : Nat, (d47 < d ∧ (ca + 1) + mc47 ≤ mc ∧ (sa + 3) + ms47 ≤ ms) ∧ c7_piece l G d47 mc47 ms47 (n + 1) (upK K n (.inl 10)) Rf o  (up2 V23 o 2 ((V23 o 2) + 1)) (fun r47 n47 K47 Rf47 V47 => (CM (l, G, n47, K47, Rf47) tl ∧ RD (l, G, n47, K47, Rf47) o) ∧ (∃ d51 mc51 ms51 : Nat, (d51 < d ∧ ((ca + 1) + mc47) + mc51 ≤ mc ∧ ((sa + 3) + ms47) + ms51 ≤ ms) ∧ c13_init l G d51 mc51 ms51 n47 K47 Rf47 n r47 0 V47 (fun n51 K51 Rf51 V51 => (CM (l, G, n51, K51, Rf51) tl ∧ RD (l, G, n51, K51, Rf51) o) ∧ (∃ a54, q2 = some a54 ∧ ((16 ≤ a54 ∧ a54 < (l, G, n51, K51, Rf51).2.2.1) ∧ (l, G, n51, K51, Rf51).2.2.2.1 a54 = .inl 10) ∧ ((CM (l, G, n51, K51, (up2 Rf51 a54 2 (some n))) tl ∧ RD (l, G, n51, K51, (up2 Rf51 a54 2 (some n))) o) ∧ (((16 ≤ a54 ∧ a54 < (l, G, n51, K51, (up2 Rf51 a54 2 (some n))).2.2.1) ∧ (l, G, n51, K51, (up2 Rf51 a54 2 (some n))).2.2.2.1 a54 = .inl 10) ∧ (w7_pieces l G d mc ms Q 15 [some (vr o), some (vr a1), some (.inr ((up2 Rf51 a54 2 (some n)) a54 2))] [] n51 K51 (up2 Rf51 a54 2 (some n)) V51 (((ca + 1) + mc47) + mc51) (((sa + 3) + ms47) + ms51)))))))))))))) : w7_pieces l G d mc ms Q 15 [some (vr o), some (vr a1), some (.inr q2)] [] n K Rf V ca sa := by
  refine wp_aload_n dX7_pieces_15 rfl ?_
  refine wq_VI0 lk7_43 rfl (RD.b0 hS) (RD.k0 hS) dX7_pieces_16 h (rmQ_ok (Nat.lt_of_lt_of_le (by decide) hd) (by decide)) ⟨hca, hsa⟩ (Nat.le_of_ble_eq_true rfl) (fun r16 V16 h => ?_)
  refine wp_if_eq 65 dX7_pieces_19 (by decide) (fun hc => ?_) (fun hc => ?_)
  · replace h := h.1 hc
    refine wp_aload_n dX7_pieces_65 rfl ?_
    refine wp_widen hca hsa ?_
    exact wp_aret dX7_pieces_66 (Or.inl ⟨_, rfl⟩) ⟨_, rfl, h⟩
  · replace h := h.2 hc
    refine wp_aload_n dX7_pieces_22 rfl ?_
    refine wq_VI0 lk7_39 rfl (RD.b0 hS) (RD.k0 hS) dX7_pieces_23 h (rmQ_ok (Nat.lt_of_lt_of_le (by decide) hd) (by decide)) ⟨hca, hsa⟩ (Nat.le_of_ble_eq_true rfl) (fun r23 V23 h => ?_)
    refine wp_bipush (v := 38) dX7_pieces_26 rfl ?_
    refine wp_icmp_ne 65 dX7_pieces_28 (by decide) (fun hc => ?_) (fun hc => ?_)
    · replace h := h.1 hc
      refine wp_aload_n dX7_pieces_65 rfl ?_
      refine wp_widen hca hsa ?_
      exact wp_aret dX7_pieces_66 (Or.inl ⟨_, rfl⟩) ⟨_, rfl, h⟩
    · replace h := h.2 hc
      refine wp_aload_n dX7_pieces_31 rfl ?_
      refine wp_dup dX7_pieces_32 ?_
      refine wp_geti dX7_pieces_33 fk7_26_6 (RD.b0 hS) (RD.k0 hS) rfl ?_
      refine wp_iconst (v := 1) dX7_pieces_36 rfl ?_
      refine wp_iadd dX7_pieces_37 ?_
      refine wp_puti dX7_pieces_38 fp7_26_6 (RD.b0 hS) (RD.k0 hS) rfl ?_
      refine wp_aload_n dX7_pieces_41 rfl ?_
      refine wp_new dX7_pieces_42 fn7_118 h.1.1 h.1.2 ?_
      replace hca := h.1.1
      replace hsa := h.1.2
      replace h := h.2
      replace hC := hC.ext (EX.new (.inl 10))
      replace hS := hS.ext (EX.new (.inl 10))
      refine wp_dup dX7_pieces_45 ?_
      refine wp_aload_n dX7_pieces_46 rfl ?_
      obtain ⟨d47, mc47, ms47, ⟨hdd, hmc, hms⟩, h⟩ := h
      refine wx_VR0 lk7_101 rfl (RD.b0 hS) (RD.k0 hS) dX7_pieces_47 h (rmQ_ok hdd (by decide)) ⟨hmc, hms⟩ (Nat.le_of_ble_eq_true rfl) (fun r47 n47 K47 Rf47 V47 h => ?_)
      replace hca := hmc
      replace hsa := hms
      obtain ⟨⟨hC, hS⟩, h⟩ := h
      refine wp_iconst (v := 0) dX7_pieces_50 rfl ?_
      obtain ⟨d51, mc51, ms51, ⟨hdd, hmc, hms⟩, h⟩ := h
      refine wx_I2 lk7_120 dX7_pieces_51 h (rmQ_ok hdd (by decide)) ⟨hmc, hms⟩ (Nat.le_of_ble_eq_true rfl) (fun n51 K51 Rf51 V51 h => ?_)
      replace hca := hmc
      replace hsa := hms
      obtain ⟨⟨hC, hS⟩, h⟩ := h
      obtain ⟨a54, hqa54, ⟨hba54, hka54⟩, h⟩ := h
      rw [hqa54]
      refine wp_putr (r := (some n)) dX7_pieces_54 fp7_123_10 hba54 hka54 rfl ?_
      obtain ⟨⟨hC, hS⟩, h⟩ := h
      refine wp_aload_n dX7_pieces_57 rfl ?_
      obtain ⟨⟨hba54, hka54⟩, h⟩ := h
      refine wp_getr dX7_pieces_58 fk7_123_10 hba54 hka54 rfl ?_
      refine wa3_2 dX7_pieces_61 ?_
      refine wp_goto 15 dX7_pieces_62 (by decide) ?_
      exact h
theorem n7_pieces {l : Launch} {G : gT} {d mc ms n : Nat} {K : kT} {Rf : rT} {V : vT} {Q : Option Nat → Nat → kT → rT → vT → Prop} {o : Nat} (h : w7_pieces l G d mc ms Q 0 [some (vr o), none, none] [] n K Rf V 0 0) : c7_pieces l G d mc ms n K Rf o V Q := MOk.enter [some (vr o), none, none] pn_X7 rfl rfl (Nat.le_of_ble_eq_true rfl) rfl h
theorem b7_piece_0 {l : Launch} {G : gT} {d mc ms n ca sa : Nat} {K : kT} {Rf : rT} {V : vT} {Q : Option Nat → Nat → kT → rT → vT → Prop} {tl : Nat} {o : Nat} (hd : 30 ≤ d) (hca : ca ≤ mc) (hsa : sa ≤ ms) (hC : CM (l, G, n, K, Rf) tl) (hS : RD (l, G, n, K, Rf) o) (h : c7_here (l, G, n, K, Rf) o V (fun r1 V1 => (¬ r1 = 33 → (¬ r1 = 40 → ∃ d62 mc62 ms62 : Nat, (d62 < d ∧ ca + mc62 ≤ mc ∧ sa + ms62 ≤ ms) ∧ c7_sum l G d62 mc62 ms62 n K Rf o  V1 (fun r62 n62 K62 Rf62 V62 => (CM (l, G, n62, K62, Rf62) tl ∧ RD (l, G, n62, K62, Rf62) o) ∧ (c7_here (l, G, n62, K62, Rf62) o V62 (fun r67 V67 => (r67 = 60 → w7_piece l G d mc ms Q 98 [some (vr o), none, some (.inr r62), some (vi r67)] [] n62 K62 Rf62 V67 (ca + mc62) (sa + ms62)) ∧ (¬ r67 = 60 → (r67 = 62 → w7_piece l G d mc ms Q 98 [some (vr o), none, some (.inr r62), some (vi r67)] [] n62 K62 Rf62 V67 (ca + mc62) (sa + ms62)) ∧ (¬ r67 = 62 → (r67 = 61 → w7_piece l G d mc ms Q 98 [some (vr o), none, some (.inr r62), some (vi r67)] [] n62 K62 Rf62 V67 (ca + mc62) (sa + ms62)) ∧ (¬ r67 = 61 → c7_bad (l, G, n62, K62, Rf62) o 1 (V67 o 2) V67 (fun V95 => w7_piece l G d mc ms Q 98 [some (vr o), none, some (.inr r62), some (vi r67)] [] n62 K62 Rf62 V95 (ca + mc62) (sa + ms62))))))))) ∧ (r1 = 40 → ∃ d57 mc57 ms57 : Nat, (d57 < d ∧ ca + mc57 ≤ mc ∧ sa + ms57 ≤ ms) ∧ c7_condition l G d57 mc57 ms57 n K Rf o  V1 (fun r57 n57 K57 Rf57 V57 => (CM (l, G, n57, K57, Rf57) tl ∧ RD (l, G, n57, K57, Rf57) o) ∧ (Q r57 n57 K57 Rf57 V57)))) ∧ (r1 = 33 → c7_opens (l, G, n, K, Rf) o V1 (fun V12 => c7_isGood (l, G, n, K, Rf) o V12 (fun r16 V16 => (r16 = 0 → (ca + 1 ≤ mc ∧ sa + 1 ≤ ms) ∧ (∃ d46 mc46 ms46 : Nat, (d46 < d ∧ (ca + 1) + mc46 ≤ mc ∧ (sa + 1) + ms46 ≤ ms) ∧ c14_init l G d46 mc46 ms46 (n + 1) (upK K n (.inl 11)) Rf n none (up2 V16 o 3 ((V16 o 3) - 1)) (fun n46 K46 Rf46 V46 => (CM (l, G, n46, K46, Rf46) tl ∧ RD (l, G, n46, K46, Rf46) o) ∧ (Q (some n) n46 K46 Rf46 V46)))) ∧ (¬ r16 = 0 → ∃ d23 mc23 ms23 : Nat, (d23 < d ∧ ca + mc23 ≤ mc ∧ sa + ms23 ≤ ms) ∧ c7_piece l G d23 mc23 ms23 n K Rf o  V16 (fun r23 n23 K23 Rf23 V23 => (CM (l, G, n23, K23, Rf23) tl ∧ RD (l, G, n23, K23, Rf23) o) ∧ (((ca + mc23) + 1 ≤ mc ∧ (sa + ms23) + 1 ≤ ms) ∧ (∃ d46' mc46' ms46' : Nat, (d46' < d ∧ ((ca + mc23) + 1) + mc46' ≤ mc ∧ ((sa + ms23) + 1) + ms46' ≤ ms) ∧ c14_init l G d46' mc46' ms46' (n23 + 1) (upK K23 n23 (.inl 11)) Rf23 n23 r23 (up2 V23 o 3 ((V23 o 3) - 1)) (fun n46' K46' Rf46' V46' => (CM (l, G, n46', K46', Rf46') tl ∧ RD (l, G, n46', K46', Rf46') o) ∧ (Q (some n23) n46' K46' Rf46' V46'))))))))))) : w7_piece l G d mc ms Q 0 [some (vr o), none, none, none] [] n K Rf V ca sa := by
  refine wp_aload_n dX7_piece_0 rfl ?_
  refine wq_VI0 lk7_39 rfl (RD.b0 hS) (RD.k0 hS) dX7_piece_1 h (rmQ_ok (Nat.lt_of_lt_of_le (by decide) hd) (by decide)) ⟨hca, hsa⟩ (Nat.le_of_ble_eq_true rfl) (fun r1 V1 h => ?_)
  refine wi4_1 dX7_piece_4 ?_
  refine wp_iload_n dX7_piece_5 rfl ?_
  refine wp_bipush (v := 33) dX7_piece_6 rfl ?_
  refine wp_icmp_ne 50 dX7_piece_8 (by decide) (fun hc => ?_) (fun hc => ?_)
  · replace h := h.1 hc
    refine wp_iload_n dX7_piece_50 rfl ?_
    refine wp_bipush (v := 40) dX7_piece_51 rfl ?_
    refine wp_icmp_ne 61 dX7_piece_53 (by decide) (fun hc => ?_) (fun hc => ?_)
    · replace h := h.1 hc
      refine wp_aload_n dX7_piece_61 rfl ?_
      obtain ⟨d62, mc62, ms62, ⟨hdd, hmc, hms⟩, h⟩ := h
      refine wx_VR0 lk7_60 rfl (RD.b0 hS) (RD.k0 hS) dX7_piece_62 h (rmQ_ok hdd (by decide)) ⟨hmc, hms⟩ (Nat.le_of_ble_eq_true rfl) (fun r62 n62 K62 Rf62 V62 h => ?_)
      replace hca := hmc
      replace hsa := hms
      obtain ⟨⟨hC, hS⟩, h⟩ := h
      refine wa4_2 dX7_piece_65 ?_
      refine wp_aload_n dX7_piece_66 rfl ?_
      refine wq_VI0 lk7_39 rfl (RD.b0 hS) (RD.k0 hS) dX7_piece_67 h (rmQ_ok (Nat.lt_of_lt_of_le (by decide) hd) (by decide)) ⟨hca, hsa⟩ (Nat.le_of_ble_eq_true rfl) (fun r67 V67 h => ?_)
      refine wi4_3 dX7_piece_70 ?_
      refine wp_iload_n dX7_piece_71 rfl ?_
      refine wp_bipush (v := 60) dX7_piece_72 rfl ?_
      refine wp_icmp_eq 98 dX7_piece_74 (by decide) (fun hc => ?_) (fun hc => ?_)
      · replace h := h.1 hc
        exact wp_drop [some (vr o), none, some (.inr r62), some (vi r67)] ⟨rfl, ⟨rfl, ⟨rfl, trivial⟩⟩⟩ h
      · replace h := h.2 hc
        refine wp_iload_n dX7_piece_77 rfl ?_
        refine wp_bipush (v := 62) dX7_piece_78 rfl ?_
        refine wp_icmp_eq 98 dX7_piece_80 (by decide) (fun hc => ?_) (fun hc => ?_)
        · replace h := h.1 hc
          exact wp_drop [some (vr o), none, some (.inr r62), some (vi r67)] ⟨rfl, ⟨rfl, ⟨rfl, trivial⟩⟩⟩ h
        · replace h := h.2 hc
          refine wp_iload_n dX7_piece_83 rfl ?_
          refine wp_bipush (v := 61) dX7_piece_84 rfl ?_
          refine wp_icmp_eq 98 dX7_piece_86 (by decide) (fun hc => ?_) (fun hc => ?_)
          · replace h := h.1 hc
            exact wp_drop [some (vr o), none, some (.inr r62), some (vi r67)] ⟨rfl, ⟨rfl, ⟨rfl, trivial⟩⟩⟩ h
          · replace h := h.2 hc
            refine wp_aload_n dX7_piece_89 rfl ?_
            refine wp_iconst (v := 1) dX7_piece_90 rfl ?_
            refine wp_aload_n dX7_piece_91 rfl ?_
            refine wp_geti dX7_piece_92 fk7_26_6 (RD.b0 hS) (RD.k0 hS) rfl ?_
            refine wq_VV2 lk7_50 rfl (RD.b0 hS) (RD.k0 hS) dX7_piece_95 h (rmQ_ok (Nat.lt_of_lt_of_le (by decide) hd) (by decide)) ⟨hca, hsa⟩ (Nat.le_of_ble_eq_true rfl) (fun V95 h => ?_)
            exact wp_drop [some (vr o), none, some (.inr r62), some (vi r67)] ⟨rfl, ⟨rfl, ⟨rfl, trivial⟩⟩⟩ h
    · replace h := h.2 hc
      refine wp_aload_n dX7_piece_56 rfl ?_
      obtain ⟨d57, mc57, ms57, ⟨hdd, hmc, hms⟩, h⟩ := h
      refine wx_VR0 lk7_110 rfl (RD.b0 hS) (RD.k0 hS) dX7_piece_57 h (rmQ_ok hdd (by decide)) ⟨hmc, hms⟩ (Nat.le_of_ble_eq_true rfl) (fun r57 n57 K57 Rf57 V57 h => ?_)
      replace hca := hmc
      replace hsa := hms
      obtain ⟨⟨hC, hS⟩, h⟩ := h
      refine wp_widen hca hsa ?_
      exact wp_aret dX7_piece_60 (Or.inl ⟨_, rfl⟩) ⟨_, rfl, h⟩
  · replace h := h.2 hc
    refine wp_aload_n dX7_piece_11 rfl ?_
    refine wq_VV0 lk7_57 rfl (RD.b0 hS) (RD.k0 hS) dX7_piece_12 h (rmQ_ok (Nat.lt_of_lt_of_le (by decide) hd) (by decide)) ⟨hca, hsa⟩ (Nat.le_of_ble_eq_true rfl) (fun V12 h => ?_)
    refine wp_aload_n dX7_piece_15 rfl ?_
    refine wq_VI0 lk7_43 rfl (RD.b0 hS) (RD.k0 hS) dX7_piece_16 h (rmQ_ok (Nat.lt_of_lt_of_le (by decide) hd) (by decide)) ⟨hca, hsa⟩ (Nat.le_of_ble_eq_true rfl) (fun r16 V16 h => ?_)
    refine wp_if_eq 29 dX7_piece_19 (by decide) (fun hc => ?_) (fun hc => ?_)
    · replace h := h.1 hc
      refine wp_null dX7_piece_29 ?_
      refine wa4_2 dX7_piece_30 ?_
      refine wp_aload_n dX7_piece_31 rfl ?_
      refine wp_dup dX7_piece_32 ?_
      refine wp_geti dX7_piece_33 fk7_54_6 (RD.b0 hS) (RD.k0 hS) rfl ?_
      refine wp_iconst (v := 1) dX7_piece_36 rfl ?_
      refine wp_isub dX7_piece_37 ?_
      refine wp_puti dX7_piece_38 fp7_54_6 (RD.b0 hS) (RD.k0 hS) rfl ?_
      refine wp_new dX7_piece_41 fn7_105 h.1.1 h.1.2 ?_
      replace hca := h.1.1
      replace hsa := h.1.2
      replace h := h.2
      replace hC := hC.ext (EX.new (.inl 11))
      replace hS := hS.ext (EX.new (.inl 11))
      refine wp_dup dX7_piece_44 ?_
      refine wp_aload_n dX7_piece_45 rfl ?_
      obtain ⟨d46, mc46, ms46, ⟨hdd, hmc, hms⟩, h⟩ := h
      refine wx_I1 lk7_107 dX7_piece_46 h (rmQ_ok hdd (by decide)) ⟨hmc, hms⟩ (Nat.le_of_ble_eq_true rfl) (fun n46 K46 Rf46 V46 h => ?_)
      replace hca := hmc
      replace hsa := hms
      obtain ⟨⟨hC, hS⟩, h⟩ := h
      refine wp_widen hca hsa ?_
      exact wp_aret dX7_piece_49 (Or.inl ⟨_, rfl⟩) ⟨_, rfl, h⟩
    · replace h := h.2 hc
      refine wp_aload_n dX7_piece_22 rfl ?_
      obtain ⟨d23, mc23, ms23, ⟨hdd, hmc, hms⟩, h⟩ := h
      refine wx_VR0 lk7_101 rfl (RD.b0 hS) (RD.k0 hS) dX7_piece_23 h (rmQ_ok hdd (by decide)) ⟨hmc, hms⟩ (Nat.le_of_ble_eq_true rfl) (fun r23 n23 K23 Rf23 V23 h => ?_)
      replace hca := hmc
      replace hsa := hms
      obtain ⟨⟨hC, hS⟩, h⟩ := h
      refine wp_goto 30 dX7_piece_26 (by decide) ?_
      refine wa4_2 dX7_piece_30 ?_
      refine wp_aload_n dX7_piece_31 rfl ?_
      refine wp_dup dX7_piece_32 ?_
      refine wp_geti dX7_piece_33 fk7_54_6 (RD.b0 hS) (RD.k0 hS) rfl ?_
      refine wp_iconst (v := 1) dX7_piece_36 rfl ?_
      refine wp_isub dX7_piece_37 ?_
      refine wp_puti dX7_piece_38 fp7_54_6 (RD.b0 hS) (RD.k0 hS) rfl ?_
      refine wp_new dX7_piece_41 fn7_105 h.1.1 h.1.2 ?_
      replace hca := h.1.1
      replace hsa := h.1.2
      replace h := h.2
      replace hC := hC.ext (EX.new (.inl 11))
      replace hS := hS.ext (EX.new (.inl 11))
      refine wp_dup dX7_piece_44 ?_
      refine wp_aload_n dX7_piece_45 rfl ?_
      obtain ⟨d46', mc46', ms46', ⟨hdd, hmc, hms⟩, h⟩ := h
      refine wx_I1 lk7_107 dX7_piece_46 h (rmQ_ok hdd (by decide)) ⟨hmc, hms⟩ (Nat.le_of_ble_eq_true rfl) (fun n46' K46' Rf46' V46' h => ?_)
      replace hca := hmc
      replace hsa := hms
      obtain ⟨⟨hC, hS⟩, h⟩ := h
      refine wp_widen hca hsa ?_
      exact wp_aret dX7_piece_49 (Or.inl ⟨_, rfl⟩) ⟨_, rfl, h⟩
theorem b7_piece_98 {l : Launch} {G : gT} {d mc ms n ca sa : Nat} {K : kT} {Rf : rT} {V : vT} {Q : Option Nat → Nat → kT → rT → vT → Prop} {tl : Nat} {o : Nat} {x3 : Int32} {q2 : Option Nat} (hd : 30 ≤ d) (hca : ca ≤ mc) (hsa : sa ≤ ms) (hC : CM (l, G, n, K, Rf) tl) (hS : RD (l, G, n, K, Rf) o) (h : (ca + 1 ≤ mc ∧ sa + 3 ≤ ms) ∧ (c7_isGood (l, G, (n + 1), (upK K n (.inl 12)), Rf) o (up2 V o 2 ((V o 2) + 1)) (fun r115 V115 => (r115 = 0 → ∃ d129 mc129 ms129 : Nat, (d129 < d ∧ (ca + 1) + mc129 ≤ mc ∧ (sa + 3) + ms129 ≤ ms) ∧ c15_init l G d129 mc129 ms129 (n + 1) (upK K n (.inl 12)) Rf n q2 x3 none V115 (fun n129 K129 Rf129 V129 => (CM (l, G, n129, K129, Rf129) tl ∧ RD (l, G, n129, K129, Rf129) o) ∧ (Q (some n) n129 K129 Rf129 V129))) ∧ (¬ r115 = 0 → ∃ d122 mc122 ms122 : Nat, (d122 < d ∧ (ca + 1) + mc122 ≤ mc ∧ (sa + 3) + ms122 ≤ ms) ∧ c7_sum l G d122 mc122 ms122 (n + 1) (upK K n (.inl 12)) Rf o  V115 (fun r122 n122 K122 Rf122 V122 => (CM (l, G, n122, K122, Rf122) tl ∧ RD (l, G, n122, K122, Rf122) o) ∧ (∃ d129' mc129' ms129' : Nat, (d129' < d ∧ ((ca + 1) + mc122) + mc129' ≤ mc ∧ ((sa + 3) + ms122) + ms129' ≤ ms) ∧ c15_init l G d129' mc129' ms129' n122 K122 Rf122 n q2 x3 r122 V122 (fun n129' K129' Rf129' V129' => (CM (l, G, n129', K129', Rf129') tl ∧ RD (l, G, n129', K129', Rf129') o) ∧ (Q (some n) n129' K129' Rf129' V129')))))))) : w7_piece l G d mc ms Q 98 [some (vr o), none, some (.inr q2), some (vi x3)] [] n K Rf V ca sa := by
  refine wp_aload_n dX7_piece_98 rfl ?_
  refine wp_dup dX7_piece_99 ?_
  refine wp_geti dX7_piece_100 fk7_26_6 (RD.b0 hS) (RD.k0 hS) rfl ?_
  refine wp_iconst (v := 1) dX7_piece_103 rfl ?_
  refine wp_iadd dX7_piece_104 ?_
  refine wp_puti dX7_piece_105 fp7_26_6 (RD.b0 hS) (RD.k0 hS) rfl ?_
  refine wp_new dX7_piece_108 fn7_113 h.1.1 h.1.2 ?_
  replace hca := h.1.1
  replace hsa := h.1.2
  replace h := h.2
  replace hC := hC.ext (EX.new (.inl 12))
  replace hS := hS.ext (EX.new (.inl 12))
  refine wp_dup dX7_piece_111 ?_
  refine wp_aload_n dX7_piece_112 rfl ?_
  refine wp_iload_n dX7_piece_113 rfl ?_
  refine wp_aload_n dX7_piece_114 rfl ?_
  refine wq_VI0 lk7_43 rfl (RD.b0 hS) (RD.k0 hS) dX7_piece_115 h (rmQ_ok (Nat.lt_of_lt_of_le (by decide) hd) (by decide)) ⟨hca, hsa⟩ (Nat.le_of_ble_eq_true rfl) (fun r115 V115 h => ?_)
  refine wp_if_eq 128 dX7_piece_118 (by decide) (fun hc => ?_) (fun hc => ?_)
  · replace h := h.1 hc
    refine wp_null dX7_piece_128 ?_
    obtain ⟨d129, mc129, ms129, ⟨hdd, hmc, hms⟩, h⟩ := h
    refine wx_I3 lk7_115 dX7_piece_129 h (rmQ_ok hdd (by decide)) ⟨hmc, hms⟩ (Nat.le_of_ble_eq_true rfl) (fun n129 K129 Rf129 V129 h => ?_)
    replace hca := hmc
    replace hsa := hms
    obtain ⟨⟨hC, hS⟩, h⟩ := h
    refine wp_widen hca hsa ?_
    exact wp_aret dX7_piece_132 (Or.inl ⟨_, rfl⟩) ⟨_, rfl, h⟩
  · replace h := h.2 hc
    refine wp_aload_n dX7_piece_121 rfl ?_
    obtain ⟨d122, mc122, ms122, ⟨hdd, hmc, hms⟩, h⟩ := h
    refine wx_VR0 lk7_60 rfl (RD.b0 hS) (RD.k0 hS) dX7_piece_122 h (rmQ_ok hdd (by decide)) ⟨hmc, hms⟩ (Nat.le_of_ble_eq_true rfl) (fun r122 n122 K122 Rf122 V122 h => ?_)
    replace hca := hmc
    replace hsa := hms
    obtain ⟨⟨hC, hS⟩, h⟩ := h
    refine wp_goto 129 dX7_piece_125 (by decide) ?_
    obtain ⟨d129', mc129', ms129', ⟨hdd, hmc, hms⟩, h⟩ := h
    refine wx_I3 lk7_115 dX7_piece_129 h (rmQ_ok hdd (by decide)) ⟨hmc, hms⟩ (Nat.le_of_ble_eq_true rfl) (fun n129' K129' Rf129' V129' h => ?_)
    replace hca := hmc
    replace hsa := hms
    obtain ⟨⟨hC, hS⟩, h⟩ := h
    refine wp_widen hca hsa ?_
    exact wp_aret dX7_piece_132 (Or.inl ⟨_, rfl⟩) ⟨_, rfl, h⟩
theorem n7_piece {l : Launch} {G : gT} {d mc ms n : Nat} {K : kT} {Rf : rT} {V : vT} {Q : Option Nat → Nat → kT → rT → vT → Prop} {o : Nat} (h : w7_piece l G d mc ms Q 0 [some (vr o), none, none, none] [] n K Rf V 0 0) : c7_piece l G d mc ms n K Rf o V Q := MOk.enter [some (vr o), none, none, none] pn_X7 rfl rfl (Nat.le_of_ble_eq_true rfl) rfl h
theorem b7_clause_0 {l : Launch} {G : gT} {d mc ms n ca sa : Nat} {K : kT} {Rf : rT} {V : vT} {Q : Nat → kT → rT → vT → Prop} {tl : Nat} {o : Nat} (hd : 30 ≤ d) (hca : ca ≤ mc) (hsa : sa ≤ ms) (hC : CM (l, G, n, K, Rf) tl) (hS : RD (l, G, n, K, Rf) o) (h : c7_here (l, G, n, K, Rf) o V (fun r1 V1 => (r1 = 0 → w7_clause l G d mc ms Q 18 [some (vr o), some (vi r1), none, none] [] n K Rf V1 ca sa) ∧ (¬ r1 = 0 → cj0_indexOf (l, G, n, K, Rf) 4 r1 V1 (fun r12 V12 => (0 ≤ r12 → (¬ (V12 (o + 1) 3) = 16 → w7_clause l G d mc ms Q 51 [some (vr o), some (vi r1), none, none] [] n K Rf V12 ca sa) ∧ ((V12 (o + 1) 3) = 16 → c7_bad (l, G, n, K, Rf) o 4 (V12 o 2) V12 (fun V48 => w7_clause l G d mc ms Q 51 [some (vr o), some (vi r1), none, none] [] n K Rf V48 ca sa))) ∧ (r12 < 0 → w7_clause l G d mc ms Q 18 [some (vr o), some (vi r1), none, none] [] n K Rf V12 ca sa))))) : w7_clause l G d mc ms Q 0 [some (vr o), none, none, none] [] n K Rf V ca sa := by
  refine wp_aload_n dX7_clause_0 rfl ?_
  refine wq_VI0 lk7_39 rfl (RD.b0 hS) (RD.k0 hS) dX7_clause_1 h (rmQ_ok (Nat.lt_of_lt_of_le (by decide) hd) (by decide)) ⟨hca, hsa⟩ (Nat.le_of_ble_eq_true rfl) (fun r1 V1 h => ?_)
  refine wi4_1 dX7_clause_4 ?_
  refine wp_iload_n dX7_clause_5 rfl ?_
  refine wp_if_eq 18 dX7_clause_6 (by decide) (fun hc => ?_) (fun hc => ?_)
  · replace h := h.1 hc
    exact h
  · replace h := h.2 hc
    refine wp_ldcS (i := 4) dX7_clause_9 (fun _ hK9 => hK9.2.2.2.2.1.2.1) ?_
    refine wp_iload_n dX7_clause_11 rfl ?_
    refine wq_ZI1 lk7_77 (STR.b (cstr_4 hC)) (STR.k (cstr_4 hC)) dX7_clause_12 h (rmQ_ok (Nat.lt_of_lt_of_le (by decide) hd) (by decide)) ⟨hca, hsa⟩ (Nat.le_of_ble_eq_true rfl) (fun r12 V12 h => ?_)
    refine wp_if_ge 30 dX7_clause_15 (by decide) (fun hc => ?_) (fun hc => ?_)
    · replace h := h.1 hc
      refine wp_aload_n dX7_clause_30 rfl ?_
      refine wp_getrs dX7_clause_31 fk7_18_6 (RD.b0 hS) (RD.k0 hS) rfl (RD.r1 hS) ?_
      refine wp_geti dX7_clause_34 fk7_131_4 (TX.b0 (RD.tx hS)) (TX.k0 (RD.tx hS)) rfl ?_
      refine wp_bipush (v := 16) dX7_clause_37 rfl ?_
      refine wp_icmp_ne 51 dX7_clause_39 (by decide) (fun hc => ?_) (fun hc => ?_)
      · replace h := h.1 hc
        exact h
      · replace h := h.2 hc
        refine wp_aload_n dX7_clause_42 rfl ?_
        refine wp_iconst (v := 4) dX7_clause_43 rfl ?_
        refine wp_aload_n dX7_clause_44 rfl ?_
        refine wp_geti dX7_clause_45 fk7_26_6 (RD.b0 hS) (RD.k0 hS) rfl ?_
        refine wq_VV2 lk7_50 rfl (RD.b0 hS) (RD.k0 hS) dX7_clause_48 h (rmQ_ok (Nat.lt_of_lt_of_le (by decide) hd) (by decide)) ⟨hca, hsa⟩ (Nat.le_of_ble_eq_true rfl) (fun V48 h => ?_)
        exact h
    · replace h := h.2 (Int32.not_le.mp hc)
      exact h
theorem b7_clause_18 {l : Launch} {G : gT} {d mc ms n ca sa : Nat} {K : kT} {Rf : rT} {V : vT} {Q : Nat → kT → rT → vT → Prop} {tl : Nat} {o : Nat} {x1 : Int32} (hd : 30 ≤ d) (hca : ca ≤ mc) (hsa : sa ≤ ms) (hC : CM (l, G, n, K, Rf) tl) (hS : RD (l, G, n, K, Rf) o) (h : c7_bad (l, G, n, K, Rf) o 1 (V o 2) V (fun V24 => w7_clause l G d mc ms Q 51 [some (vr o), some (vi x1), none, none] [] n K Rf V24 ca sa)) : w7_clause l G d mc ms Q 18 [some (vr o), some (vi x1), none, none] [] n K Rf V ca sa := by
  refine wp_aload_n dX7_clause_18 rfl ?_
  refine wp_iconst (v := 1) dX7_clause_19 rfl ?_
  refine wp_aload_n dX7_clause_20 rfl ?_
  refine wp_geti dX7_clause_21 fk7_26_6 (RD.b0 hS) (RD.k0 hS) rfl ?_
  refine wq_VV2 lk7_50 rfl (RD.b0 hS) (RD.k0 hS) dX7_clause_24 h (rmQ_ok (Nat.lt_of_lt_of_le (by decide) hd) (by decide)) ⟨hca, hsa⟩ (Nat.le_of_ble_eq_true rfl) (fun V24 h => ?_)
  refine wp_goto 51 dX7_clause_27 (by decide) ?_
  exact h
theorem b7_clause_51 {l : Launch} {G : gT} {d mc ms n ca sa : Nat} {K : kT} {Rf : rT} {V : vT} {Q : Nat → kT → rT → vT → Prop} {tl : Nat} {o : Nat} {x1 : Int32} (hd : 30 ≤ d) (hca : ca ≤ mc) (hsa : sa ≤ ms) (hC : CM (l, G, n, K, Rf) tl) (hS : RD (l, G, n, K, Rf) o) (h : c7_isGood (l, G, n, K, Rf) o V (fun r52 V52 => (¬ r52 = 0 → (¬ x1 = 120 → ∃ d85 mc85 ms85 : Nat, (d85 < d ∧ ca + mc85 ≤ mc ∧ sa + ms85 ≤ ms) ∧ c7_sum l G d85 mc85 ms85 n K Rf o  (up2 (up2 V52 o 2 ((V52 o 2) + 1)) o 3 0) (fun r85 n85 K85 Rf85 V85 => (CM (l, G, n85, K85, Rf85) tl ∧ RD (l, G, n85, K85, Rf85) o) ∧ (c7_isGood (l, G, n85, K85, Rf85) o V85 (fun r90 V90 => (r90 = 0 → w7_clause l G d mc ms Q 114 [some (vr o), some (vi x1), some (.inr r85), none] [] n85 K85 Rf85 V90 (ca + mc85) (sa + ms85)) ∧ (¬ r90 = 0 → c7_here (l, G, n85, K85, Rf85) o V90 (fun r97 V97 => (r97 = 40 → w7_clause l G d mc ms Q 114 [some (vr o), some (vi x1), some (.inr r85), none] [] n85 K85 Rf85 V97 (ca + mc85) (sa + ms85)) ∧ (¬ r97 = 40 → c7_bad (l, G, n85, K85, Rf85) o 1 (V97 o 2) V97 (fun V111 => w7_clause l G d mc ms Q 114 [some (vr o), some (vi x1), some (.inr r85), none] [] n85 K85 Rf85 V111 (ca + mc85) (sa + ms85))))))))) ∧ (x1 = 120 → c7_isGood (l, G, n, K, Rf) o (up2 (up2 V52 o 2 ((V52 o 2) + 1)) o 3 0) (fun r90' V90' => (r90' = 0 → w7_clause l G d mc ms Q 114 [some (vr o), some (vi x1), some (.inr none), none] [] n K Rf V90' ca sa) ∧ (¬ r90' = 0 → c7_here (l, G, n, K, Rf) o V90' (fun r97' V97' => (r97' = 40 → w7_clause l G d mc ms Q 114 [some (vr o), some (vi x1), some (.inr none), none] [] n K Rf V97' ca sa) ∧ (¬ r97' = 40 → c7_bad (l, G, n, K, Rf) o 1 (V97' o 2) V97' (fun V111' => w7_clause l G d mc ms Q 114 [some (vr o), some (vi x1), some (.inr none), none] [] n K Rf V111' ca sa))))))) ∧ (r52 = 0 → Q n K Rf V52))) : w7_clause l G d mc ms Q 51 [some (vr o), some (vi x1), none, none] [] n K Rf V ca sa := by
  refine wp_aload_n dX7_clause_51 rfl ?_
  refine wq_VI0 lk7_43 rfl (RD.b0 hS) (RD.k0 hS) dX7_clause_52 h (rmQ_ok (Nat.lt_of_lt_of_le (by decide) hd) (by decide)) ⟨hca, hsa⟩ (Nat.le_of_ble_eq_true rfl) (fun r52 V52 h => ?_)
  refine wp_if_ne 59 dX7_clause_55 (by decide) (fun hc => ?_) (fun hc => ?_)
  · replace h := h.1 hc
    refine wp_aload_n dX7_clause_59 rfl ?_
    refine wp_dup dX7_clause_60 ?_
    refine wp_geti dX7_clause_61 fk7_26_6 (RD.b0 hS) (RD.k0 hS) rfl ?_
    refine wp_iconst (v := 1) dX7_clause_64 rfl ?_
    refine wp_iadd dX7_clause_65 ?_
    refine wp_puti dX7_clause_66 fp7_26_6 (RD.b0 hS) (RD.k0 hS) rfl ?_
    refine wp_aload_n dX7_clause_69 rfl ?_
    refine wp_iconst (v := 0) dX7_clause_70 rfl ?_
    refine wp_puti dX7_clause_71 fp7_54_6 (RD.b0 hS) (RD.k0 hS) rfl ?_
    refine wp_iload_n dX7_clause_74 rfl ?_
    refine wp_bipush (v := 120) dX7_clause_75 rfl ?_
    refine wp_icmp_ne 84 dX7_clause_77 (by decide) (fun hc => ?_) (fun hc => ?_)
    · replace h := h.1 hc
      refine wp_aload_n dX7_clause_84 rfl ?_
      obtain ⟨d85, mc85, ms85, ⟨hdd, hmc, hms⟩, h⟩ := h
      refine wx_VR0 lk7_60 rfl (RD.b0 hS) (RD.k0 hS) dX7_clause_85 h (rmQ_ok hdd (by decide)) ⟨hmc, hms⟩ (Nat.le_of_ble_eq_true rfl) (fun r85 n85 K85 Rf85 V85 h => ?_)
      replace hca := hmc
      replace hsa := hms
      obtain ⟨⟨hC, hS⟩, h⟩ := h
      refine wa4_2 dX7_clause_88 ?_
      refine wp_aload_n dX7_clause_89 rfl ?_
      refine wq_VI0 lk7_43 rfl (RD.b0 hS) (RD.k0 hS) dX7_clause_90 h (rmQ_ok (Nat.lt_of_lt_of_le (by decide) hd) (by decide)) ⟨hca, hsa⟩ (Nat.le_of_ble_eq_true rfl) (fun r90 V90 h => ?_)
      refine wp_if_eq 114 dX7_clause_93 (by decide) (fun hc => ?_) (fun hc => ?_)
      · replace h := h.1 hc
        exact h
      · replace h := h.2 hc
        refine wp_aload_n dX7_clause_96 rfl ?_
        refine wq_VI0 lk7_39 rfl (RD.b0 hS) (RD.k0 hS) dX7_clause_97 h (rmQ_ok (Nat.lt_of_lt_of_le (by decide) hd) (by decide)) ⟨hca, hsa⟩ (Nat.le_of_ble_eq_true rfl) (fun r97 V97 h => ?_)
        refine wp_bipush (v := 40) dX7_clause_100 rfl ?_
        refine wp_icmp_eq 114 dX7_clause_102 (by decide) (fun hc => ?_) (fun hc => ?_)
        · replace h := h.1 hc
          exact h
        · replace h := h.2 hc
          refine wp_aload_n dX7_clause_105 rfl ?_
          refine wp_iconst (v := 1) dX7_clause_106 rfl ?_
          refine wp_aload_n dX7_clause_107 rfl ?_
          refine wp_geti dX7_clause_108 fk7_26_6 (RD.b0 hS) (RD.k0 hS) rfl ?_
          refine wq_VV2 lk7_50 rfl (RD.b0 hS) (RD.k0 hS) dX7_clause_111 h (rmQ_ok (Nat.lt_of_lt_of_le (by decide) hd) (by decide)) ⟨hca, hsa⟩ (Nat.le_of_ble_eq_true rfl) (fun V111 h => ?_)
          exact h
    · replace h := h.2 hc
      refine wp_null dX7_clause_80 ?_
      refine wp_goto 88 dX7_clause_81 (by decide) ?_
      refine wa4_2 dX7_clause_88 ?_
      refine wp_aload_n dX7_clause_89 rfl ?_
      refine wq_VI0 lk7_43 rfl (RD.b0 hS) (RD.k0 hS) dX7_clause_90 h (rmQ_ok (Nat.lt_of_lt_of_le (by decide) hd) (by decide)) ⟨hca, hsa⟩ (Nat.le_of_ble_eq_true rfl) (fun r90' V90' h => ?_)
      refine wp_if_eq 114 dX7_clause_93 (by decide) (fun hc => ?_) (fun hc => ?_)
      · replace h := h.1 hc
        exact h
      · replace h := h.2 hc
        refine wp_aload_n dX7_clause_96 rfl ?_
        refine wq_VI0 lk7_39 rfl (RD.b0 hS) (RD.k0 hS) dX7_clause_97 h (rmQ_ok (Nat.lt_of_lt_of_le (by decide) hd) (by decide)) ⟨hca, hsa⟩ (Nat.le_of_ble_eq_true rfl) (fun r97' V97' h => ?_)
        refine wp_bipush (v := 40) dX7_clause_100 rfl ?_
        refine wp_icmp_eq 114 dX7_clause_102 (by decide) (fun hc => ?_) (fun hc => ?_)
        · replace h := h.1 hc
          exact h
        · replace h := h.2 hc
          refine wp_aload_n dX7_clause_105 rfl ?_
          refine wp_iconst (v := 1) dX7_clause_106 rfl ?_
          refine wp_aload_n dX7_clause_107 rfl ?_
          refine wp_geti dX7_clause_108 fk7_26_6 (RD.b0 hS) (RD.k0 hS) rfl ?_
          refine wq_VV2 lk7_50 rfl (RD.b0 hS) (RD.k0 hS) dX7_clause_111 h (rmQ_ok (Nat.lt_of_lt_of_le (by decide) hd) (by decide)) ⟨hca, hsa⟩ (Nat.le_of_ble_eq_true rfl) (fun V111' h => ?_)
          exact h
  · replace h := h.2 hc
    refine wp_widen hca hsa ?_
    exact wp_vret dX7_clause_58 ⟨rfl, h⟩
theorem b7_clause_114 {l : Launch} {G : gT} {d mc ms n ca sa : Nat} {K : kT} {Rf : rT} {V : vT} {Q : Nat → kT → rT → vT → Prop} {tl : Nat} {o : Nat} {x1 : Int32} {q2 : Option Nat} (hd : 30 ≤ d) (hca : ca ≤ mc) (hsa : sa ≤ ms) (hC : CM (l, G, n, K, Rf) tl) (hS : RD (l, G, n, K, Rf) o) (h : c7_isGood (l, G, n, K, Rf) o V (fun r115 V115 => (r115 = 0 → vp_in (V115 (o + 1) 3) 16 ∧ ((∀ b161, q2 = some b161 → (16 ≤ b161 ∧ b161 < n) ∧ K b161 = .inl 7) ∧ vp_in ((up2 V115 ((o + 1) + 1) ((V115 (o + 1) 3).toNatClampNeg) x1) (o + 1) 3) 16 ∧ ((CM (l, G, n, K, (up2 Rf ((o + 1) + 2) (((up2 V115 ((o + 1) + 1) ((V115 (o + 1) 3).toNatClampNeg) x1) (o + 1) 3)).toNatClampNeg q2)) tl ∧ RD (l, G, n, K, (up2 Rf ((o + 1) + 2) (((up2 V115 ((o + 1) + 1) ((V115 (o + 1) 3).toNatClampNeg) x1) (o + 1) 3)).toNatClampNeg q2)) o) ∧ (∀ b177, none = some b177 → (16 ≤ b177 ∧ b177 < n) ∧ K b177 = .inl 10) ∧ vp_in ((up2 V115 ((o + 1) + 1) ((V115 (o + 1) 3).toNatClampNeg) x1) (o + 1) 3) 16 ∧ ((CM (l, G, n, K, (up2 (up2 Rf ((o + 1) + 2) (((up2 V115 ((o + 1) + 1) ((V115 (o + 1) 3).toNatClampNeg) x1) (o + 1) 3)).toNatClampNeg q2) ((o + 1) + 3) (((up2 V115 ((o + 1) + 1) ((V115 (o + 1) 3).toNatClampNeg) x1) (o + 1) 3)).toNatClampNeg none)) tl ∧ RD (l, G, n, K, (up2 (up2 Rf ((o + 1) + 2) (((up2 V115 ((o + 1) + 1) ((V115 (o + 1) 3).toNatClampNeg) x1) (o + 1) 3)).toNatClampNeg q2) ((o + 1) + 3) (((up2 V115 ((o + 1) + 1) ((V115 (o + 1) 3).toNatClampNeg) x1) (o + 1) 3)).toNatClampNeg none)) o) ∧ Q n K (up2 (up2 Rf ((o + 1) + 2) (((up2 V115 ((o + 1) + 1) ((V115 (o + 1) 3).toNatClampNeg) x1) (o + 1) 3)).toNatClampNeg q2) ((o + 1) + 3) (((up2 V115 ((o + 1) + 1) ((V115 (o + 1) 3).toNatClampNeg) x1) (o + 1) 3)).toNatClampNeg none) (up2 (up2 V115 ((o + 1) + 1) ((V115 (o + 1) 3).toNatClampNeg) x1) (o + 1) 3 (((up2 V115 ((o + 1) + 1) ((V115 (o + 1) 3).toNatClampNeg) x1) (o + 1) 3) + 1)))))) ∧ (¬ r115 = 0 → ∃ d122 mc122 ms122 : Nat, (d122 < d ∧ ca + mc122 ≤ mc ∧ sa + ms122 ≤ ms) ∧ c7_condition l G d122 mc122 ms122 n K Rf o  V115 (fun r122 n122 K122 Rf122 V122 => (CM (l, G, n122, K122, Rf122) tl ∧ RD (l, G, n122, K122, Rf122) o) ∧ (vp_in (V122 (o + 1) 3) 16 ∧ ((∀ b161', q2 = some b161' → (16 ≤ b161' ∧ b161' < n122) ∧ K122 b161' = .inl 7) ∧ vp_in ((up2 V122 ((o + 1) + 1) ((V122 (o + 1) 3).toNatClampNeg) x1) (o + 1) 3) 16 ∧ ((CM (l, G, n122, K122, (up2 Rf122 ((o + 1) + 2) (((up2 V122 ((o + 1) + 1) ((V122 (o + 1) 3).toNatClampNeg) x1) (o + 1) 3)).toNatClampNeg q2)) tl ∧ RD (l, G, n122, K122, (up2 Rf122 ((o + 1) + 2) (((up2 V122 ((o + 1) + 1) ((V122 (o + 1) 3).toNatClampNeg) x1) (o + 1) 3)).toNatClampNeg q2)) o) ∧ (∀ b177', r122 = some b177' → (16 ≤ b177' ∧ b177' < n122) ∧ K122 b177' = .inl 10) ∧ vp_in ((up2 V122 ((o + 1) + 1) ((V122 (o + 1) 3).toNatClampNeg) x1) (o + 1) 3) 16 ∧ ((CM (l, G, n122, K122, (up2 (up2 Rf122 ((o + 1) + 2) (((up2 V122 ((o + 1) + 1) ((V122 (o + 1) 3).toNatClampNeg) x1) (o + 1) 3)).toNatClampNeg q2) ((o + 1) + 3) (((up2 V122 ((o + 1) + 1) ((V122 (o + 1) 3).toNatClampNeg) x1) (o + 1) 3)).toNatClampNeg r122)) tl ∧ RD (l, G, n122, K122, (up2 (up2 Rf122 ((o + 1) + 2) (((up2 V122 ((o + 1) + 1) ((V122 (o + 1) 3).toNatClampNeg) x1) (o + 1) 3)).toNatClampNeg q2) ((o + 1) + 3) (((up2 V122 ((o + 1) + 1) ((V122 (o + 1) 3).toNatClampNeg) x1) (o + 1) 3)).toNatClampNeg r122)) o) ∧ Q n122 K122 (up2 (up2 Rf122 ((o + 1) + 2) (((up2 V122 ((o + 1) + 1) ((V122 (o + 1) 3).toNatClampNeg) x1) (o + 1) 3)).toNatClampNeg q2) ((o + 1) + 3) (((up2 V122 ((o + 1) + 1) ((V122 (o + 1) 3).toNatClampNeg) x1) (o + 1) 3)).toNatClampNeg r122) (up2 (up2 V122 ((o + 1) + 1) ((V122 (o + 1) 3).toNatClampNeg) x1) (o + 1) 3 (((up2 V122 ((o + 1) + 1) ((V122 (o + 1) 3).toNatClampNeg) x1) (o + 1) 3) + 1)))))))))) : w7_clause l G d mc ms Q 114 [some (vr o), some (vi x1), some (.inr q2), none] [] n K Rf V ca sa := by
  refine wp_aload_n dX7_clause_114 rfl ?_
  refine wq_VI0 lk7_43 rfl (RD.b0 hS) (RD.k0 hS) dX7_clause_115 h (rmQ_ok (Nat.lt_of_lt_of_le (by decide) hd) (by decide)) ⟨hca, hsa⟩ (Nat.le_of_ble_eq_true rfl) (fun r115 V115 h => ?_)
  refine wp_if_eq 128 dX7_clause_118 (by decide) (fun hc => ?_) (fun hc => ?_)
  · replace h := h.1 hc
    refine wp_null dX7_clause_128 ?_
    refine wa4_3 dX7_clause_129 ?_
    refine wp_aload_n dX7_clause_130 rfl ?_
    refine wp_getrs dX7_clause_131 fk7_18_6 (RD.b0 hS) (RD.k0 hS) rfl (RD.r1 hS) ?_
    refine wp_getrs dX7_clause_134 fk7_134_4 (TX.b0 (RD.tx hS)) (TX.k0 (RD.tx hS)) rfl (TX.r0 (RD.tx hS)) ?_
    refine wp_aload_n dX7_clause_137 rfl ?_
    refine wp_getrs dX7_clause_138 fk7_18_6 (RD.b0 hS) (RD.k0 hS) rfl (RD.r1 hS) ?_
    refine wp_geti dX7_clause_141 fk7_131_4 (TX.b0 (RD.tx hS)) (TX.k0 (RD.tx hS)) rfl ?_
    refine wp_iload_n dX7_clause_144 rfl ?_
    refine wp_iast dX7_clause_145 (TX.b1 (RD.tx hS)) (TX.k1 (RD.tx hS)) h.1 ?_
    replace h := h.2
    refine wp_aload_n dX7_clause_146 rfl ?_
    refine wp_getrs dX7_clause_147 fk7_18_6 (RD.b0 hS) (RD.k0 hS) rfl (RD.r1 hS) ?_
    refine wp_getrs dX7_clause_150 fk7_138_4 (TX.b0 (RD.tx hS)) (TX.k0 (RD.tx hS)) rfl (TX.r1 (RD.tx hS)) ?_
    refine wp_aload_n dX7_clause_153 rfl ?_
    refine wp_getrs dX7_clause_154 fk7_18_6 (RD.b0 hS) (RD.k0 hS) rfl (RD.r1 hS) ?_
    refine wp_geti dX7_clause_157 fk7_131_4 (TX.b0 (RD.tx hS)) (TX.k0 (RD.tx hS)) rfl ?_
    refine wp_aload_n dX7_clause_160 rfl ?_
    refine wp_aastq (r := q2) dX7_clause_161 (TX.b2 (RD.tx hS)) (TX.k2 (RD.tx hS)) rfl (by decide) h.1 (show qcl[7]? = some _ from rfl) (Or.inr (nst q1741 rfl)) h.2.1 ?_
    replace h := h.2.2
    obtain ⟨⟨hC, hS⟩, h⟩ := h
    refine wp_aload_n dX7_clause_162 rfl ?_
    refine wp_getrs dX7_clause_163 fk7_18_6 (RD.b0 hS) (RD.k0 hS) rfl (RD.r1 hS) ?_
    refine wp_getrs dX7_clause_166 fk7_142_4 (TX.b0 (RD.tx hS)) (TX.k0 (RD.tx hS)) rfl (TX.r2 (RD.tx hS)) ?_
    refine wp_aload_n dX7_clause_169 rfl ?_
    refine wp_getrs dX7_clause_170 fk7_18_6 (RD.b0 hS) (RD.k0 hS) rfl (RD.r1 hS) ?_
    refine wp_geti dX7_clause_173 fk7_131_4 (TX.b0 (RD.tx hS)) (TX.k0 (RD.tx hS)) rfl ?_
    refine wp_aload_n dX7_clause_176 rfl ?_
    refine wp_aastq (r := none) dX7_clause_177 (TX.b3 (RD.tx hS)) (TX.k3 (RD.tx hS)) rfl (by decide) h.1 (show qcl[10]? = some _ from rfl) (Or.inr (nst q1744 rfl)) h.2.1 ?_
    replace h := h.2.2
    obtain ⟨⟨hC, hS⟩, h⟩ := h
    refine wp_aload_n dX7_clause_178 rfl ?_
    refine wp_getrs dX7_clause_179 fk7_18_6 (RD.b0 hS) (RD.k0 hS) rfl (RD.r1 hS) ?_
    refine wp_dup dX7_clause_182 ?_
    refine wp_geti dX7_clause_183 fk7_131_4 (TX.b0 (RD.tx hS)) (TX.k0 (RD.tx hS)) rfl ?_
    refine wp_iconst (v := 1) dX7_clause_186 rfl ?_
    refine wp_iadd dX7_clause_187 ?_
    refine wp_puti dX7_clause_188 fp7_131_4 (TX.b0 (RD.tx hS)) (TX.k0 (RD.tx hS)) rfl ?_
    refine wp_widen hca hsa ?_
    exact wp_vret dX7_clause_191 ⟨rfl, h⟩
  · replace h := h.2 hc
    refine wp_aload_n dX7_clause_121 rfl ?_
    obtain ⟨d122, mc122, ms122, ⟨hdd, hmc, hms⟩, h⟩ := h
    refine wx_VR0 lk7_110 rfl (RD.b0 hS) (RD.k0 hS) dX7_clause_122 h (rmQ_ok hdd (by decide)) ⟨hmc, hms⟩ (Nat.le_of_ble_eq_true rfl) (fun r122 n122 K122 Rf122 V122 h => ?_)
    replace hca := hmc
    replace hsa := hms
    obtain ⟨⟨hC, hS⟩, h⟩ := h
    refine wp_goto 129 dX7_clause_125 (by decide) ?_
    refine wa4_3 dX7_clause_129 ?_
    refine wp_aload_n dX7_clause_130 rfl ?_
    refine wp_getrs dX7_clause_131 fk7_18_6 (RD.b0 hS) (RD.k0 hS) rfl (RD.r1 hS) ?_
    refine wp_getrs dX7_clause_134 fk7_134_4 (TX.b0 (RD.tx hS)) (TX.k0 (RD.tx hS)) rfl (TX.r0 (RD.tx hS)) ?_
    refine wp_aload_n dX7_clause_137 rfl ?_
    refine wp_getrs dX7_clause_138 fk7_18_6 (RD.b0 hS) (RD.k0 hS) rfl (RD.r1 hS) ?_
    refine wp_geti dX7_clause_141 fk7_131_4 (TX.b0 (RD.tx hS)) (TX.k0 (RD.tx hS)) rfl ?_
    refine wp_iload_n dX7_clause_144 rfl ?_
    refine wp_iast dX7_clause_145 (TX.b1 (RD.tx hS)) (TX.k1 (RD.tx hS)) h.1 ?_
    replace h := h.2
    refine wp_aload_n dX7_clause_146 rfl ?_
    refine wp_getrs dX7_clause_147 fk7_18_6 (RD.b0 hS) (RD.k0 hS) rfl (RD.r1 hS) ?_
    refine wp_getrs dX7_clause_150 fk7_138_4 (TX.b0 (RD.tx hS)) (TX.k0 (RD.tx hS)) rfl (TX.r1 (RD.tx hS)) ?_
    refine wp_aload_n dX7_clause_153 rfl ?_
    refine wp_getrs dX7_clause_154 fk7_18_6 (RD.b0 hS) (RD.k0 hS) rfl (RD.r1 hS) ?_
    refine wp_geti dX7_clause_157 fk7_131_4 (TX.b0 (RD.tx hS)) (TX.k0 (RD.tx hS)) rfl ?_
    refine wp_aload_n dX7_clause_160 rfl ?_
    refine wp_aastq (r := q2) dX7_clause_161 (TX.b2 (RD.tx hS)) (TX.k2 (RD.tx hS)) rfl (by decide) h.1 (show qcl[7]? = some _ from rfl) (Or.inr (nst q1741 rfl)) h.2.1 ?_
    replace h := h.2.2
    obtain ⟨⟨hC, hS⟩, h⟩ := h
    refine wp_aload_n dX7_clause_162 rfl ?_
    refine wp_getrs dX7_clause_163 fk7_18_6 (RD.b0 hS) (RD.k0 hS) rfl (RD.r1 hS) ?_
    refine wp_getrs dX7_clause_166 fk7_142_4 (TX.b0 (RD.tx hS)) (TX.k0 (RD.tx hS)) rfl (TX.r2 (RD.tx hS)) ?_
    refine wp_aload_n dX7_clause_169 rfl ?_
    refine wp_getrs dX7_clause_170 fk7_18_6 (RD.b0 hS) (RD.k0 hS) rfl (RD.r1 hS) ?_
    refine wp_geti dX7_clause_173 fk7_131_4 (TX.b0 (RD.tx hS)) (TX.k0 (RD.tx hS)) rfl ?_
    refine wp_aload_n dX7_clause_176 rfl ?_
    refine wp_aastq (r := r122) dX7_clause_177 (TX.b3 (RD.tx hS)) (TX.k3 (RD.tx hS)) rfl (by decide) h.1 (show qcl[10]? = some _ from rfl) (Or.inr (nst q1744 rfl)) h.2.1 ?_
    replace h := h.2.2
    obtain ⟨⟨hC, hS⟩, h⟩ := h
    refine wp_aload_n dX7_clause_178 rfl ?_
    refine wp_getrs dX7_clause_179 fk7_18_6 (RD.b0 hS) (RD.k0 hS) rfl (RD.r1 hS) ?_
    refine wp_dup dX7_clause_182 ?_
    refine wp_geti dX7_clause_183 fk7_131_4 (TX.b0 (RD.tx hS)) (TX.k0 (RD.tx hS)) rfl ?_
    refine wp_iconst (v := 1) dX7_clause_186 rfl ?_
    refine wp_iadd dX7_clause_187 ?_
    refine wp_puti dX7_clause_188 fp7_131_4 (TX.b0 (RD.tx hS)) (TX.k0 (RD.tx hS)) rfl ?_
    refine wp_widen hca hsa ?_
    exact wp_vret dX7_clause_191 ⟨rfl, h⟩
theorem n7_clause {l : Launch} {G : gT} {d mc ms n : Nat} {K : kT} {Rf : rT} {V : vT} {Q : Nat → kT → rT → vT → Prop} {o : Nat} (h : w7_clause l G d mc ms Q 0 [some (vr o), none, none, none] [] n K Rf V 0 0) : c7_clause l G d mc ms n K Rf o V Q := MOk.enter [some (vr o), none, none, none] pn_X7 rfl rfl (Nat.le_of_ble_eq_true rfl) rfl h
theorem b7_read_0 {l : Launch} {G : gT} {d mc ms n ca sa : Nat} {K : kT} {Rf : rT} {V : vT} {Q : Int32 → Nat → kT → rT → vT → Prop} {tl : Nat} {o : Nat} (hd : 30 ≤ d) (hca : ca ≤ mc) (hsa : sa ≤ ms) (hC : CM (l, G, n, K, Rf) tl) (hS : RD (l, G, n, K, Rf) o) (h : w7_read l G d mc ms Q 2 [some (vr o), some (vi 1)] [] n K Rf V ca sa) : w7_read l G d mc ms Q 0 [some (vr o), none] [] n K Rf V ca sa := by
  refine wp_iconst (v := 1) dX7_read_0 rfl ?_
  refine wi2_1 dX7_read_1 ?_
  exact h
theorem b7_read_2 {l : Launch} {G : gT} {d mc ms n ca sa : Nat} {K : kT} {Rf : rT} {V : vT} {Q : Int32 → Nat → kT → rT → vT → Prop} {tl : Nat} {o : Nat} {x1 : Int32} (hd : 30 ≤ d) (hca : ca ≤ mc) (hsa : sa ≤ ms) (hC : CM (l, G, n, K, Rf) tl) (hS : RD (l, G, n, K, Rf) o) (h : (x1 = 0 → c7_isGood (l, G, n, K, Rf) o V (fun r55 V55 => (r55 = 0 → Q (((-1000) * (V55 o 4)) - (V55 o 5)) n K Rf V55) ∧ (¬ r55 = 0 → Q (V55 (o + 1) 3) n K Rf V55))) ∧ (¬ x1 = 0 → c7_isGood (l, G, n, K, Rf) o V (fun r7 V7 => (r7 = 0 → c7_isGood (l, G, n, K, Rf) o V7 (fun r55' V55' => (r55' = 0 → Q (((-1000) * (V55' o 4)) - (V55' o 5)) n K Rf V55') ∧ (¬ r55' = 0 → Q (V55' (o + 1) 3) n K Rf V55'))) ∧ (¬ r7 = 0 → ∃ d14 mc14 ms14 : Nat, (d14 < d ∧ ca + mc14 ≤ mc ∧ sa + ms14 ≤ ms) ∧ c7_clause l G d14 mc14 ms14 n K Rf o  V7 (fun n14 K14 Rf14 V14 => (CM (l, G, n14, K14, Rf14) tl ∧ RD (l, G, n14, K14, Rf14) o) ∧ (c7_isGood (l, G, n14, K14, Rf14) o V14 (fun r18 V18 => (r18 = 0 → w7_read l G d mc ms Q 2 [some (vr o), some (vi 0)] [] n14 K14 Rf14 V18 (ca + mc14) (sa + ms14)) ∧ (¬ r18 = 0 → ((V18 o 0) ≤ (V18 o 2) → w7_read l G d mc ms Q 2 [some (vr o), some (vi 0)] [] n14 K14 Rf14 V18 (ca + mc14) (sa + ms14)) ∧ ((V18 o 2) < (V18 o 0) → c7_must (l, G, n14, K14, Rf14) o 59 V18 (fun V48 => w7_read l G d mc ms Q 2 [some (vr o), some (vi 1)] [] n14 K14 Rf14 V48 (ca + mc14) (sa + ms14))))))))))) : w7_read l G d mc ms Q 2 [some (vr o), some (vi x1)] [] n K Rf V ca sa := by
  refine wp_iload_n dX7_read_2 rfl ?_
  refine wp_if_eq 54 dX7_read_3 (by decide) (fun hc => ?_) (fun hc => ?_)
  · replace h := h.1 hc
    refine wp_aload_n dX7_read_54 rfl ?_
    refine wq_VI0 lk7_43 rfl (RD.b0 hS) (RD.k0 hS) dX7_read_55 h (rmQ_ok (Nat.lt_of_lt_of_le (by decide) hd) (by decide)) ⟨hca, hsa⟩ (Nat.le_of_ble_eq_true rfl) (fun r55 V55 h => ?_)
    refine wp_if_eq 71 dX7_read_58 (by decide) (fun hc => ?_) (fun hc => ?_)
    · replace h := h.1 hc
      refine wp_sipush (v := (-1000)) dX7_read_71 rfl ?_
      refine wp_aload_n dX7_read_74 rfl ?_
      refine wp_geti dX7_read_75 fk7_33_6 (RD.b0 hS) (RD.k0 hS) rfl ?_
      refine wp_imul dX7_read_78 ?_
      refine wp_aload_n dX7_read_79 rfl ?_
      refine wp_geti dX7_read_80 fk7_36_6 (RD.b0 hS) (RD.k0 hS) rfl ?_
      refine wp_isub dX7_read_83 ?_
      refine wp_widen hca hsa ?_
      exact wp_iret dX7_read_84 rfl ⟨_, rfl, h⟩
    · replace h := h.2 hc
      refine wp_aload_n dX7_read_61 rfl ?_
      refine wp_getrs dX7_read_62 fk7_18_6 (RD.b0 hS) (RD.k0 hS) rfl (RD.r1 hS) ?_
      refine wp_geti dX7_read_65 fk7_131_4 (TX.b0 (RD.tx hS)) (TX.k0 (RD.tx hS)) rfl ?_
      refine wp_goto 84 dX7_read_68 (by decide) ?_
      refine wp_widen hca hsa ?_
      exact wp_iret dX7_read_84 rfl ⟨_, rfl, h⟩
  · replace h := h.2 hc
    refine wp_aload_n dX7_read_6 rfl ?_
    refine wq_VI0 lk7_43 rfl (RD.b0 hS) (RD.k0 hS) dX7_read_7 h (rmQ_ok (Nat.lt_of_lt_of_le (by decide) hd) (by decide)) ⟨hca, hsa⟩ (Nat.le_of_ble_eq_true rfl) (fun r7 V7 h => ?_)
    refine wp_if_eq 54 dX7_read_10 (by decide) (fun hc => ?_) (fun hc => ?_)
    · replace h := h.1 hc
      refine wp_aload_n dX7_read_54 rfl ?_
      refine wq_VI0 lk7_43 rfl (RD.b0 hS) (RD.k0 hS) dX7_read_55 h (rmQ_ok (Nat.lt_of_lt_of_le (by decide) hd) (by decide)) ⟨hca, hsa⟩ (Nat.le_of_ble_eq_true rfl) (fun r55' V55' h => ?_)
      refine wp_if_eq 71 dX7_read_58 (by decide) (fun hc => ?_) (fun hc => ?_)
      · replace h := h.1 hc
        refine wp_sipush (v := (-1000)) dX7_read_71 rfl ?_
        refine wp_aload_n dX7_read_74 rfl ?_
        refine wp_geti dX7_read_75 fk7_33_6 (RD.b0 hS) (RD.k0 hS) rfl ?_
        refine wp_imul dX7_read_78 ?_
        refine wp_aload_n dX7_read_79 rfl ?_
        refine wp_geti dX7_read_80 fk7_36_6 (RD.b0 hS) (RD.k0 hS) rfl ?_
        refine wp_isub dX7_read_83 ?_
        refine wp_widen hca hsa ?_
        exact wp_iret dX7_read_84 rfl ⟨_, rfl, h⟩
      · replace h := h.2 hc
        refine wp_aload_n dX7_read_61 rfl ?_
        refine wp_getrs dX7_read_62 fk7_18_6 (RD.b0 hS) (RD.k0 hS) rfl (RD.r1 hS) ?_
        refine wp_geti dX7_read_65 fk7_131_4 (TX.b0 (RD.tx hS)) (TX.k0 (RD.tx hS)) rfl ?_
        refine wp_goto 84 dX7_read_68 (by decide) ?_
        refine wp_widen hca hsa ?_
        exact wp_iret dX7_read_84 rfl ⟨_, rfl, h⟩
    · replace h := h.2 hc
      refine wp_aload_n dX7_read_13 rfl ?_
      obtain ⟨d14, mc14, ms14, ⟨hdd, hmc, hms⟩, h⟩ := h
      refine wx_VV0 lk7_146 rfl (RD.b0 hS) (RD.k0 hS) dX7_read_14 h (rmQ_ok hdd (by decide)) ⟨hmc, hms⟩ (Nat.le_of_ble_eq_true rfl) (fun n14 K14 Rf14 V14 h => ?_)
      replace hca := hmc
      replace hsa := hms
      obtain ⟨⟨hC, hS⟩, h⟩ := h
      refine wp_aload_n dX7_read_17 rfl ?_
      refine wq_VI0 lk7_43 rfl (RD.b0 hS) (RD.k0 hS) dX7_read_18 h (rmQ_ok (Nat.lt_of_lt_of_le (by decide) hd) (by decide)) ⟨hca, hsa⟩ (Nat.le_of_ble_eq_true rfl) (fun r18 V18 h => ?_)
      refine wp_if_eq 39 dX7_read_21 (by decide) (fun hc => ?_) (fun hc => ?_)
      · replace h := h.1 hc
        refine wp_iconst (v := 0) dX7_read_39 rfl ?_
        refine wi2_1 dX7_read_40 ?_
        refine wp_iload_n dX7_read_41 rfl ?_
        refine wp_if_eq 2 dX7_read_42 (by decide) (fun _ => ?_) (fun hc => absurd hc (by decide))
        exact h
      · replace h := h.2 hc
        refine wp_aload_n dX7_read_24 rfl ?_
        refine wp_geti dX7_read_25 fk7_26_6 (RD.b0 hS) (RD.k0 hS) rfl ?_
        refine wp_aload_n dX7_read_28 rfl ?_
        refine wp_geti dX7_read_29 fk7_22_6 (RD.b0 hS) (RD.k0 hS) rfl ?_
        refine wp_icmp_ge 39 dX7_read_32 (by decide) (fun hc => ?_) (fun hc => ?_)
        · replace h := h.1 hc
          refine wp_iconst (v := 0) dX7_read_39 rfl ?_
          refine wi2_1 dX7_read_40 ?_
          refine wp_iload_n dX7_read_41 rfl ?_
          refine wp_if_eq 2 dX7_read_42 (by decide) (fun _ => ?_) (fun hc => absurd hc (by decide))
          exact h
        · replace h := h.2 (Int32.not_le.mp hc)
          refine wp_iconst (v := 1) dX7_read_35 rfl ?_
          refine wp_goto 40 dX7_read_36 (by decide) ?_
          refine wi2_1 dX7_read_40 ?_
          refine wp_iload_n dX7_read_41 rfl ?_
          refine wp_if_eq 2 dX7_read_42 (by decide) (fun hc => absurd hc (by decide)) (fun _ => ?_)
          refine wp_aload_n dX7_read_45 rfl ?_
          refine wp_bipush (v := 59) dX7_read_46 rfl ?_
          refine wq_VV1 lk7_64 rfl (RD.b0 hS) (RD.k0 hS) dX7_read_48 h (rmQ_ok (Nat.lt_of_lt_of_le (by decide) hd) (by decide)) ⟨hca, hsa⟩ (Nat.le_of_ble_eq_true rfl) (fun V48 h => ?_)
          refine wp_goto 2 dX7_read_51 (by decide) ?_
          exact h
theorem n7_read {l : Launch} {G : gT} {d mc ms n : Nat} {K : kT} {Rf : rT} {V : vT} {Q : Int32 → Nat → kT → rT → vT → Prop} {o : Nat} (h : w7_read l G d mc ms Q 0 [some (vr o), none] [] n K Rf V 0 0) : c7_read l G d mc ms n K Rf o V Q := MOk.enter [some (vr o), none] pn_X7 rfl rfl (Nat.le_of_ble_eq_true rfl) rfl h
theorem b0_law_0 {l : Launch} {G : gT} {d mc ms n ca sa : Nat} {K : kT} {Rf : rT} {V : vT} {Q : Int32 → Nat → kT → rT → vT → Prop} {tl : Nat} {x1 : Int32} (hd : 60 ≤ d) (hca : ca ≤ mc) (hsa : sa ≤ ms) (hC : CM (l, G, n, K, Rf) tl) (h : c0_within (l, G, n, K, Rf) x1 1 240 V (fun r5 V5 => (r5 = 0 → Q (-1) n K Rf V5) ∧ (¬ r5 = 0 → (x1 ≤ (V5 16 7) → (ca + 1 ≤ mc ∧ sa + 7 ≤ ms) ∧ (∃ d32 mc32 ms32 : Nat, (d32 < d ∧ (ca + 1) + mc32 ≤ mc ∧ (sa + 7) + ms32 ≤ ms) ∧ c7_init l G d32 mc32 ms32 (n + 1) (upK K n (.inl 6)) Rf n x1 (up2 V5 16 7 0) (fun n32 K32 Rf32 V32 => CM (l, G, n32, K32, Rf32) tl ∧ (((16 ≤ n ∧ n < n32) ∧ K32 n = .inl 6) ∧ ∃ d37 mc37 ms37 : Nat, (d37 < d ∧ ((ca + 1) + mc32) + mc37 ≤ mc ∧ ((sa + 7) + ms32) + ms37 ≤ ms) ∧ c7_read l G d37 mc37 ms37 n32 K32 Rf32 n  V32 (fun r37 n37 K37 Rf37 V37 => CM (l, G, n37, K37, Rf37) tl ∧ ((r37 < 0 → Q r37 n37 K37 Rf37 V37) ∧ (0 ≤ r37 → ((16 ≤ n ∧ n < (l, G, n37, K37, Rf37).2.2.1) ∧ (l, G, n37, K37, Rf37).2.2.2.1 n = .inl 6) ∧ (CM (l, G, n37, K37, (up2 Rf37 16 6 (Rf37 n 1))) tl ∧ (Q r37 n37 K37 (up2 Rf37 16 6 (Rf37 n 1)) V37))))))))) ∧ ((V5 16 7) < x1 → Q (-1) n K Rf V5)))) : w0_law l G d mc ms Q 0 [some (vr 16), some (vi x1), none, none] [] n K Rf V ca sa := by
  refine wp_iload_n dX0_law_0 rfl ?_
  refine wp_iconst (v := 1) dX0_law_1 rfl ?_
  refine wp_sipush (v := 240) dX0_law_2 rfl ?_
  refine wq_SI3 lk0_113 dX0_law_5 h (rmQ_ok (Nat.lt_of_lt_of_le (by decide) hd) (by decide)) ⟨hca, hsa⟩ (Nat.le_of_ble_eq_true rfl) (fun r5 V5 h => ?_)
  refine wp_if_eq 19 dX0_law_8 (by decide) (fun hc => ?_) (fun hc => ?_)
  · replace h := h.1 hc
    refine wp_iconst (v := (-1)) dX0_law_19 rfl ?_
    refine wp_widen hca hsa ?_
    exact wp_iret dX0_law_20 rfl ⟨_, rfl, h⟩
  · replace h := h.2 hc
    refine wp_iload_n dX0_law_11 rfl ?_
    refine wp_aload_n dX0_law_12 rfl ?_
    refine wp_geti dX0_law_13 fk0_106_0 (cb_16 hC) (ck_16 hC) rfl ?_
    refine wp_icmp_le 21 dX0_law_16 (by decide) (fun hc => ?_) (fun hc => ?_)
    · replace h := h.1 hc
      refine wp_aload_n dX0_law_21 rfl ?_
      refine wp_iconst (v := 0) dX0_law_22 rfl ?_
      refine wp_puti dX0_law_23 fp0_106_0 (cb_16 hC) (ck_16 hC) rfl ?_
      refine wp_new dX0_law_26 fn0_117 h.1.1 h.1.2 ?_
      replace hca := h.1.1
      replace hsa := h.1.2
      replace h := h.2
      replace hC := hC.ext (EX.new (.inl 6))
      refine wp_dup dX0_law_29 ?_
      refine wp_aload_n dX0_law_30 rfl ?_
      refine wp_iload_n dX0_law_31 rfl ?_
      obtain ⟨d32, mc32, ms32, ⟨hdd, hmc, hms⟩, h⟩ := h
      refine wx_I2 lk0_119 dX0_law_32 h (rmQ_ok hdd (by decide)) ⟨hmc, hms⟩ (Nat.le_of_ble_eq_true rfl) (fun n32 K32 Rf32 V32 h => ?_)
      replace hca := hmc
      replace hsa := hms
      obtain ⟨hC, h⟩ := h
      refine wa4_2 dX0_law_35 ?_
      refine wp_aload_n dX0_law_36 rfl ?_
      obtain ⟨⟨hbr, hkr⟩, h⟩ := h
      obtain ⟨d37, mc37, ms37, ⟨hdd, hmc, hms⟩, h⟩ := h
      refine wx_VI0 lk0_122 rfl hbr hkr dX0_law_37 h (rmQ_ok hdd (by decide)) ⟨hmc, hms⟩ (Nat.le_of_ble_eq_true rfl) (fun r37 n37 K37 Rf37 V37 h => ?_)
      replace hca := hmc
      replace hsa := hms
      obtain ⟨hC, h⟩ := h
      refine wi4_3 dX0_law_40 ?_
      refine wp_iload_n dX0_law_41 rfl ?_
      refine wp_if_lt 53 dX0_law_42 (by decide) (fun hc => ?_) (fun hc => ?_)
      · replace h := h.1 hc
        refine wp_iload_n dX0_law_53 rfl ?_
        refine wp_widen hca hsa ?_
        exact wp_iret dX0_law_54 rfl ⟨_, rfl, h⟩
      · replace h := h.2 (Int32.not_lt.mp hc)
        refine wp_aload_n dX0_law_45 rfl ?_
        refine wp_aload_n dX0_law_46 rfl ?_
        obtain ⟨⟨hbn, hkn⟩, h⟩ := h
        refine wp_getr dX0_law_47 fk0_126_6 hbn hkn rfl ?_
        refine wp_putr (r := (Rf37 n 1)) dX0_law_50 fp0_64_0 (cb_16 hC) (ck_16 hC) rfl ?_
        obtain ⟨hC, h⟩ := h
        refine wp_iload_n dX0_law_53 rfl ?_
        refine wp_widen hca hsa ?_
        exact wp_iret dX0_law_54 rfl ⟨_, rfl, h⟩
    · replace h := h.2 (Int32.not_le.mp hc)
      refine wp_iconst (v := (-1)) dX0_law_19 rfl ?_
      refine wp_widen hca hsa ?_
      exact wp_iret dX0_law_20 rfl ⟨_, rfl, h⟩
theorem n0_law {l : Launch} {G : gT} {d mc ms n : Nat} {K : kT} {Rf : rT} {V : vT} {Q : Int32 → Nat → kT → rT → vT → Prop} {x1 : Int32} (h : w0_law l G d mc ms Q 0 [some (vr 16), some (vi x1), none, none] [] n K Rf V 0 0) : c0_law l G d mc ms n K Rf x1 V Q := MOk.enter [some (vr 16), some (vi x1), none, none] pn_X0 rfl rfl (Nat.le_of_ble_eq_true rfl) rfl h
theorem b0_town_0 {l : Launch} {G : gT} {d mc ms n ca sa : Nat} {K : kT} {Rf : rT} {V : vT} {Q : Int32 → Nat → kT → rT → vT → Prop} {tl : Nat} {x1 : Int32} (hd : 60 ≤ d) (hca : ca ≤ mc) (hsa : sa ≤ ms) (hC : CM (l, G, n, K, Rf) tl) (h : c0_within (l, G, n, K, Rf) x1 1 120 V (fun r4 V4 => (r4 = 0 → Q (-1) n K Rf V4) ∧ (¬ r4 = 0 → (x1 ≤ (V4 16 7) → (ca + 1 ≤ mc ∧ sa + 9 ≤ ms) ∧ (∃ d31 mc31 ms31 : Nat, (d31 < d ∧ (ca + 1) + mc31 ≤ mc ∧ (sa + 9) + ms31 ≤ ms) ∧ c17_init l G d31 mc31 ms31 (n + 1) (upK K n (.inl 13)) Rf n x1 (up2 V4 16 7 0) (fun n31 K31 Rf31 V31 => CM (l, G, n31, K31, Rf31) tl ∧ (((16 ≤ n ∧ n < n31) ∧ K31 n = .inl 13) ∧ (c17_read (l, G, n31, K31, Rf31) n V31 (fun r36 V36 => (0 ≤ r36 → w0_town l G d mc ms Q 49 [some (vr 16), none, some (vr n), some (vi r36), some (vi 0)] [] n31 K31 Rf31 V36 ((ca + 1) + mc31) ((sa + 9) + ms31)) ∧ (r36 < 0 → Q r36 n31 K31 Rf31 V36))))))) ∧ ((V4 16 7) < x1 → Q (-1) n K Rf V4)))) : w0_town l G d mc ms Q 0 [some (vr 16), some (vi x1), none, none, none] [] n K Rf V ca sa := by
  refine wp_iload_n dX0_town_0 rfl ?_
  refine wp_iconst (v := 1) dX0_town_1 rfl ?_
  refine wp_bipush (v := 120) dX0_town_2 rfl ?_
  refine wq_SI3 lk0_113 dX0_town_4 h (rmQ_ok (Nat.lt_of_lt_of_le (by decide) hd) (by decide)) ⟨hca, hsa⟩ (Nat.le_of_ble_eq_true rfl) (fun r4 V4 h => ?_)
  refine wp_if_eq 18 dX0_town_7 (by decide) (fun hc => ?_) (fun hc => ?_)
  · replace h := h.1 hc
    refine wp_iconst (v := (-1)) dX0_town_18 rfl ?_
    refine wp_widen hca hsa ?_
    exact wp_iret dX0_town_19 rfl ⟨_, rfl, h⟩
  · replace h := h.2 hc
    refine wp_iload_n dX0_town_10 rfl ?_
    refine wp_aload_n dX0_town_11 rfl ?_
    refine wp_geti dX0_town_12 fk0_106_0 (cb_16 hC) (ck_16 hC) rfl ?_
    refine wp_icmp_le 20 dX0_town_15 (by decide) (fun hc => ?_) (fun hc => ?_)
    · replace h := h.1 hc
      refine wp_aload_n dX0_town_20 rfl ?_
      refine wp_iconst (v := 0) dX0_town_21 rfl ?_
      refine wp_puti dX0_town_22 fp0_106_0 (cb_16 hC) (ck_16 hC) rfl ?_
      refine wp_new dX0_town_25 fn0_129 h.1.1 h.1.2 ?_
      replace hca := h.1.1
      replace hsa := h.1.2
      replace h := h.2
      replace hC := hC.ext (EX.new (.inl 13))
      refine wp_dup dX0_town_28 ?_
      refine wp_aload_n dX0_town_29 rfl ?_
      refine wp_iload_n dX0_town_30 rfl ?_
      obtain ⟨d31, mc31, ms31, ⟨hdd, hmc, hms⟩, h⟩ := h
      refine wx_I2 lk0_131 dX0_town_31 h (rmQ_ok hdd (by decide)) ⟨hmc, hms⟩ (Nat.le_of_ble_eq_true rfl) (fun n31 K31 Rf31 V31 h => ?_)
      replace hca := hmc
      replace hsa := hms
      obtain ⟨hC, h⟩ := h
      refine wa5_2 dX0_town_34 ?_
      refine wp_aload_n dX0_town_35 rfl ?_
      obtain ⟨⟨hbr, hkr⟩, h⟩ := h
      refine wq_VI0 lk0_132 rfl hbr hkr dX0_town_36 h (rmQ_ok (Nat.lt_of_lt_of_le (by decide) hd) (by decide)) ⟨hca, hsa⟩ (Nat.le_of_ble_eq_true rfl) (fun r36 V36 h => ?_)
      refine wi5_3 dX0_town_39 ?_
      refine wp_iload_n dX0_town_40 rfl ?_
      refine wp_if_ge 46 dX0_town_41 (by decide) (fun hc => ?_) (fun hc => ?_)
      · replace h := h.1 hc
        refine wp_iconst (v := 0) dX0_town_46 rfl ?_
        refine wi5_4 dX0_town_47 ?_
        exact wp_drop [some (vr 16), none, some (vr n), some (vi r36), some (vi 0)] ⟨rfl, ⟨rfl, ⟨rfl, ⟨rfl, trivial⟩⟩⟩⟩ h
      · replace h := h.2 (Int32.not_le.mp hc)
        refine wp_iload_n dX0_town_44 rfl ?_
        refine wp_widen hca hsa ?_
        exact wp_iret dX0_town_45 rfl ⟨_, rfl, h⟩
    · replace h := h.2 (Int32.not_le.mp hc)
      refine wp_iconst (v := (-1)) dX0_town_18 rfl ?_
      refine wp_widen hca hsa ?_
      exact wp_iret dX0_town_19 rfl ⟨_, rfl, h⟩
theorem b0_town_49 {l : Launch} {G : gT} {d mc ms n ca sa : Nat} {K : kT} {Rf : rT} {V : vT} {Q : Int32 → Nat → kT → rT → vT → Prop} {tl : Nat} {x3 x4 : Int32} {a2 : Nat} (hd : 60 ≤ d) (hca : ca ≤ mc) (hsa : sa ≤ ms) (hC : CM (l, G, n, K, Rf) tl) (h : (96 ≤ x4 → c3_isNew (l, G, n, K, Rf) 19 V (fun V80 => Q x3 n K Rf V80)) ∧ (x4 < 96 → ((16 ≤ a2 ∧ a2 < (l, G, n, K, Rf).2.2.1) ∧ (l, G, n, K, Rf).2.2.2.1 a2 = .inl 13) ∧ (∃ a68 L68, Rf a2 5 = some a68 ∧ ((16 ≤ a68 ∧ a68 < n) ∧ K a68 = .inr (0, L68)) ∧ (vp_in x4 L68 ∧ (vp_in x4 96 ∧ (w0_town l G d mc ms Q 49 [some (vr 16), none, some (vr a2), some (vi x3), some (vi (x4 + 1))] [] n K Rf (up2 V 17 (x4.toNatClampNeg) (V a68 ((x4).toNatClampNeg))) ca sa)))))) : w0_town l G d mc ms Q 49 [some (vr 16), none, some (vr a2), some (vi x3), some (vi x4)] [] n K Rf V ca sa := by
  refine wp_iload dX0_town_49 rfl ?_
  refine wp_bipush (v := 96) dX0_town_51 rfl ?_
  refine wp_icmp_ge 76 dX0_town_53 (by decide) (fun hc => ?_) (fun hc => ?_)
  · replace h := h.1 hc
    refine wp_aload_n dX0_town_76 rfl ?_
    refine wp_getrs dX0_town_77 fk0_47_0 (cb_16 hC) (ck_16 hC) rfl (cr_2 hC) ?_
    refine wq_VV0 lk0_136 rfl (FO.b0 (cf_19 hC)) (FO.k0 (cf_19 hC)) dX0_town_80 h (rmQ_ok (Nat.lt_of_lt_of_le (by decide) hd) (by decide)) ⟨hca, hsa⟩ (Nat.le_of_ble_eq_true rfl) (fun V80 h => ?_)
    refine wp_iload_n dX0_town_83 rfl ?_
    refine wp_widen hca hsa ?_
    exact wp_iret dX0_town_84 rfl ⟨_, rfl, h⟩
  · replace h := h.2 (Int32.not_le.mp hc)
    refine wp_aload_n dX0_town_56 rfl ?_
    refine wp_getrs dX0_town_57 fk0_32_0 (cb_16 hC) (ck_16 hC) rfl (cr_0 hC) ?_
    refine wp_iload dX0_town_60 rfl ?_
    refine wp_aload_n dX0_town_62 rfl ?_
    obtain ⟨⟨hba2, hka2⟩, h⟩ := h
    refine wp_getr dX0_town_63 fk0_133_13 hba2 hka2 rfl ?_
    refine wp_iload dX0_town_66 rfl ?_
    obtain ⟨a68, L68, hqa68, ⟨hba68, hka68⟩, h⟩ := h
    rw [hqa68]
    refine wp_iald dX0_town_68 hba68.2 hka68 h.1 ?_
    replace h := h.2
    refine wp_iast dX0_town_69 (cb_17 hC) (ck_17 hC) h.1 ?_
    replace h := h.2
    refine wc5_4 1 dX0_town_70 rfl ?_
    refine wp_goto 49 dX0_town_73 (by decide) ?_
    exact h
theorem n0_town {l : Launch} {G : gT} {d mc ms n : Nat} {K : kT} {Rf : rT} {V : vT} {Q : Int32 → Nat → kT → rT → vT → Prop} {x1 : Int32} (h : w0_town l G d mc ms Q 0 [some (vr 16), some (vi x1), none, none, none] [] n K Rf V 0 0) : c0_town l G d mc ms n K Rf x1 V Q := MOk.enter [some (vr 16), some (vi x1), none, none, none] pn_X0 rfl rfl (Nat.le_of_ble_eq_true rfl) rfl h
theorem b0_orders_0 {l : Launch} {G : gT} {d mc ms n ca sa : Nat} {K : kT} {Rf : rT} {V : vT} {Q : Int32 → Nat → kT → rT → vT → Prop} {tl : Nat} {x1 : Int32} (hd : 60 ≤ d) (hca : ca ≤ mc) (hsa : sa ≤ ms) (hC : CM (l, G, n, K, Rf) tl) (h : c0_within (l, G, n, K, Rf) x1 1 120 V (fun r4 V4 => (r4 = 0 → Q (-1) n K Rf V4) ∧ (¬ r4 = 0 → (x1 ≤ (V4 16 7) → c3_takes (l, G, n, K, Rf) 48 19 (up2 V4 16 7 0) (fun V33 => (ca + 1 ≤ mc ∧ sa + 8 ≤ ms) ∧ (∃ d43 mc43 ms43 : Nat, (d43 < d ∧ (ca + 1) + mc43 ≤ mc ∧ (sa + 8) + ms43 ≤ ms) ∧ c18_init l G d43 mc43 ms43 (n + 1) (upK K n (.inl 14)) Rf n x1 V33 (fun n43 K43 Rf43 V43 => CM (l, G, n43, K43, Rf43) tl ∧ (((16 ≤ n ∧ n < n43) ∧ K43 n = .inl 14) ∧ (c18_read (l, G, n43, K43, Rf43) n V43 (fun r48 V48 => (0 ≤ r48 → w0_orders l G d mc ms Q 64 [some (vr 16), none, none, some (vr n), some (vi r48), some (vi 0)] [] n43 K43 Rf43 V48 ((ca + 1) + mc43) ((sa + 8) + ms43)) ∧ (r48 < 0 → Q r48 n43 K43 Rf43 V48)))))))) ∧ ((V4 16 7) < x1 → Q (-1) n K Rf V4)))) : w0_orders l G d mc ms Q 0 [some (vr 16), some (vi x1), none, none, none, none] [] n K Rf V ca sa := by
  refine wp_iload_n dX0_orders_0 rfl ?_
  refine wp_iconst (v := 1) dX0_orders_1 rfl ?_
  refine wp_bipush (v := 120) dX0_orders_2 rfl ?_
  refine wq_SI3 lk0_113 dX0_orders_4 h (rmQ_ok (Nat.lt_of_lt_of_le (by decide) hd) (by decide)) ⟨hca, hsa⟩ (Nat.le_of_ble_eq_true rfl) (fun r4 V4 h => ?_)
  refine wp_if_eq 18 dX0_orders_7 (by decide) (fun hc => ?_) (fun hc => ?_)
  · replace h := h.1 hc
    refine wp_iconst (v := (-1)) dX0_orders_18 rfl ?_
    refine wp_widen hca hsa ?_
    exact wp_iret dX0_orders_19 rfl ⟨_, rfl, h⟩
  · replace h := h.2 hc
    refine wp_iload_n dX0_orders_10 rfl ?_
    refine wp_aload_n dX0_orders_11 rfl ?_
    refine wp_geti dX0_orders_12 fk0_106_0 (cb_16 hC) (ck_16 hC) rfl ?_
    refine wp_icmp_le 20 dX0_orders_15 (by decide) (fun hc => ?_) (fun hc => ?_)
    · replace h := h.1 hc
      refine wp_aload_n dX0_orders_20 rfl ?_
      refine wp_iconst (v := 0) dX0_orders_21 rfl ?_
      refine wp_puti dX0_orders_22 fp0_106_0 (cb_16 hC) (ck_16 hC) rfl ?_
      refine wp_aload_n dX0_orders_25 rfl ?_
      refine wp_getrs dX0_orders_26 fk0_51_0 (cb_16 hC) (ck_16 hC) rfl (cr_3 hC) ?_
      refine wp_aload_n dX0_orders_29 rfl ?_
      refine wp_getrs dX0_orders_30 fk0_47_0 (cb_16 hC) (ck_16 hC) rfl (cr_2 hC) ?_
      refine wq_VR1 lk0_139 rfl (FO.b0 (cf_48 hC)) (FO.k0 (cf_48 hC)) dX0_orders_33 h (rmQ_ok (Nat.lt_of_lt_of_le (by decide) hd) (by decide)) ⟨hca, hsa⟩ (Nat.le_of_ble_eq_true rfl) (fun r33 V33 h => ?_)
      obtain ⟨rfl, h⟩ := h
      refine wa6_2 dX0_orders_36 ?_
      refine wp_new dX0_orders_37 fn0_143 h.1.1 h.1.2 ?_
      replace hca := h.1.1
      replace hsa := h.1.2
      replace h := h.2
      replace hC := hC.ext (EX.new (.inl 14))
      refine wp_dup dX0_orders_40 ?_
      refine wp_aload_n dX0_orders_41 rfl ?_
      refine wp_iload_n dX0_orders_42 rfl ?_
      obtain ⟨d43, mc43, ms43, ⟨hdd, hmc, hms⟩, h⟩ := h
      refine wx_I2 lk0_145 dX0_orders_43 h (rmQ_ok hdd (by decide)) ⟨hmc, hms⟩ (Nat.le_of_ble_eq_true rfl) (fun n43 K43 Rf43 V43 h => ?_)
      replace hca := hmc
      replace hsa := hms
      obtain ⟨hC, h⟩ := h
      refine wa6_3 dX0_orders_46 ?_
      refine wp_aload_n dX0_orders_47 rfl ?_
      obtain ⟨⟨hbr, hkr⟩, h⟩ := h
      refine wq_VI0 lk0_146 rfl hbr hkr dX0_orders_48 h (rmQ_ok (Nat.lt_of_lt_of_le (by decide) hd) (by decide)) ⟨hca, hsa⟩ (Nat.le_of_ble_eq_true rfl) (fun r48 V48 h => ?_)
      refine wi6_4 dX0_orders_51 ?_
      refine wp_iload dX0_orders_53 rfl ?_
      refine wp_if_ge 61 dX0_orders_55 (by decide) (fun hc => ?_) (fun hc => ?_)
      · replace h := h.1 hc
        refine wp_iconst (v := 0) dX0_orders_61 rfl ?_
        refine wi6_5 dX0_orders_62 ?_
        exact wp_drop [some (vr 16), none, none, some (vr n), some (vi r48), some (vi 0)] ⟨rfl, ⟨rfl, ⟨rfl, ⟨rfl, trivial⟩⟩⟩⟩ h
      · replace h := h.2 (Int32.not_le.mp hc)
        refine wp_iload dX0_orders_58 rfl ?_
        refine wp_widen hca hsa ?_
        exact wp_iret dX0_orders_60 rfl ⟨_, rfl, h⟩
    · replace h := h.2 (Int32.not_le.mp hc)
      refine wp_iconst (v := (-1)) dX0_orders_18 rfl ?_
      refine wp_widen hca hsa ?_
      exact wp_iret dX0_orders_19 rfl ⟨_, rfl, h⟩
theorem b0_orders_64 {l : Launch} {G : gT} {d mc ms n ca sa : Nat} {K : kT} {Rf : rT} {V : vT} {Q : Int32 → Nat → kT → rT → vT → Prop} {tl : Nat} {x4 x5 : Int32} {a3 : Nat} (hd : 60 ≤ d) (hca : ca ≤ mc) (hsa : sa ≤ ms) (hC : CM (l, G, n, K, Rf) tl) (h : (96 ≤ x5 → c3_takes (l, G, n, K, Rf) 19 48 V (fun V103 => Q x4 n K Rf V103)) ∧ (x5 < 96 → ((16 ≤ a3 ∧ a3 < (l, G, n, K, Rf).2.2.1) ∧ (l, G, n, K, Rf).2.2.2.1 a3 = .inl 14) ∧ (∃ a77 L77, Rf a3 5 = some a77 ∧ ((16 ≤ a77 ∧ a77 < n) ∧ K a77 = .inr (2, L77)) ∧ (vp_in x5 L77 ∧ (((V a77 ((x5).toNatClampNeg)) = 0 → w0_orders l G d mc ms Q 64 [some (vr 16), none, none, some (vr a3), some (vi x4), some (vi (x5 + 1))] [] n K Rf V ca sa) ∧ (¬ (V a77 ((x5).toNatClampNeg)) = 0 → vp_in x5 96 ∧ (w0_orders l G d mc ms Q 64 [some (vr 16), none, none, some (vr a3), some (vi x4), some (vi (x5 + 1))] [] n K Rf (up2 V 17 (x5.toNatClampNeg) 3) ca sa))))))) : w0_orders l G d mc ms Q 64 [some (vr 16), none, none, some (vr a3), some (vi x4), some (vi x5)] [] n K Rf V ca sa := by
  refine wp_iload dX0_orders_64 rfl ?_
  refine wp_bipush (v := 96) dX0_orders_66 rfl ?_
  refine wp_icmp_ge 95 dX0_orders_68 (by decide) (fun hc => ?_) (fun hc => ?_)
  · replace h := h.1 hc
    refine wp_aload_n dX0_orders_95 rfl ?_
    refine wp_getrs dX0_orders_96 fk0_47_0 (cb_16 hC) (ck_16 hC) rfl (cr_2 hC) ?_
    refine wp_aload_n dX0_orders_99 rfl ?_
    refine wp_getrs dX0_orders_100 fk0_51_0 (cb_16 hC) (ck_16 hC) rfl (cr_3 hC) ?_
    refine wq_VR1 lk0_139 rfl (FO.b0 (cf_19 hC)) (FO.k0 (cf_19 hC)) dX0_orders_103 h (rmQ_ok (Nat.lt_of_lt_of_le (by decide) hd) (by decide)) ⟨hca, hsa⟩ (Nat.le_of_ble_eq_true rfl) (fun r103 V103 h => ?_)
    obtain ⟨rfl, h⟩ := h
    refine wa6_2 dX0_orders_106 ?_
    refine wp_iload dX0_orders_107 rfl ?_
    refine wp_widen hca hsa ?_
    exact wp_iret dX0_orders_109 rfl ⟨_, rfl, h⟩
  · replace h := h.2 (Int32.not_le.mp hc)
    refine wp_aload_n dX0_orders_71 rfl ?_
    obtain ⟨⟨hba3, hka3⟩, h⟩ := h
    refine wp_getr dX0_orders_72 fk0_147_14 hba3 hka3 rfl ?_
    refine wp_iload dX0_orders_75 rfl ?_
    obtain ⟨a77, L77, hqa77, ⟨hba77, hka77⟩, h⟩ := h
    rw [hqa77]
    refine wp_zald dX0_orders_77 hba77.2 hka77 h.1 ?_
    replace h := h.2
    refine wp_if_eq 89 dX0_orders_78 (by decide) (fun hc => ?_) (fun hc => ?_)
    · replace h := h.1 hc
      refine wc6_5 1 dX0_orders_89 rfl ?_
      refine wp_goto 64 dX0_orders_92 (by decide) ?_
      exact h
    · replace h := h.2 hc
      refine wp_aload_n dX0_orders_81 rfl ?_
      refine wp_getrs dX0_orders_82 fk0_32_0 (cb_16 hC) (ck_16 hC) rfl (cr_0 hC) ?_
      refine wp_iload dX0_orders_85 rfl ?_
      refine wp_iconst (v := 3) dX0_orders_87 rfl ?_
      refine wp_iast dX0_orders_88 (cb_17 hC) (ck_17 hC) h.1 ?_
      replace h := h.2
      refine wc6_5 1 dX0_orders_89 rfl ?_
      refine wp_goto 64 dX0_orders_92 (by decide) ?_
      exact h
theorem n0_orders {l : Launch} {G : gT} {d mc ms n : Nat} {K : kT} {Rf : rT} {V : vT} {Q : Int32 → Nat → kT → rT → vT → Prop} {x1 : Int32} (h : w0_orders l G d mc ms Q 0 [some (vr 16), some (vi x1), none, none, none, none] [] n K Rf V 0 0) : c0_orders l G d mc ms n K Rf x1 V Q := MOk.enter [some (vr 16), some (vi x1), none, none, none, none] pn_X0 rfl rfl (Nat.le_of_ble_eq_true rfl) rfl h
