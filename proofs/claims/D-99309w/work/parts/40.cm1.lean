/-! THE COMPONENT'S METHODS, what they answer: a fire at f, seen as a row -/
/-- a fire's arrays, things and numbers, laid as the model's row -/
def fv (V : vT) (f : Nat) : nT := fun j =>
  if j < 96 then V (f + 1) j else if j < 192 then V (f + 2) (j - 96) else if j < 216 then V (f + 5 + (j - 192)) 3 else if j < 240 then V (f + 5 + (j - 216)) 0
  else if j < 264 then V (f + 5 + (j - 240)) 1 else if j < 288 then V (f + 5 + (j - 264)) 2 else if j < 312 then V (f + 5 + (j - 288)) 4
  else if j = 312 then V f 4 else if j = 313 then V f 5 else if j = 314 then V f 6 else 0
theorem fv_st (V : vT) (f : Nat) {p : Nat} (hp : p < 96) : V (f + 1) p = fv V f p := by unfold fv; rw [if_pos hp]
theorem fv_le (V : vT) (f : Nat) {p : Nat} (hp : p < 96) : V (f + 2) p = fv V f (96 + p) := by
  unfold fv; simp (disch := omega) only [if_neg, if_pos]; rw [show 96 + p - 96 = p by omega]
theorem fv_t3 (V : vT) (f : Nat) {i : Nat} (hi : i < 24) : V (f + 5 + i) 3 = fv V f (192 + i) := by
  unfold fv; simp (disch := omega) only [if_neg, if_pos]; rw [show 192 + i - 192 = i by omega]
theorem fv_t0 (V : vT) (f : Nat) {i : Nat} (hi : i < 24) : V (f + 5 + i) 0 = fv V f (216 + i) := by
  unfold fv; simp (disch := omega) only [if_neg, if_pos]; rw [show 216 + i - 216 = i by omega]
theorem fv_t1 (V : vT) (f : Nat) {i : Nat} (hi : i < 24) : V (f + 5 + i) 1 = fv V f (240 + i) := by
  unfold fv; simp (disch := omega) only [if_neg, if_pos]; rw [show 240 + i - 240 = i by omega]
theorem fv_t2 (V : vT) (f : Nat) {i : Nat} (hi : i < 24) : V (f + 5 + i) 2 = fv V f (264 + i) := by
  unfold fv; simp (disch := omega) only [if_neg, if_pos]; rw [show 264 + i - 264 = i by omega]
theorem fv_t4 (V : vT) (f : Nat) {i : Nat} (hi : i < 24) : V (f + 5 + i) 4 = fv V f (288 + i) := by
  unfold fv; simp (disch := omega) only [if_neg, if_pos]; rw [show 288 + i - 288 = i by omega]
theorem fv_w (V : vT) (f : Nat) : V f 4 = fv V f 312 := rfl
theorem fv_m (V : vT) (f : Nat) : V f 5 = fv V f 313 := rfl
theorem fv_x (V : vT) (f : Nat) : V f 6 = fv V f 314 := rfl
theorem fv_us {V : vT} {f p : Nat} {x : Int32} (hp : p < 96) : fv (up2 V (f + 1) p x) f = upd (fv V f) p x := by
  funext j; unfold fv upd up2; grind
theorem fv_ul {V : vT} {f p : Nat} {x : Int32} (hp : p < 96) : fv (up2 V (f + 2) p x) f = upd (fv V f) (96 + p) x := by
  funext j; unfold fv upd up2; grind
theorem fv_ut4 {V : vT} {f i : Nat} {x : Int32} (hi : i < 24) : fv (up2 V (f + 5 + i) 4 x) f = upd (fv V f) (288 + i) x := by
  funext j; unfold fv upd up2; grind
theorem fv_um {V : vT} {f : Nat} {x : Int32} : fv (up2 V f 5 x) f = upd (fv V f) 313 x := by
  funext j; unfold fv upd up2; grind
theorem fv_ux {V : vT} {f : Nat} {x : Int32} : fv (up2 V f 6 x) f = upd (fv V f) 314 x := by
  funext j; unfold fv upd up2; grind (splits := 20)
theorem fv_fr {V V' : vT} {f : Nat} (h : ∀ o, f ≤ o → o < f + 29 → o ≠ f + 3 → o ≠ f + 4 → V' o = V o) : fv V' f = fv V f := by
  funext j
  unfold fv
  rw [h f (by omega) (by omega) (by omega) (by omega), h (f + 1) (by omega) (by omega) (by omega) (by omega), h (f + 2) (by omega) (by omega) (by omega) (by omega)]
  split
  · rfl
  split
  · rfl
  split
  · rw [h _ (by omega) (by omega) (by omega) (by omega)]
  split
  · rw [h _ (by omega) (by omega) (by omega) (by omega)]
  split
  · rw [h _ (by omega) (by omega) (by omega) (by omega)]
  split
  · rw [h _ (by omega) (by omega) (by omega) (by omega)]
  split
  · rw [h _ (by omega) (by omega) (by omega) (by omega)]
  rfl
/-- told and gone are 0 or 1 -/
def Bl (N : nT) : Prop := ∀ i, i < 24 → (N (192 + i) = 0 ∨ N (192 + i) = 1) ∧ (N (288 + i) = 0 ∨ N (288 + i) = 1)
theorem Bl.up {N : nT} {j : Nat} {x : Int32} (h : Bl N) (hj : j < 192 ∨ 312 ≤ j) : Bl (upd N j x) := fun i hi => by
  rw [upd_n (j := 192 + i) (by omega), upd_n (j := 288 + i) (by omega)]; exact h i hi
theorem Bl.gone {N : nT} {p : Nat} (h : Bl N) : Bl (goneN p N) := by
  intro i hi
  unfold goneN
  rw [if_neg (by omega)]
  refine ⟨(h i hi).1, ?_⟩
  split
  · exact Or.inr rfl
  · exact (h i hi).2
theorem Bl.over {L : lawT} {Kd : nT} {p w : Nat} {N : nT} (hp : p < 96) (h : Bl N) : Bl (overA L Kd p w N) := by
  unfold overA
  cases hn : nx p w with
  | none => exact h
  | some q =>
    have hq := nx_lt hp hn
    simp only
    split
    · split
      · exact ((h.up (by omega)).up (by omega)).up (by omega)
      · exact h.up (by omega)
    · exact h
theorem Bl.it {L : lawT} {Kd : nT} {p : Nat} {N : nT} (hp : p < 96) (h : Bl N) : ∀ n, Bl (itN (fun w M => overA L Kd p w M) n N)
  | 0 => h
  | n + 1 => (Bl.it hp h n).over hp
theorem Bl.out {L : lawT} {p : Nat} {N : nT} (hp : p < 96) (h : Bl N) : Bl (outA L p N) := by
  have key : ∀ y : Int32, Bl (if y = 0 then upd (upd (drawN N) (96 + p) y) p 2 else upd (drawN N) (96 + p) y) := by
    intro y
    split
    · exact ((h.up (by omega)).up (by omega)).up (by omega)
    · exact (h.up (by omega)).up (by omega)
  exact key _
theorem Bl.turn {L : lawT} {Kd : nT} {p : Nat} {N : nT} (hp : p < 96) (h : Bl N) : Bl (turnA L Kd p N) := (h.gone.it hp 4).out hp
theorem Bl.turns {L : lawT} {Kd N0 : nT} {N : nT} (h : Bl N) : ∀ n, n ≤ 96 → Bl (itN (fun p M => if N0 p = 1 then turnA L Kd p M else M) n N)
  | 0, _ => h
  | n + 1, hn => by
    simp only [itN]
    split
    · exact (Bl.turns h n (by omega)).turn (by omega)
    · exact Bl.turns h n (by omega)
theorem Bl.minute {L : lawT} {Kd : nT} {N : nT} (h : Bl N) : Bl (minuteA L Kd N) := (h.turns 96 (Nat.le_refl _)).up (by omega)
theorem Bl.minutes {L : lawT} {Kd : nT} : ∀ (n : Nat) {N : nT}, Bl N → Bl (minutesA L Kd n N)
  | 0, _, h => h
  | n + 1, N, h => by
    simp only [minutesA]
    split
    · exact Bl.minutes n h.minute
    · exact h
/-- a fire's own rows and the moment apart, all is as it was -/
def Fc (f : Nat) (V V' : vT) : Prop := ∀ o, o < f ∨ f + 29 ≤ o ∨ o = f + 3 → o ≠ 18 → V' o = V o
theorem Fc.rf {f : Nat} {V : vT} : Fc f V V := fun _ _ _ => rfl
theorem Fc.tr {f : Nat} {V V1 V2 : vT} (h : Fc f V V1) (h1 : Fc f V1 V2) : Fc f V V2 := fun o ho h2 => (h1 o ho h2).trans (h o ho h2)
theorem Fc.up {f : Nat} {V V1 : vT} {o j : Nat} {x : Int32} (h : Fc f V V1) (ho : (f ≤ o ∧ o < f + 29 ∧ o ≠ f + 3) ∨ o = 18) : Fc f V (up2 V1 o j x) :=
  fun a ha h2 => (up2_n (by omega)).trans (h a ha h2)
theorem Fc.of18 {f : Nat} {V V1 : vT} (h : Fr [18] V V1) : Fc f V V1 := fun o _ h2 => h o (by simpa using h2)
/-- the two tables of ways -/
def CB (V : vT) : Prop := ∀ w, w < 4 → V 1 w = (if w = 1 then 1 else if w = 3 then -1 else 0) ∧ V 2 w = (if w = 0 then -1 else if w = 2 then 1 else 0)
theorem CB.fc {f : Nat} {V V' : vT} (h : CB V) (hF : Fc f V V') (hf : 19 ≤ f) : CB V' := by
  unfold CB; rw [hF 1 (by omega) (by omega), hF 2 (by omega) (by omega)]; exact h
theorem CB.fr {V V' : vT} (h : CB V) (h1 : V' 1 = V 1) (h2 : V' 2 = V 2) : CB V' := by
  unfold CB; rw [h1, h2]; exact h
section C0a
variable {E : eT} {V : vT} {k : Int32 → vT → Prop} {kv : vT → Prop} {x1 x2 x3 x4 : Int32} {tl f : Nat}
theorem s0_in (hC : CM E tl) (h : k (b2 (0 ≤ x1 ∧ x1 < x2)) V) : c0_in E x1 x2 V k := by
  refine n0_in (b0_in_0 hC ?_)
  grind [b2]
theorem s0_within (hC : CM E tl) (h : k (b2 (x2 ≤ x1 ∧ x1 ≤ x3)) V) : c0_within E x1 x2 x3 V k := by
  refine n0_within (b0_within_0 hC ?_)
  grind [b2]
theorem s0_placeAt (hC : CM E tl) (h : k (if (0 ≤ x1 ∧ x1 < 12) ∧ (0 ≤ x2 ∧ x2 < 8) then 12 * x2 + x1 else -1) V) : c0_placeAt E x1 x2 V k := by
  refine n0_placeAt (b0_placeAt_0 hC (s0_in hC ⟨fun h1 => ?_, fun h1 => s0_in hC ⟨fun h2 => ?_, fun h2 => ?_⟩⟩)) <;> grind [b2]
def nexF (x a b : Int32) : Int32 := if (0 ≤ rmd x 12 + a ∧ rmd x 12 + a < 12) ∧ (0 ≤ x / 12 + b ∧ x / 12 + b < 8) then 12 * (x / 12 + b) + (rmd x 12 + a) else -1
theorem nexF_nx : (List.range 96).all (fun p => (List.range 4).all fun w => decide (nexF (nI p) (if w = 1 then 1 else if w = 3 then -1 else 0) (if w = 0 then -1 else if w = 2 then 1 else 0) = oI (nx p w))) = true := by decide +kernel
theorem s0_next {p w : Nat} (hC : CM E tl) (hB : CB V) (hp : p < 96) (hw : w < 4) (h : k (oI (nx p w)) V) : c0_next E (nI p) (nI w) V k := by
  have hv : vp_in (nI w) 4 := vp_n hw (by decide)
  refine n0_next (b0_next_0 hC ⟨hv, hv, s0_placeAt hC ?_⟩)
  rw [nI_clamp (by omega), (hB w hw).1, (hB w hw).2]
  have e := List.all_eq_true.mp nexF_nx p (List.mem_range.mpr hp)
  have e := of_decide_eq_true (List.all_eq_true.mp e w (List.mem_range.mpr hw))
  rw [← e] at h
  exact h
theorem s0_held (hC : CM E tl) (h : k (mxI 0 (mnI x2 x1)) V) : c0_held E x1 x2 V k := n0_held (b0_held_0 hC h)
theorem s4_isAt {i p : Nat} (hF : FO E f) (hb : Bl (fv V f)) (hi : i < 24) (h : k (b2 (liesB (fv V f) p i)) V) : c4_isAt E (f + 5 + i) (nI p) V k := by
  refine n4_isAt (b4_isAt_0 (hF.bt hi) (hF.kt hi) ?_)
  rw [fv_t3 V f hi, fv_t4 V f hi, fv_t0 V f hi]
  obtain ⟨h1, h2⟩ := hb i hi
  refine ⟨fun q => ?_, fun q => ⟨fun q2 => ?_, fun q2 => ⟨fun q3 => ?_, fun q3 => ?_⟩⟩⟩ <;> grind [b2]
theorem cvalueAt_loop {p : Nat} (hC : CM E tl) (hF : FO E f) (hb : Bl (fv V f)) (h : k (valuesA (fv V f) p) V) : ∀ m i, i + m = 24 → w3_valueAt E k 14 [none, some (vi (nI p)), some (vi (sI (fun i => if liesB (fv V f) p i ∧ fv V f (264 + i) = 0 then fv V f (240 + i) else 0) i)), some (vr (f + 4)), some (vi 24), some (vi (nI i)), none] [] V := by
  intro m
  induction m with
  | zero =>
    intro i hi
    have : i = 24 := by omega
    subst this
    exact b3_valueAt_14 hC hF ⟨fun _ => h, fun h1 => absurd h1 (by decide)⟩
  | succ m ih =>
    intro i hi
    have ih := ih (i + 1) (by omega)
    refine b3_valueAt_14 hC hF ⟨fun h1 => absurd h1 ?_, fun _ => ?_⟩
    · simp (disch := omega) only [lle_n]; omega
    · simp (disch := omega) only [nI_clamp, nI_1, Int32.add_zero]
      refine ⟨vp_n (by omega) (by decide), s4_isAt hF hb (by omega) ?_⟩
      rw [fv_t2 V f (by omega), fv_t1 V f (by omega)]
      simp only [sI] at ih
      refine ⟨fun h1 => ?_, fun h1 => ⟨fun h2 => ?_, fun h2 => ?_⟩⟩
      · rw [b2_0] at h1
        rwa [if_neg (fun q => h1 q.1), Int32.add_zero] at ih
      · rwa [if_neg (fun q => h2 q.2), Int32.add_zero] at ih
      · rw [b2_0] at h1
        rwa [if_pos ⟨Classical.not_not.mp h1, h2⟩] at ih
theorem s3_valueAt {p : Nat} (hC : CM E tl) (hF : FO E f) (hb : Bl (fv V f)) (h : k (valuesA (fv V f) p) V) : c3_valueAt E f (nI p) V k :=
  n3_valueAt (b3_valueAt_0 hC hF (cvalueAt_loop hC hF hb h 24 0 rfl))
theorem csumsAt_loop {p : Nat} (hC : CM E tl) (hF : FO E f) (hb : Bl (fv V f)) (h : k (sumsA (fv V f) p) V) : ∀ m i, i + m = 24 → w3_sumsAt E k 14 [none, some (vi (nI p)), some (vi (sI (fun i => if liesB (fv V f) p i then fv V f (264 + i) else 0) i)), some (vr (f + 4)), some (vi 24), some (vi (nI i)), none] [] V := by
  intro m
  induction m with
  | zero =>
    intro i hi
    have : i = 24 := by omega
    subst this
    exact b3_sumsAt_14 hC hF ⟨fun _ => h, fun h1 => absurd h1 (by decide)⟩
  | succ m ih =>
    intro i hi
    have ih := ih (i + 1) (by omega)
    refine b3_sumsAt_14 hC hF ⟨fun h1 => absurd h1 ?_, fun _ => ?_⟩
    · simp (disch := omega) only [lle_n]; omega
    · simp (disch := omega) only [nI_clamp, nI_1, Int32.add_zero]
      refine ⟨vp_n (by omega) (by decide), s4_isAt hF hb (by omega) ?_⟩
      rw [fv_t2 V f (by omega)]
      simp only [sI] at ih
      refine ⟨fun h1 => ?_, fun h1 => ?_⟩
      · rw [b2_0] at h1
        rwa [if_neg h1, Int32.add_zero] at ih
      · rw [b2_0] at h1
        rwa [if_pos (Classical.not_not.mp h1)] at ih
theorem s3_sumsAt {p : Nat} (hC : CM E tl) (hF : FO E f) (hb : Bl (fv V f)) (h : k (sumsA (fv V f) p) V) : c3_sumsAt E f (nI p) V k :=
  n3_sumsAt (b3_sumsAt_0 hC hF (csumsAt_loop hC hF hb h 24 0 rfl))
theorem cthingsAt_loop {p : Nat} (hC : CM E tl) (hF : FO E f) (hb : Bl (fv V f)) (h : k (thingsA (fv V f) p) V) : ∀ m i, i + m = 24 → w3_thingsAt E k 4 [some (vr f), some (vi (nI p)), some (vi (oS (fun i => liesB (fv V f) p i) i)), some (vi (nI i))] [] V := by
  intro m
  induction m with
  | zero =>
    intro i hi
    have : i = 24 := by omega
    subst this
    exact b3_thingsAt_4 hC hF ⟨fun _ => h, fun h1 => absurd h1 (by decide)⟩
  | succ m ih =>
    intro i hi
    have ih := ih (i + 1) (by omega)
    refine b3_thingsAt_4 hC hF ⟨fun h1 => absurd h1 ?_, fun _ => ?_⟩
    · simp (disch := omega) only [lle_n]; omega
    · simp (disch := omega) only [nI_clamp, nI_1, Int32.or_zero]
      refine ⟨vp_n (by omega) (by decide), s4_isAt hF hb (by omega) ?_⟩
      simp only [oS] at ih
      refine ⟨fun h1 => ?_, fun h1 => ?_⟩
      · rw [b2_0] at h1
        rwa [if_neg h1] at ih
      · rw [b2_0] at h1
        rwa [if_pos (Classical.not_not.mp h1)] at ih
theorem s3_thingsAt {p : Nat} (hC : CM E tl) (hF : FO E f) (hb : Bl (fv V f)) (h : k (thingsA (fv V f) p) V) : c3_thingsAt E f (nI p) V k :=
  n3_thingsAt (b3_thingsAt_0 hC hF (cthingsAt_loop hC hF hb h 24 0 rfl))
theorem cgone_loop (hC : CM E tl) (hF : FO E f) (hb : Bl (fv V f)) (h : k (goneA (fv V f)) V) : ∀ m i, i + m = 24 → w3_gone E k 4 [some (vr f), some (vi (oS (fun i => fv V f (192 + i) = 1 ∧ fv V f (288 + i) = 1) i)), some (vi (nI i))] [] V := by
  intro m
  induction m with
  | zero =>
    intro i hi
    have : i = 24 := by omega
    subst this
    exact b3_gone_4 hC hF ⟨fun _ => h, fun h1 => absurd h1 (by decide)⟩
  | succ m ih =>
    intro i hi
    have ih := ih (i + 1) (by omega)
    obtain ⟨g1, g2⟩ := hb i (by omega)
    refine b3_gone_4 hC hF ⟨fun h1 => absurd h1 ?_, fun _ => ?_⟩
    · simp (disch := omega) only [lle_n]; omega
    · simp (disch := omega) only [nI_clamp, nI_1, Int32.or_zero]
      rw [fv_t3 V f (by omega), fv_t4 V f (by omega)]
      simp only [oS] at ih
      refine ⟨vp_n (by omega) (by decide), fun h1 => ?_, fun h1 => ⟨vp_n (by omega) (by decide), fun h2 => ?_, fun h2 => ?_⟩⟩
      · rwa [if_neg (by rw [h1]; intro q; exact absurd q.1 (by decide))] at ih
      · rwa [if_neg (by rw [h2]; intro q; exact absurd q.2 (by decide))] at ih
      · rwa [if_pos ⟨g1.resolve_left h1, g2.resolve_left h2⟩] at ih
theorem s3_gone (hC : CM E tl) (hF : FO E f) (hb : Bl (fv V f)) (h : k (goneA (fv V f)) V) : c3_gone E f V k :=
  n3_gone (b3_gone_0 hC hF (cgone_loop hC hF hb h 24 0 rfl))
theorem clost_loop (hC : CM E tl) (hF : FO E f) (hb : Bl (fv V f)) (h : k (lostA (fv V f)) V) : ∀ m i, i + m = 24 → w3_lost E k 13 [none, some (vi (sI (fun i => if fv V f (192 + i) = 1 ∧ fv V f (288 + i) = 1 then fv V f (240 + i) else 0) i)), some (vr (f + 4)), some (vi 24), some (vi (nI i)), none] [] V := by
  intro m
  induction m with
  | zero =>
    intro i hi
    have : i = 24 := by omega
    subst this
    exact b3_lost_13 hC hF ⟨fun _ => h, fun h1 => absurd h1 (by decide)⟩
  | succ m ih =>
    intro i hi
    have ih := ih (i + 1) (by omega)
    obtain ⟨g1, g2⟩ := hb i (by omega)
    refine b3_lost_13 hC hF ⟨fun h1 => absurd h1 ?_, fun _ => ?_⟩
    · simp (disch := omega) only [lle_n]; omega
    · simp (disch := omega) only [nI_clamp, nI_1, Int32.add_zero]
      rw [fv_t3 V f (by omega), fv_t4 V f (by omega), fv_t1 V f (by omega)]
      simp only [sI] at ih
      refine ⟨vp_n (by omega) (by decide), fun h1 => ?_, fun h1 => ⟨fun h2 => ?_, fun h2 => ?_⟩⟩
      · rwa [if_neg (by rw [h1]; intro q; exact absurd q.1 (by decide)), Int32.add_zero] at ih
      · rwa [if_neg (by rw [h2]; intro q; exact absurd q.2 (by decide)), Int32.add_zero] at ih
      · rwa [if_pos ⟨g1.resolve_left h1, g2.resolve_left h2⟩] at ih
theorem s3_lost (hC : CM E tl) (hF : FO E f) (hb : Bl (fv V f)) (h : k (lostA (fv V f)) V) : c3_lost E f V k :=
  n3_lost (b3_lost_0 hC hF (clost_loop hC hF hb h 24 0 rfl))
theorem cN_c {c c' : Nat → Prop} [DecidablePred c] [DecidablePred c'] : ∀ n, (∀ i, i < n → (c i ↔ c' i)) → cN c n = cN c' n
  | 0, _ => rfl
  | n + 1, h => by
    simp only [cN]
    rw [cN_c n (fun i hi => h i (by omega))]
    by_cases hc : c n
    · rw [if_pos hc, if_pos ((h n (by omega)).mp hc)]
    · rw [if_neg hc, if_neg (fun q => hc ((h n (by omega)).mpr q))]
theorem cthose_loop (hC : CM E tl) (hF : FO E f) (h : k (faringA (fv V f) x1) V) : ∀ m i, i + m = 96 → w3_those E k 4 [some (vr f), some (vi x1), some (vi (nI (cN (fun p => fv V f p = x1) i))), some (vi (nI i))] [] V := by
  intro m
  induction m with
  | zero =>
    intro i hi
    have : i = 96 := by omega
    subst this
    exact b3_those_4 hC hF ⟨fun _ => h, fun h1 => absurd h1 (by decide)⟩
  | succ m ih =>
    intro i hi
    have ih := ih (i + 1) (by omega)
    refine b3_those_4 hC hF ⟨fun h1 => absurd h1 ?_, fun _ => ?_⟩
    · simp (disch := omega) only [lle_n]; omega
    · simp (disch := omega) only [nI_clamp, nI_1, Int32.add_zero]
      rw [fv_st V f (by omega)]
      simp only [cN] at ih
      refine ⟨vp_n (by omega) (by decide), fun h1 => ?_, fun h1 => ?_⟩
      · rwa [if_neg h1] at ih
      · rwa [if_pos h1] at ih
theorem s3_those (hC : CM E tl) (hF : FO E f) (h : k (faringA (fv V f) x1) V) : c3_those E f x1 V k :=
  n3_those (b3_those_0 hC hF (cthose_loop hC hF h 96 0 rfl))
theorem caround_loop {p : Nat} (hC : CM E tl) (hF : FO E f) (hB : CB V) (hp : p < 96) (h : k (aroundA (fv V f) p) V) : ∀ m i, i + m = 4 → w3_around E k 4 [some (vr f), some (vi (nI p)), some (vi (nI (cN (fun w => burnB (fv V f) p w) i))), some (vi (nI i))] [] V := by
  intro m
  induction m with
  | zero =>
    intro i hi
    have : i = 4 := by omega
    subst this
    exact b3_around_4 hC hF ⟨fun _ => h, fun h1 => absurd h1 (by decide)⟩
  | succ m ih =>
    intro i hi
    have ih := ih (i + 1) (by omega)
    refine b3_around_4 hC hF ⟨fun h1 => absurd h1 ?_, fun _ => s0_next hC hB hp (by omega) ⟨fun h1 => ?_, fun h1 => s0_next hC hB hp (by omega) ?_⟩⟩
    · simp (disch := omega) only [lle_n]; omega
    · simp only [cN, burnB] at ih
      rw [oI_m1 (fun q hq => Nat.lt_trans (nx_lt hp hq) (by decide))] at h1
      rw [h1] at ih
      simp only [Bool.false_eq_true, if_false] at ih
      simpa only [nI_1, Int32.add_zero] using ih
    · cases hn : nx p i with
      | none => rw [hn] at h1; exact absurd rfl h1
      | some q =>
        have hq := nx_lt hp hn
        simp only [oI]
        simp (disch := omega) only [nI_clamp, nI_1, Int32.add_zero]
        rw [fv_st V f hq]
        simp only [cN, burnB, hn, decide_eq_true_eq] at ih
        refine ⟨vp_n (by omega) (by decide), fun h2 => ?_, fun h2 => ?_⟩
        · rwa [if_neg h2] at ih
        · rwa [if_pos h2] at ih
theorem s3_around {p : Nat} (hC : CM E tl) (hF : FO E f) (hB : CB V) (hp : p < 96) (h : k (aroundA (fv V f) p) V) : c3_around E f (nI p) V k :=
  n3_around (b3_around_0 hC hF (caround_loop hC hF hB hp h 4 0 rfl))
/-- the moment's facts -/
def mF (V : vT) : nT := fun j => if j < 9 then V 18 (j + 1) else 0
theorem s3_asked {p : Nat} (hC : CM E tl) (hF : FO E f) (hB : CB V) (hb : Bl (fv V f)) (hf : 19 ≤ f) (hp : p < 96) (h : ∀ V', Fr [18] V V' → mF V' = factsA (fv V f) p x2 x3 x4 → kv V') : c3_asked E f (nI p) x2 x3 x4 V kv := by
  refine n3_asked (b3_asked_0 hC hF (s3_around hC hF hB hp (s3_valueAt hC hF hb (s3_sumsAt hC hF hb (n2_of (b2_of_0 hC (n2_with (b2_with_0 hC (h _ ?_ ?_)))))))))
  · exact ((((((((Fr.rf.up (by decide)).up (by decide)).up (by decide)).up (by decide)).up (by decide)).up (by decide)).up (by decide)).up (by decide)).up (by decide)
  · funext j
    simp only [up2_n (show f ≠ 18 by omega)]
    unfold mF
    by_cases hj : j < 9
    · rw [if_pos hj]
      simp only [up2_r]
      rcases (show j = 0 ∨ j = 1 ∨ j = 2 ∨ j = 3 ∨ j = 4 ∨ j = 5 ∨ j = 6 ∨ j = 7 ∨ j = 8 by omega) with rfl | rfl | rfl | rfl | rfl | rfl | rfl | rfl | rfl <;> simp [upd, factsA, fv_w V f, fv_m V f]
    · rw [if_neg hj, factsA_9 (by omega)]
theorem s3_draw (hC : CM E tl) (hF : FO E f) (h : k (rmd (drawN (fv V f) 314) 10) (up2 V f 6 (rmd ((25173 * fv V f 314) + 13849) 65536))) : c3_draw E f V k := by
  refine n3_draw (b3_draw_0 hC hF ?_)
  simp only [drawN, upd_s] at h
  rw [fv_x V f, up2_s]
  exact h
theorem s3_lights {p : Nat} (hC : CM E tl) (hF : FO E f) (hp : p < 96) (h : kv (up2 (up2 V (f + 1) p 1) (f + 2) p x2)) : c3_lights E f (nI p) x2 V kv := by
  have hv : vp_in (nI p) 96 := vp_n hp (by decide)
  refine n3_lights (b3_lights_0 hC hF ⟨hv, hv, ?_⟩)
  rwa [nI_clamp (by omega)]
end C0a
