/-! ROWS: what stays well in a minute; copies -/
def OkN (N : nT) : Prop := (∀ p, p < 96 → N p ≠ 1 → N (96 + p) = 0) ∧ Bl N ∧ (∀ i, i < 24 → ∃ a, a ≤ 9999 ∧ N (240 + i) = nI a) ∧ (∀ i, i < 24 → ∃ a, a ≤ 9999 ∧ N (264 + i) = nI a) ∧ ∃ a, a ≤ 9999 ∧ N 313 = nI a
theorem OkN.left {N : nT} (h : OkN N) : ∀ p, p < 96 → N p ≠ 1 → N (96 + p) = 0 := h.1
theorem OkN.bl {N : nT} (h : OkN N) : Bl N := h.2.1
theorem OkN.val {N : nT} (h : OkN N) : ∀ i, i < 24 → ∃ a, a ≤ 9999 ∧ N (240 + i) = nI a := h.2.2.1
theorem OkN.sum {N : nT} (h : OkN N) : ∀ i, i < 24 → ∃ a, a ≤ 9999 ∧ N (264 + i) = nI a := h.2.2.2.1
theorem OkN.clk {N : nT} (h : OkN N) : ∃ a, a ≤ 9999 ∧ N 313 = nI a := h.2.2.2.2
def OkW (N Kd : nT) : Prop := ∀ p, p < 96 → Kd p ≠ 1 → N p = 0
def Hi0 (N : nT) : Prop := ∀ j, 315 ≤ j → N j = 0
theorem fv_hi {V : vT} {f : Nat} : Hi0 (fv V f) := fun j hj => by
  unfold fv; simp (disch := omega) only [if_neg]
theorem Hi0.up {N : nT} {j : Nat} {x : Int32} (h : Hi0 N) (hj : j < 315) : Hi0 (upd N j x) := fun i hi => by rw [upd_n (by omega)]; exact h i hi
theorem Hi0.gone {N : nT} {p : Nat} (h : Hi0 N) : Hi0 (goneN p N) := fun i hi => by unfold goneN; rw [if_neg (by omega)]; exact h i hi
theorem Hi0.over {L : lawT} {Kd : nT} {p w : Nat} {N : nT} (hp : p < 96) (h : Hi0 N) : Hi0 (overA L Kd p w N) := by
  unfold overA
  cases hn : nx p w with
  | none => exact h
  | some q =>
    have hq := nx_lt hp hn
    simp only
    split
    · split
      · exact ((h.up (by omega)).up (by omega)).up (by omega)
      · exact h.up (by omega)
    · exact h
theorem Hi0.it {L : lawT} {Kd : nT} {p : Nat} {N : nT} (hp : p < 96) (h : Hi0 N) : ∀ n, Hi0 (itN (fun w M => overA L Kd p w M) n N)
  | 0 => h
  | n + 1 => (Hi0.it hp h n).over hp
theorem Hi0.out {L : lawT} {p : Nat} {N : nT} (hp : p < 96) (h : Hi0 N) : Hi0 (outA L p N) := by
  have key : ∀ y : Int32, Hi0 (if y = 0 then upd (upd (drawN N) (96 + p) y) p 2 else upd (drawN N) (96 + p) y) := by
    intro y
    split
    · exact ((h.up (by omega)).up (by omega)).up (by omega)
    · exact (h.up (by omega)).up (by omega)
  exact key _
theorem Hi0.turn {L : lawT} {Kd : nT} {p : Nat} {N : nT} (hp : p < 96) (h : Hi0 N) : Hi0 (turnA L Kd p N) := (h.gone.it hp 4).out hp
theorem Hi0.turns {L : lawT} {Kd N0 : nT} {N : nT} (h : Hi0 N) : ∀ n, n ≤ 96 → Hi0 (itN (fun p M => if N0 p = 1 then turnA L Kd p M else M) n N)
  | 0, _ => h
  | n + 1, hn => by
    simp only [itN]
    split
    · exact (Hi0.turns h n (by omega)).turn (by omega)
    · exact Hi0.turns h n (by omega)
theorem Hi0.minute {L : lawT} {Kd : nT} {N : nT} (h : Hi0 N) : Hi0 (minuteA L Kd N) := (h.turns 96 (Nat.le_refl _)).up (by omega)
theorem Hi0.minutes {L : lawT} {Kd : nT} : ∀ (n : Nat) {N : nT}, Hi0 N → Hi0 (minutesA L Kd n N)
  | 0, _, h => h
  | n + 1, N, h => by
    simp only [minutesA]
    split
    · exact Hi0.minutes n h.minute
    · exact h
/-- what a minute's parts leave as it was: values, sums, the clock, and (b) those that burn go on burning until their turn -/
def Mk (N N' : nT) : Prop := (∀ j, 240 ≤ j → j < 288 → N' j = N j) ∧ N' 313 = N 313
theorem Mk.rf {N : nT} : Mk N N := ⟨fun _ _ _ => rfl, rfl⟩
theorem Mk.tr {N N1 N2 : nT} (h : Mk N N1) (h1 : Mk N1 N2) : Mk N N2 := ⟨fun j a b => (h1.1 j a b).trans (h.1 j a b), h1.2.trans h.2⟩
theorem Mk.up {N N1 : nT} {j : Nat} {x : Int32} (h : Mk N N1) (hj : j < 240 ∨ 314 ≤ j) : Mk N (upd N1 j x) :=
  ⟨fun i a b => (upd_n (by omega)).trans (h.1 i a b), (upd_n (by omega)).trans h.2⟩
theorem Mk.over {L : lawT} {Kd : nT} {p w : Nat} {N : nT} (hp : p < 96) : Mk N (overA L Kd p w N) := by
  unfold overA
  cases hn : nx p w with
  | none => exact Mk.rf
  | some q =>
    have hq := nx_lt hp hn
    simp only
    split
    · split
      · exact ((Mk.rf.up (by omega)).up (by omega)).up (by omega)
      · exact Mk.rf.up (by omega)
    · exact Mk.rf
theorem Mk.it {L : lawT} {Kd : nT} {p : Nat} {N : nT} (hp : p < 96) : ∀ n, Mk N (itN (fun w M => overA L Kd p w M) n N)
  | 0 => Mk.rf
  | n + 1 => (Mk.it hp n).tr (Mk.over hp)
theorem Mk.out {L : lawT} {p : Nat} {N : nT} (hp : p < 96) : Mk N (outA L p N) := by
  have key : ∀ y : Int32, Mk N (if y = 0 then upd (upd (drawN N) (96 + p) y) p 2 else upd (drawN N) (96 + p) y) := by
    intro y
    split
    · exact ((Mk.rf.up (by omega)).up (by omega)).up (by omega)
    · exact (Mk.rf.up (by omega)).up (by omega)
  exact key _
theorem Mk.gone {N : nT} {p : Nat} : Mk N (goneN p N) := ⟨fun j _ _ => by unfold goneN; rw [if_neg (by omega)], by unfold goneN; rw [if_neg (by omega)]⟩
theorem Mk.turn {L : lawT} {Kd : nT} {p : Nat} {N : nT} (hp : p < 96) : Mk N (turnA L Kd p N) := (Mk.gone.tr (Mk.it hp 4)).tr (Mk.out hp)
/-- left is 0 where nothing burns -/
def Lf (N : nT) : Prop := ∀ p, p < 96 → N p ≠ 1 → N (96 + p) = 0
theorem Lf.up {N : nT} {j : Nat} {x : Int32} (h : Lf N) (hj : 192 ≤ j) : Lf (upd N j x) := fun p hp => by
  rw [upd_n (j := p) (by omega), upd_n (j := 96 + p) (by omega)]; exact h p hp
theorem Lf.lit {N : nT} {q : Nat} {y : Int32} (hq : q < 96) (h : Lf N) : Lf (upd (upd N (96 + q) y) q 1) := fun p hp => by
  by_cases e : p = q
  · subst e; rw [upd_s]; exact fun z => absurd rfl z
  · rw [upd_n e, upd_n (by omega), upd_n (by omega), upd_n (by omega)]; exact h p hp
theorem Lf.out0 {N : nT} {q : Nat} (hq : q < 96) (h : Lf N) : Lf (upd (upd N (96 + q) 0) q 2) := fun p hp => by
  by_cases e : p = q
  · subst e; rw [upd_n (j := 96 + p) (by omega), upd_s (k := 96 + p)]; exact fun _ => rfl
  · rw [upd_n e, upd_n (by omega), upd_n (by omega), upd_n (by omega)]; exact h p hp
theorem Lf.out1 {N : nT} {q : Nat} {y : Int32} (hq : q < 96) (h : Lf N) (h1 : N q = 1) : Lf (upd N (96 + q) y) := fun p hp => by
  by_cases e : p = q
  · subst e; rw [upd_n (by omega)]; exact fun z => absurd h1 z
  · rw [upd_n (by omega), upd_n (by omega)]; exact h p hp
/-- the row keeps its invariants, and the wood's, and those that burn burn on -/
def Go (Kd N N' : nT) : Prop := Lf N' ∧ OkW N' Kd ∧ ∀ p, p < 96 → N p = 1 → N' p = 1
theorem OkW.up {N Kd : nT} {j : Nat} {x : Int32} (h : OkW N Kd) (hj : 96 ≤ j) : OkW (upd N j x) Kd := fun p hp h1 => by rw [upd_n (by omega)]; exact h p hp h1
theorem OkW.lit {N Kd : nT} {q : Nat} {x : Int32} (h : OkW N Kd) (hk : Kd q = 1) : OkW (upd N q x) Kd := fun p hp h1 => by
  by_cases e : p = q
  · subst e; exact absurd hk h1
  · rw [upd_n e]; exact h p hp h1
theorem Go.over {L : lawT} {Kd : nT} {p w : Nat} {N : nT} (hp : p < 96) (h : Lf N) (hw : OkW N Kd) : Go Kd N (overA L Kd p w N) := by
  unfold overA
  cases hn : nx p w with
  | none => exact ⟨h, hw, fun _ _ z => z⟩
  | some q =>
    have hq := nx_lt hp hn
    simp only
    split
    · rename_i h1
      split
      · refine ⟨(h.up (by omega)).lit hq, (OkW.up (OkW.up hw (by omega)) (by omega)).lit h1.1, fun p' hp' z => ?_⟩
        by_cases e : p' = q
        · subst e; rw [upd_s]
        · rw [upd_n e, upd_n (by omega)]; unfold drawN; rw [upd_n (by omega)]; exact z
      · exact ⟨h.up (by omega), OkW.up hw (by omega), fun p' hp' z => by unfold drawN; rw [upd_n (by omega)]; exact z⟩
    · exact ⟨h, hw, fun _ _ z => z⟩
theorem Go.it {L : lawT} {Kd : nT} {p : Nat} {N : nT} (hp : p < 96) (h : Lf N) (hw : OkW N Kd) : ∀ n, Go Kd N (itN (fun w M => overA L Kd p w M) n N)
  | 0 => ⟨h, hw, fun _ _ z => z⟩
  | n + 1 => by
    have ⟨a, b, c⟩ := Go.it (L := L) hp h hw n
    have ⟨d, e, f⟩ := Go.over (L := L) (Kd := Kd) (w := n) hp a b
    exact ⟨d, e, fun p' hp' z => f p' hp' (c p' hp' z)⟩
theorem Go.turn {L : lawT} {Kd : nT} {q : Nat} {N : nT} (hq : q < 96) (h : Lf N) (hw : OkW N Kd) (h1 : N q = 1) : Lf (turnA L Kd q N) ∧ OkW (turnA L Kd q N) Kd ∧ ∀ p, p < 96 → p ≠ q → N p = 1 → turnA L Kd q N p = 1 := by
  have g0 : Lf (goneN q N) := fun p hp => by
    unfold goneN; rw [if_neg (by omega), if_neg (by omega)]; exact h p hp
  have g1 : OkW (goneN q N) Kd := fun p hp => by
    unfold goneN; rw [if_neg (by omega)]; exact hw p hp
  have g2 : ∀ p, p < 96 → goneN q N p = N p := fun p hp => by unfold goneN; rw [if_neg (by omega)]
  have hk : Kd q = 1 := Classical.byContradiction fun z => by rw [hw q hq z] at h1; exact absurd h1 (by decide)
  have ⟨a, b, c⟩ := Go.it (L := L) hq g0 g1 4
  have key : ∀ M : nT, Lf M → OkW M Kd → M q = 1 → Lf (outA L q M) ∧ OkW (outA L q M) Kd ∧ ∀ p, p < 96 → p ≠ q → M p = 1 → outA L q M p = 1 := by
    intro M m1 m2 m3
    have key2 : ∀ y : Int32, Lf (if y = 0 then upd (upd (drawN M) (96 + q) y) q 2 else upd (drawN M) (96 + q) y) ∧ OkW (if y = 0 then upd (upd (drawN M) (96 + q) y) q 2 else upd (drawN M) (96 + q) y) Kd ∧ ∀ p, p < 96 → p ≠ q → M p = 1 → (if y = 0 then upd (upd (drawN M) (96 + q) y) q 2 else upd (drawN M) (96 + q) y) p = 1 := by
      intro y
      split
      · rename_i hy
        subst hy
        refine ⟨(m1.up (by omega)).out0 hq, (OkW.up (OkW.up m2 (by omega)) (by omega)).lit hk, fun p hp e z => ?_⟩
        rw [upd_n e, upd_n (by omega)]; unfold drawN; rw [upd_n (by omega)]; exact z
      · refine ⟨(m1.up (by omega)).out1 hq ((upd_n (by omega)).trans m3), OkW.up (OkW.up m2 (by omega)) (by omega), fun p hp e z => ?_⟩
        rw [upd_n (by omega)]; unfold drawN; rw [upd_n (by omega)]; exact z
    exact key2 _
  have ⟨d, e, f⟩ := key _ a b (c q hq (by rw [g2 q hq]; exact h1))
  exact ⟨d, e, fun p hp hpq z => f p hp hpq (c p hp (by rw [g2 p hp]; exact z))⟩
theorem Go.turns {L : lawT} {Kd : nT} {N : nT} (h : Lf N) (hw : OkW N Kd) : ∀ n, n ≤ 96 → Lf (itN (fun p M => if N p = 1 then turnA L Kd p M else M) n N) ∧ OkW (itN (fun p M => if N p = 1 then turnA L Kd p M else M) n N) Kd ∧ ∀ p, n ≤ p → p < 96 → N p = 1 → itN (fun p M => if N p = 1 then turnA L Kd p M else M) n N p = 1
  | 0, _ => ⟨h, hw, fun _ _ _ z => z⟩
  | n + 1, hn => by
    have ⟨a, b, c⟩ := Go.turns (L := L) h hw n (by omega)
    simp only [itN]
    split
    · rename_i h1
      have ⟨d, e, f⟩ := Go.turn (L := L) (Kd := Kd) (q := n) (by omega) a b (c n (Nat.le_refl _) (by omega) h1)
      exact ⟨d, e, fun p hp hp2 z => f p hp2 (by omega) (c p (by omega) hp2 z)⟩
    · exact ⟨a, b, fun p hp hp2 z => c p (by omega) hp2 z⟩
theorem Mk.turns {L : lawT} {Kd N0 : nT} {N : nT} : ∀ n, n ≤ 96 → Mk N (itN (fun p M => if N0 p = 1 then turnA L Kd p M else M) n N)
  | 0, _ => Mk.rf
  | n + 1, hn => by
    simp only [itN]
    split
    · exact (Mk.turns n (by omega)).tr (Mk.turn (by omega))
    · exact Mk.turns n (by omega)
theorem OkN.minute {L : lawT} {Kd N : nT} (h : OkN N) (hw : OkW N Kd) (hc : N 313 < 9999) : OkN (minuteA L Kd N) ∧ OkW (minuteA L Kd N) Kd := by
  have ⟨a, b, _⟩ := Go.turns (L := L) h.left hw 96 (Nat.le_refl _)
  have m := Mk.turns (L := L) (Kd := Kd) (N0 := N) (N := N) 96 (Nat.le_refl _)
  unfold minuteA
  simp only
  refine ⟨⟨Lf.up a (by omega), (h.bl.turns 96 (Nat.le_refl _)).up (by omega), fun i hi => ?_, fun i hi => ?_, ?_⟩, OkW.up b (by omega)⟩
  · rw [upd_n (by omega), m.1 _ (by omega) (by omega)]; exact h.val i hi
  · rw [upd_n (by omega), m.1 _ (by omega) (by omega)]; exact h.sum i hi
  · rw [upd_s, m.2]
    obtain ⟨a, ha, e⟩ := h.clk
    rw [e] at hc ⊢
    rw [nlt_l (by omega) (by decide)] at hc
    exact ⟨a + 1, by omega, nI_1 a⟩
theorem OkN.minutes {L : lawT} {Kd : nT} : ∀ (n : Nat) {N : nT}, OkN N → OkW N Kd → OkN (minutesA L Kd n N) ∧ OkW (minutesA L Kd n N) Kd
  | 0, _, h, hw => ⟨h, hw⟩
  | n + 1, N, h, hw => by
    simp only [minutesA]
    split
    · rename_i hc
      have ⟨a, b⟩ := h.minute (L := L) hw hc
      exact OkN.minutes n a b
    · exact ⟨h, hw⟩
/-! copies -/
/-- the first n of a row taken over -/
def cpN (n : Nat) (A B : nT) : nT := fun j => if j < n then A j else B j
theorem cpN_0 {A B : nT} : cpN 0 A B = B := by funext j; unfold cpN; rw [if_neg (by omega)]
theorem cpN_1 {n : Nat} {A B : nT} : upd (cpN n A B) n (A n) = cpN (n + 1) A B := by
  funext j
  unfold upd cpN
  by_cases h : j = n
  · subst h; rw [if_pos rfl, if_pos (by omega)]
  · rw [if_neg h]
    by_cases h2 : j < n
    · rw [if_pos h2, if_pos (by omega)]
    · rw [if_neg h2, if_neg (by omega)]
theorem cpN_all {A B : nT} (ha : Hi0 A) (hb : Hi0 B) : cpN 315 A B = A := by
  funext j
  unfold cpN
  split
  · rfl
  · rw [ha j (by omega), hb j (by omega)]
section CPS
variable {E : eT} {V : vT} {k : Int32 → vT → Prop} {kv : vT → Prop} {x1 x2 x3 : Int32}
theorem s6_copies {a b : Nat} {V0 : vT} (hT : TW E) (hb1 : 16 ≤ a ∧ a < E.2.2.1) (hk1 : E.2.2.2.1 a = .inr (0, 315)) (hb2 : 16 ≤ b ∧ b < E.2.2.1) (hk2 : E.2.2.2.1 b = .inr (0, 315)) (hab : a ≠ b)
    (h : ∀ V', V' b = cpN 315 (V0 a) (V0 b) → Fr [b] V0 V' → kv V') : c6_copies E a b V0 kv := by
  refine n6_copies (b6_copies_0 hT hb1 hk1 hb2 hk2 ?_)
  have key : ∀ m i (V : vT), i + m = 315 → V b = cpN i (V0 a) (V0 b) → Fr [b] V0 V → w6_copies E kv 2 [some (vr a), some (vr b), some (vi (nI i))] [] V := by
    intro m
    induction m with
    | zero =>
      intro i V hi h1 h2
      have : i = 315 := by omega
      subst this
      exact b6_copies_2 hT hb1 hk1 hb2 hk2 ⟨fun _ => h V h1 h2, fun q => absurd q (by decide)⟩
    | succ m ih =>
      intro i V hi h1 h2
      refine b6_copies_2 hT hb1 hk1 hb2 hk2 ⟨fun q => absurd q ?_, fun _ => ?_⟩
      · simp (disch := omega) only [lle_n]; omega
      · simp (disch := omega) only [nI_clamp, nI_1]
        refine ⟨vp_n (by omega) (by decide), vp_n (by omega) (by decide), ih (i + 1) _ (by omega) ?_ (h2.up (by simp))⟩
        rw [up2_r, h1, h2 a (by simp; exact hab), cpN_1]
  exact key 315 0 V0 rfl cpN_0.symm Fr.rf
end CPS
