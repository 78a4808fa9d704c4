/-! BOTH OBJECTS, call by call: woods -/
def cnK (Kd : nT) : Nat → Nat → Nat → Prop
  | 0, p, q => p = q
  | n + 1, p, q => ∃ r w, cnK Kd n p r ∧ w < 4 ∧ nx r w = some q ∧ Kd q = 1
def Cn (Kd : nT) (p q : Nat) : Prop := ∃ n, cnK Kd n p q
theorem nx_back : (List.range 96).all (fun p => (List.range 4).all fun w => match nx p w with | none => true | some q => decide (nx q ((w + 2) % 4) = some p)) = true := by decide +kernel
theorem nx_sym {p w q : Nat} (hp : p < 96) (hw : w < 4) (h : nx p w = some q) : nx q ((w + 2) % 4) = some p := by
  have e := List.all_eq_true.mp nx_back p (List.mem_range.mpr hp)
  have e := List.all_eq_true.mp e w (List.mem_range.mpr hw)
  rw [h] at e
  exact of_decide_eq_true e
theorem cnK_lt {Kd : nT} {p : Nat} (hp : p < 96) (hk : Kd p = 1) : ∀ n q, cnK Kd n p q → q < 96 ∧ Kd q = 1
  | 0, q, h => by cases h; exact ⟨hp, hk⟩
  | n + 1, q, ⟨r, w, a, _, b, c⟩ => ⟨nx_lt (cnK_lt hp hk n r a).1 b, c⟩
theorem Cn.tr {Kd : nT} {p q r : Nat} (h : Cn Kd p q) (h1 : Cn Kd q r) : Cn Kd p r := by
  obtain ⟨n, hn⟩ := h1
  induction n generalizing r with
  | zero => cases hn; exact h
  | succ n ih =>
    obtain ⟨s, w, a, b, c, d⟩ := hn
    obtain ⟨k, hk⟩ := ih a
    exact ⟨k + 1, s, w, hk, b, c, d⟩
theorem Cn.sym {Kd : nT} {p q : Nat} (hp : p < 96) (hk : Kd p = 1) (h : Cn Kd p q) : Cn Kd q p := by
  obtain ⟨n, hn⟩ := h
  induction n generalizing q with
  | zero => cases hn; exact ⟨0, rfl⟩
  | succ n ih =>
    obtain ⟨r, w, a, b, c, d⟩ := hn
    have ⟨hr, hkr⟩ := cnK_lt hp hk n r a
    have h1 : Cn Kd q r := ⟨1, q, (w + 2) % 4, rfl, by omega, nx_sym hr b c, hkr⟩
    exact h1.tr (ih a)
theorem ChR.cn {Kd : nT} {p : Nat} {R : Nat → Nat → Prop} {ok : Nat → Nat → Prop} (hp : p < 96) (h : ∀ K, ChR (fun q => q = p) ok R K) (h1 : ∀ j q, ok j q → Kd q = 1) (h2 : ∀ j q, Cn Kd p q → Kd q = 1 → ok j q) (q : Nat) : (∃ j, R q j) ↔ Cn Kd p q := by
  constructor
  · rintro ⟨j, hj⟩
    induction j generalizing q with
    | zero => have := ((h 0).2.1 q).mp hj; exact ⟨0, this.2.symm⟩
    | succ j ih =>
      obtain ⟨_, a, r, w, _, b, c, d⟩ := (h 0).2.2.1 q j hj
      obtain ⟨n, hn⟩ := ih r d
      exact ⟨n + 1, r, w, hn, b, c, h1 _ _ a⟩
  · rintro ⟨n, hn⟩
    induction n generalizing q with
    | zero => cases hn; exact ⟨0, ((h 0).2.1 p).mpr ⟨hp, rfl⟩⟩
    | succ n ih =>
      obtain ⟨r, w, a, b, c, d⟩ := hn
      obtain ⟨j, hj⟩ := ih r a
      obtain ⟨i, _, hi⟩ := (h (j + 1)).2.2.2 r w q j (by omega) hj b c (h2 _ _ ⟨n + 1, r, w, a, b, c, d⟩ d)
      exact ⟨i, hi⟩
/-- the lowest one seen from above, a if none -/
def lw (c : Nat → Prop) [DecidablePred c] (a : Nat) : Nat → Nat
  | 0 => a
  | r + 1 => if c (95 - r) then 95 - r else lw c a r
theorem lw_is {c : Nat → Prop} [DecidablePred c] {a : Nat} (ha : a < 96) : ∀ r, r ≤ 96 → (lw c a r = a ∧ ∀ i, 96 - r ≤ i → i < 96 → ¬ c i) ∨ (96 - r ≤ lw c a r ∧ lw c a r < 96 ∧ c (lw c a r) ∧ ∀ i, 96 - r ≤ i → i < lw c a r → ¬ c i)
  | 0, _ => Or.inl ⟨rfl, fun i hi => by omega⟩
  | r + 1, h => by
    simp only [lw]
    by_cases hc : c (95 - r)
    · rw [if_pos hc]
      exact Or.inr ⟨by omega, by omega, hc, fun i h1 h2 => by omega⟩
    · rw [if_neg hc]
      rcases lw_is (c := c) ha r (by omega) with ⟨x, y⟩ | ⟨x1, x2, x3, x4⟩
      · refine Or.inl ⟨x, fun i h1 h2 => ?_⟩
        by_cases e : i = 95 - r
        · subst e; exact hc
        · exact y i (by omega) h2
      · refine Or.inr ⟨by omega, x2, x3, fun i h1 h2 => ?_⟩
        by_cases e : i = 95 - r
        · subst e; exact hc
        · exact x4 i (by omega) h2
theorem lw_eq {c : Nat → Prop} [DecidablePred c] {a : Nat} (ha : a < 96) (hc : c a) : lw c a 96 = a ↔ ∀ q, q < a → ¬ c q := by
  rcases lw_is (c := c) ha 96 (by omega) with ⟨x, y⟩ | ⟨x1, x2, x3, x4⟩
  · exact absurd hc (y a (by omega) ha)
  · constructor
    · intro e q hq; exact x4 q (by omega) (by omega)
    · intro h
      by_cases e : lw c a 96 < a
      · exact absurd x3 (h _ e)
      · by_cases e2 : a < lw c a 96
        · exact absurd hc (x4 a (by omega) e2)
        · omega
theorem lw_lt {c : Nat → Prop} [DecidablePred c] {a : Nat} (ha : a < 96) : ∀ r, r ≤ 96 → lw c a r < 96
  | 0, _ => ha
  | r + 1, h => by
    simp only [lw]
    split
    · omega
    · exact lw_lt ha r (by omega)
theorem cN_split {c d : Nat → Prop} [DecidablePred c] [DecidablePred d] : ∀ n, (∀ i, i < n → d i → c i) → cN c n = cN d n + cN (fun i => c i ∧ ¬ d i) n
  | 0, _ => rfl
  | n + 1, h => by
    simp only [cN]
    rw [cN_split n (fun i hi => h i (by omega))]
    have := h n (by omega)
    by_cases hc : c n <;> by_cases hd : d n
    · simp only [hc, hd, if_true, not_true, and_false, if_false]; omega
    · simp only [hc, hd, if_true, not_false_iff, and_self, if_false]; omega
    · exact absurd (this hd) hc
    · simp only [hc, hd, if_false, false_and]
/-- the lowest of its wood -/
def rep (Kd : nT) (p : Nat) : Prop := Kd p = 1 ∧ ∀ q, q < p → ¬ Cn Kd p q
noncomputable def szW (Kd : nT) (p : Nat) : Nat := @cN (Cn Kd p) (fun _ => Classical.propDecidable _) 96
theorem szW_le {Kd : nT} {p : Nat} : szW Kd p ≤ 96 := @cN_le _ (fun _ => Classical.propDecidable _) 96
theorem szW_of {Kd : nT} {p : Nat} {c : Nat → Prop} [DecidablePred c] (h : ∀ q, q < 96 → (c q ↔ Cn Kd p q)) : cN c 96 = szW Kd p := by
  unfold szW
  exact @cN_c c (Cn Kd p) _ (fun _ => Classical.propDecidable _) 96 h
theorem szW_eq {Kd : nT} {p q : Nat} (hp : p < 96) (hk : Kd p = 1) (h : Cn Kd p q) : szW Kd q = szW Kd p := by
  haveI : DecidablePred (Cn Kd q) := fun _ => Classical.propDecidable _
  have : cN (Cn Kd q) 96 = szW Kd p := szW_of fun a _ => ⟨fun z => h.tr z, fun z => (h.sym hp hk).tr z⟩
  rw [← this]
  exact (szW_of fun _ _ => Iff.rfl).symm
noncomputable def mxW (c : Nat → Prop) [DecidablePred c] (Kd : nT) : Nat → Nat
  | 0 => 0
  | n + 1 => if c n then max (mxW c Kd n) (szW Kd n) else mxW c Kd n
theorem mxW_le {c : Nat → Prop} [DecidablePred c] {Kd : nT} : ∀ n, mxW c Kd n ≤ 96
  | 0 => by simp [mxW]
  | n + 1 => by
    have := mxW_le (c := c) (Kd := Kd) n
    have := szW_le (Kd := Kd) (p := n)
    simp only [mxW]; split <;> omega
theorem mxW_ge {c : Nat → Prop} [DecidablePred c] {Kd : nT} {p : Nat} (hc : c p) : ∀ n, p < n → szW Kd p ≤ mxW c Kd n
  | 0, h => by omega
  | n + 1, h => by
    simp only [mxW]
    by_cases e : p = n
    · subst e; rw [if_pos hc]; omega
    · have := mxW_ge (Kd := Kd) hc n (by omega)
      split <;> omega
theorem low_rep {Kd : nT} {p : Nat} (hp : p < 96) (hk : Kd p = 1) (h : ¬ rep Kd p) : ∃ q, q < p ∧ rep Kd q ∧ Cn Kd p q := by
  have key : ∀ n, (∃ q, q < n ∧ q < p ∧ Cn Kd p q) → ∃ q, q < p ∧ rep Kd q ∧ Cn Kd p q := by
    intro n
    induction n with
    | zero => rintro ⟨q, hq, _⟩; omega
    | succ n ih =>
      rintro ⟨q, hq, hqp, hc⟩
      by_cases hl : ∃ q', q' < q ∧ Cn Kd p q'
      · obtain ⟨q', a, b⟩ := hl
        exact ih ⟨q', by omega, by omega, b⟩
      · obtain ⟨j, hj⟩ := hc
        have ⟨h1, h2⟩ := cnK_lt hp hk j q hj
        exact ⟨q, hqp, ⟨h2, fun a ha z => hl ⟨a, ha, Cn.tr ⟨j, hj⟩ z⟩⟩, j, hj⟩
  have : ∃ q, q < p ∧ Cn Kd p q := Classical.byContradiction fun z => h ⟨hk, fun q hq c => z ⟨q, hq, c⟩⟩
  obtain ⟨q, a, b⟩ := this
  exact key p ⟨q, a, a, b⟩
theorem mxW_eq {c d : Nat → Prop} [DecidablePred c] [DecidablePred d] {Kd : nT} (hc : ∀ p, p < 96 → (c p ↔ Kd p = 1)) (hd : ∀ p, p < 96 → (d p ↔ rep Kd p)) : ∀ n, n ≤ 96 → mxW c Kd n = mxW d Kd n
  | 0, _ => rfl
  | n + 1, h => by
    have ih := mxW_eq hc hd n (by omega)
    simp only [mxW]
    rw [ih]
    by_cases h1 : c n
    · by_cases h2 : d n
      · rw [if_pos h1, if_pos h2]
      · rw [if_pos h1, if_neg h2]
        have hk := (hc n (by omega)).mp h1
        obtain ⟨q, a, b, e⟩ := low_rep (by omega) hk (fun z => h2 ((hd n (by omega)).mpr z))
        have := mxW_ge (c := d) (Kd := Kd) ((hd q (by omega)).mpr b) n a
        rw [szW_eq (by omega) hk e] at this
        omega
    · rw [if_neg h1, if_neg (fun z => h1 ((hc n (by omega)).mpr ((hd n (by omega)).mp z).1))]
