/-! WAVES, plain: what goes out from places step by step; rounds and queues come to the same -/
/-- R goes out from S by ok, whole below K -/
def ChR (S : Nat → Prop) (ok : Nat → Nat → Prop) (R : Nat → Nat → Prop) (K : Nat) : Prop :=
  (∀ q i j, R q i → R q j → i = j) ∧ (∀ q, R q 0 ↔ q < 96 ∧ S q) ∧
  (∀ q j, R q (j + 1) → q < 96 ∧ ok (j + 1) q ∧ ∃ p w, p < 96 ∧ w < 4 ∧ nx p w = some q ∧ R p j) ∧
  (∀ p w q j, j < K → R p j → w < 4 → nx p w = some q → ok (j + 1) q → ∃ i, i ≤ j + 1 ∧ R q i)
theorem ChR.half {S : Nat → Prop} {ok : Nat → Nat → Prop} {R R' : Nat → Nat → Prop} {K K' : Nat} (h : ChR S ok R K) (h' : ChR S ok R' K') :
    ∀ j, (∀ i, i < j → ∀ q, R q i ↔ R' q i) → j ≤ K' → ∀ q, R q j → R' q j := by
  intro j ih hj q hq
  cases j with
  | zero => rw [h'.2.1]; rwa [h.2.1] at hq
  | succ j =>
    obtain ⟨_, ho, p, w, hp, hw, hn, hr⟩ := h.2.2.1 q j hq
    rw [ih j (by omega) p] at hr
    obtain ⟨i, hi, hri⟩ := h'.2.2.2 p w q j (by omega) hr hw hn ho
    by_cases e : i = j + 1
    · rw [← e]; exact hri
    · have := (ih i (by omega) q).mpr hri
      have := h.1 q _ _ this hq
      omega
theorem ChR.same {S : Nat → Prop} {ok : Nat → Nat → Prop} {R R' : Nat → Nat → Prop} {K K' : Nat} (h : ChR S ok R K) (h' : ChR S ok R' K') :
    ∀ j, j ≤ K → j ≤ K' → ∀ q, R q j ↔ R' q j := by
  intro j
  induction j using Nat.strongRecOn with
  | ind j ih =>
    intro h1 h2 q
    have ih' : ∀ i, i < j → ∀ q, R q i ↔ R' q i := fun i hi q => ih i hi (by omega) (by omega) q
    exact ⟨h.half h' j ih' h2 q, h'.half h j (fun i hi q => (ih' i hi q).symm) h1 q⟩
abbrev fA : Int32 := 268435456
theorem nI_fA {j : Nat} (h : j ≤ 200) : nI j ≠ fA := fun e => by
  have := (nI_eq (a := j) (b := 268435456) (by omega) (by decide)).mp e
  omega
theorem nI_inj {i j : Nat} (h : i ≤ 200) (h' : j ≤ 200) (e : nI i = nI j) : i = j := (nI_eq (by omega) (by omega)).mp e
theorem nI_n1 {j : Nat} (h : j ≤ 200) : nI j ≠ -1 := fun e => nomatch (oI_m1 (o := some j) (fun q' hq' => by cases hq'; omega)).mp e
/-- a row of rounds, in the k-th one at place p, way w -/
def RI (S : Nat → Prop) (ok : Nat → Nat → Prop) (G : nT) (k p w : Nat) : Prop :=
  (∀ q, q < 96 → (∃ j, j ≤ k + 1 ∧ G q = nI j) ∨ G q = fA) ∧ (∀ q, q < 96 → (G q = nI 0 ↔ S q)) ∧
  (∀ q j, q < 96 → j ≤ k → G q = nI (j + 1) → ok (j + 1) q ∧ ∃ p' w', p' < 96 ∧ w' < 4 ∧ nx p' w' = some q ∧ G p' = nI j) ∧
  (∀ p' w' q j, p' < 96 → w' < 4 → nx p' w' = some q → (j < k ∨ (j = k ∧ (p' < p ∨ (p' = p ∧ w' < w)))) → G p' = nI j → ok (j + 1) q → ∃ i, i ≤ j + 1 ∧ G q = nI i)
theorem RI.add {S : Nat → Prop} {ok : Nat → Nat → Prop} {G : nT} {k p w q : Nat} (h : RI S ok G k p w) (hk : k ≤ 98) (hp : p < 96) (hw : w < 4) (hn : nx p w = some q) (hg : G p = nI k) (hf : G q = fA) (ho : ok (k + 1) q) : RI S ok (upd G q (nI (k + 1))) k p (w + 1) := by
  have hq := nx_lt hp hn
  obtain ⟨h1, h2, h3, h4⟩ := h
  refine ⟨fun a ha => ?_, fun a ha => ?_, fun a j ha hj e => ?_, fun p' w' a j hp' hw' hn' hc e ho' => ?_⟩
  · unfold upd
    split
    · exact Or.inl ⟨k + 1, Nat.le_refl _, rfl⟩
    · exact h1 a ha
  · unfold upd
    split
    · rename_i e; subst e
      rw [← h2 a ha, hf]
      exact ⟨fun z => absurd (nI_inj (by omega) (by omega) z) (by omega), fun z => absurd z.symm (nI_fA (by omega))⟩
    · exact h2 a ha
  · by_cases ea : a = q
    · subst ea
      rw [upd_s] at e
      have := nI_inj (by omega) (by omega) e
      have ej : j = k := by omega
      subst ej
      refine ⟨ho, p, w, hp, hw, hn, ?_⟩
      rw [upd_n (fun z => by rw [z, hf] at hg; exact nI_fA (by omega) hg.symm)]
      exact hg
    · rw [upd_n ea] at e
      obtain ⟨a1, p', w', a2, a3, a4, a5⟩ := h3 a j ha hj e
      refine ⟨a1, p', w', a2, a3, a4, ?_⟩
      rw [upd_n (fun z => by rw [z, hf] at a5; exact nI_fA (by omega) a5.symm)]
      exact a5
  · by_cases ep : p' = q
    · subst ep
      rw [upd_s] at e
      have := nI_inj (by omega) (by omega) e
      omega
    · rw [upd_n ep] at e
      by_cases ea : a = q
      · subst ea
        rcases hc with c | ⟨c, d⟩
        · obtain ⟨i, hi, hi'⟩ := h4 p' w' a j hp' hw' hn' (Or.inl c) e ho'
          rw [hf] at hi'
          exact absurd hi'.symm (nI_fA (by omega))
        · exact ⟨k + 1, by omega, upd_s⟩
      · rw [upd_n ea]
        by_cases last : p' = p ∧ w' = w
        · rw [last.1, last.2, hn] at hn'
          cases hn'
          exact absurd rfl ea
        · exact h4 p' w' a j hp' hw' hn' (by omega) e ho'
theorem RI.skip {S : Nat → Prop} {ok : Nat → Nat → Prop} {G : nT} {k p w : Nat} (h : RI S ok G k p w) (hs : ∀ q, nx p w = some q → ok (k + 1) q → ∃ i, i ≤ k + 1 ∧ G q = nI i) : RI S ok G k p (w + 1) := by
  refine ⟨h.1, h.2.1, h.2.2.1, fun p' w' q j hp' hw' hn hc e ho => ?_⟩
  by_cases last : j = k ∧ p' = p ∧ w' = w
  · obtain ⟨rfl, rfl, rfl⟩ := last
    exact hs q hn ho
  · exact h.2.2.2 p' w' q j hp' hw' hn (by omega) e ho
theorem RI.nextp {S : Nat → Prop} {ok : Nat → Nat → Prop} {G : nT} {k p w : Nat} (h : RI S ok G k p w) (hs : G p ≠ nI k ∨ w = 4) : RI S ok G k (p + 1) 0 := by
  refine ⟨h.1, h.2.1, h.2.2.1, fun p' w' q j hp' hw' hn hc e ho => ?_⟩
  by_cases last : j = k ∧ p' = p
  · obtain ⟨rfl, rfl⟩ := last
    rcases hs with hs | hs
    · exact absurd e hs
    · exact h.2.2.2 p' w' q j hp' hw' hn (by omega) e ho
  · exact h.2.2.2 p' w' q j hp' hw' hn (by omega) e ho
theorem RI.round {S : Nat → Prop} {ok : Nat → Nat → Prop} {G : nT} {k : Nat} (h : RI S ok G k 96 0) (hk : k ≤ 98) : RI S ok G (k + 1) 0 0 := by
  refine ⟨fun q hq => ?_, h.2.1, fun q j hq hj e => ?_, fun p' w' q j hp' hw' hn hc e ho => ?_⟩
  · rcases h.1 q hq with ⟨j, a, b⟩ | b
    · exact Or.inl ⟨j, by omega, b⟩
    · exact Or.inr b
  · by_cases ej : j ≤ k
    · exact h.2.2.1 q j hq ej e
    · rcases h.1 q hq with ⟨j', a, b⟩ | b
      · rw [e] at b; have := nI_inj (by omega) (by omega) b; omega
      · rw [e] at b; exact absurd b (nI_fA (by omega))
  · exact h.2.2.2 p' w' q j hp' hw' hn (by omega) e ho
def RG (G : nT) : Nat → Nat → Prop := fun q j => q < 96 ∧ j ≤ 100 ∧ G q = nI j
theorem RI.ch {S : Nat → Prop} {ok : Nat → Nat → Prop} {G : nT} {k p w : Nat} (h : RI S ok G k p w) (hk : k ≤ 98) : ChR S ok (RG G) k := by
  refine ⟨fun q i j a b => nI_inj (by have := a.2.1; omega) (by have := b.2.1; omega) (a.2.2.symm.trans b.2.2), fun q => ⟨fun a => ⟨a.1, (h.2.1 q a.1).mp a.2.2⟩, fun a => ⟨a.1, by omega, (h.2.1 q a.1).mpr a.2⟩⟩, fun q j a => ?_, fun p' w' q j hj a hw hn ho => ?_⟩
  · have hj : j ≤ k := by
      rcases h.1 q a.1 with ⟨i, b, c⟩ | c
      · rw [a.2.2] at c; have := a.2.1; have := nI_inj (by omega) (by omega) c; omega
      · rw [a.2.2] at c; have := a.2.1; exact absurd c (nI_fA (by omega))
    obtain ⟨c, p', w', c1, c2, c3, c4⟩ := h.2.2.1 q j a.1 hj a.2.2
    exact ⟨a.1, c, p', w', c1, c2, c3, c1, by have := a.2.1; omega, c4⟩
  · obtain ⟨i, c, d⟩ := h.2.2.2 p' w' q j a.1 hw hn (Or.inl hj) a.2.2 ho
    exact ⟨i, c, nx_lt a.1 hn, by omega, d⟩
/-- no place is of the round's number: all is done -/
theorem RI.done {S : Nat → Prop} {ok : Nat → Nat → Prop} {G : nT} {k : Nat} (h : RI S ok G k 96 0) (hk : k ≤ 98) (hd : ∀ q, q < 96 → G q ≠ nI (k + 1)) : ∀ K, ChR S ok (RG G) K := by
  intro K
  have c := h.ch hk
  refine ⟨c.1, c.2.1, c.2.2.1, fun p w q j _ a hw hn ho => ?_⟩
  have hj : j ≤ k := by
    rcases h.1 p a.1 with ⟨i, b, e⟩ | e
    · have e1 := a.2.2
      have := a.2.1
      have e2 := nI_inj (by omega) (by omega) (e1.symm.trans e)
      by_cases z : i = k + 1
      · exact absurd (z ▸ e) (hd p a.1)
      · omega
    · rw [a.2.2] at e; have := a.2.1; exact absurd e (nI_fA (by omega))
  have hp := a.1
  obtain ⟨i, d, e⟩ := h.2.2.2 p w q j a.1 hw hn (by omega) a.2.2 ho
  exact ⟨i, d, nx_lt a.1 hn, by omega, e⟩
/-- a queue: the places qf of levels lf stand in it, those before k are done, at k the ways before w; those of F0 were seen before -/
def QU (S : Nat → Prop) (ok : Nat → Nat → Prop) (F0 F Qr : nT) (qf lf : Nat → Nat) (m k w : Nat) : Prop :=
  (∀ i, i < m → Qr i = nI (qf i) ∧ qf i < 96 ∧ F (qf i) = nI (lf i) ∧ lf i ≤ i ∧ F0 (qf i) = -1) ∧
  (∀ i i', i < m → i' < m → qf i = qf i' → i = i') ∧ (∀ i i', i ≤ i' → i' < m → lf i ≤ lf i') ∧
  (k < m → ∀ i, i < m → lf i ≤ lf k + 1) ∧ (∀ q, q < 96 → F q ≠ -1 → F0 q ≠ -1 ∨ ∃ i, i < m ∧ qf i = q) ∧
  (∀ i, i < m → (lf i = 0 ↔ S (qf i))) ∧ (∀ q, q < 96 → S q → ∃ i, i < m ∧ qf i = q) ∧
  (∀ i j, i < m → lf i = j + 1 → ok (j + 1) (qf i) ∧ ∃ i' w', i' < m ∧ w' < 4 ∧ nx (qf i') w' = some (qf i) ∧ lf i' = j) ∧
  (∀ i w' q, i < m → w' < 4 → (i < k ∨ (i = k ∧ w' < w)) → nx (qf i) w' = some q → ok (lf i + 1) q → ∃ i', i' < m ∧ qf i' = q ∧ lf i' ≤ lf i + 1) ∧
  (k ≤ m ∧ cN (fun q => F q ≠ -1 ∧ F0 q = -1) 96 = m ∧ ∀ q, q < 96 → F0 q ≠ -1 → F q = F0 q)
theorem cN_le {c : Nat → Prop} [DecidablePred c] : ∀ n, cN c n ≤ n
  | 0 => Nat.le_refl _
  | n + 1 => by have := cN_le (c := c) n; simp only [cN]; split <;> omega
theorem cN_one {c c' : Nat → Prop} [DecidablePred c] [DecidablePred c'] {a : Nat} : ∀ n, a < n → ¬ c a → c' a → (∀ i, i < n → i ≠ a → (c i ↔ c' i)) → cN c' n = cN c n + 1
  | 0, h, _, _, _ => by omega
  | n + 1, h, h1, h2, h3 => by
    simp only [cN]
    by_cases e : a = n
    · subst e
      rw [if_neg h1, if_pos h2, cN_c a (fun i hi => h3 i (by omega) (by omega))]
    · have ih := cN_one n (by omega) h1 h2 (fun i hi hia => h3 i (by omega) hia)
      rw [ih]
      have := h3 n (by omega) (fun z => e z.symm)
      by_cases hc : c n
      · rw [if_pos hc, if_pos (this.mp hc)]
      · rw [if_neg hc, if_neg (fun z => hc (this.mpr z))]
theorem QU.add {S : Nat → Prop} {ok : Nat → Nat → Prop} {F0 F Qr : nT} {qf lf : Nat → Nat} {m k w q : Nat} (h : QU S ok F0 F Qr qf lf m k w) (hk : k < m) (hw : w < 4) (hn : nx (qf k) w = some q) (hf : F q = -1) (hf0 : F0 q = -1) (ho : ok (lf k + 1) q) :
    m < 96 ∧ QU S ok F0 (upd F q (nI (lf k + 1))) (upd Qr m (nI q)) (updN qf m q) (updN lf m (lf k + 1)) (m + 1) k (w + 1) := by
  obtain ⟨h1, h2, h3, h4, h5, h6, h7, h8, h9, h10, h11, h12⟩ := h
  have hq := nx_lt (h1 k hk).2.1 hn
  have hne : ∀ i, i < m → qf i ≠ q := fun i hi e => by
    have a := (h1 i hi).2.2.1
    rw [e, hf] at a
    have := (h1 i hi).2.2.2.1
    have hm : m ≤ 96 := by rw [← h11]; exact cN_le 96
    exact nI_n1 (by omega) a.symm
  have cnt : cN (fun a => upd F q (nI (lf k + 1)) a ≠ -1 ∧ F0 a = -1) 96 = m + 1 := by
    rw [← h11]
    refine cN_one 96 hq (fun z => z.1 hf) ⟨?_, hf0⟩ (fun i _ hi => by rw [upd_n hi])
    rw [upd_s]
    have := (h1 k hk).2.2.2.1
    have hm : m ≤ 96 := by rw [← h11]; exact cN_le 96
    exact nI_n1 (by omega)
  have hm : m + 1 ≤ 96 := by rw [← cnt]; exact cN_le 96
  have el : ∀ i, i < m → updN qf m q i = qf i ∧ updN lf m (lf k + 1) i = lf i := fun i hi => ⟨if_neg (by omega), if_neg (by omega)⟩
  have em : updN qf m q m = q ∧ updN lf m (lf k + 1) m = lf k + 1 := ⟨if_pos rfl, if_pos rfl⟩
  have hS : ¬ S q := fun z => by
    obtain ⟨i, hi, e⟩ := h7 q hq z
    exact hne i hi e
  refine ⟨by omega, fun i hi => ?_, fun i i' hi hi' e => ?_, fun i i' hi hi' => ?_, fun _ i hi => ?_, fun a ha hfa => ?_, fun i hi => ?_, fun a ha hs => ?_, fun i j hi e => ?_, fun i w' a hi hw' hc hna hoa => ?_, by omega, cnt, fun a ha h0 => ?_⟩
  · by_cases e : i = m
    · subst e
      rw [em.1, em.2, upd_s, upd_s]
      have := (h1 k hk).2.2.2.1
      exact ⟨rfl, hq, rfl, by omega, hf0⟩
    · have hi' : i < m := by omega
      rw [(el i hi').1, (el i hi').2, upd_n (by omega), upd_n (hne i hi')]
      exact h1 i hi'
  · by_cases e1 : i = m <;> by_cases e2 : i' = m
    · omega
    · subst e1
      rw [em.1, (el i' (by omega)).1] at e
      exact absurd e.symm (hne i' (by omega))
    · subst e2
      rw [em.1, (el i (by omega)).1] at e
      exact absurd e (hne i (by omega))
    · rw [(el i (by omega)).1, (el i' (by omega)).1] at e
      exact h2 i i' (by omega) (by omega) e
  · by_cases e2 : i' = m
    · subst e2
      rw [em.2]
      by_cases e1 : i = i'
      · subst e1; rw [em.2]; exact Nat.le_refl _
      · rw [(el i (by omega)).2]; exact h4 hk i (by omega)
    · rw [(el i (by omega)).2, (el i' (by omega)).2]; exact h3 i i' hi (by omega)
  · rw [(el k hk).2]
    by_cases e1 : i = m
    · subst e1; rw [em.2]; exact Nat.le_refl _
    · rw [(el i (by omega)).2]; exact h4 hk i (by omega)
  · by_cases e : a = q
    · exact Or.inr ⟨m, by omega, by rw [em.1, e]⟩
    · rw [upd_n e] at hfa
      rcases h5 a ha hfa with z | ⟨i, hi, z⟩
      · exact Or.inl z
      · exact Or.inr ⟨i, by omega, by rw [(el i hi).1]; exact z⟩
  · by_cases e : i = m
    · subst e
      rw [em.1, em.2]
      exact ⟨fun z => by omega, fun z => absurd z hS⟩
    · rw [(el i (by omega)).1, (el i (by omega)).2]; exact h6 i (by omega)
  · obtain ⟨i, hi, z⟩ := h7 a ha hs
    exact ⟨i, by omega, by rw [(el i hi).1]; exact z⟩
  · by_cases e1 : i = m
    · subst e1
      rw [em.2] at e
      rw [em.1]
      have ej : lf k = j := by omega
      subst ej
      exact ⟨ho, k, w, by omega, hw, by rw [(el k hk).1]; exact hn, (el k hk).2⟩
    · rw [(el i (by omega)).2] at e
      rw [(el i (by omega)).1]
      obtain ⟨a1, i', w', a2, a3, a4, a5⟩ := h8 i j (by omega) e
      exact ⟨a1, i', w', by omega, a3, by rw [(el i' a2).1]; exact a4, by rw [(el i' a2).2]; exact a5⟩
  · have hi' : i < m := by omega
    rw [(el i hi').1] at hna
    rw [(el i hi').2] at hoa ⊢
    by_cases last : i = k ∧ w' = w
    · rw [last.1, last.2, hn] at hna
      cases hna
      exact ⟨m, by omega, em.1, by rw [em.2, last.1]; exact Nat.le_refl _⟩
    · obtain ⟨i', a1, a2, a3⟩ := h9 i w' a hi' hw' (by omega) hna hoa
      exact ⟨i', by omega, by rw [(el i' a1).1]; exact a2, by rw [(el i' a1).2]; exact a3⟩
  · rw [upd_n (fun z => by rw [z] at h0; exact h0 hf0)]
    exact h12 a ha h0
theorem QU.skip {S : Nat → Prop} {ok : Nat → Nat → Prop} {F0 F Qr : nT} {qf lf : Nat → Nat} {m k w : Nat} (h : QU S ok F0 F Qr qf lf m k w) (hk : k < m) (hs : ∀ q, nx (qf k) w = some q → ok (lf k + 1) q → F q ≠ -1 ∧ F0 q = -1) : QU S ok F0 F Qr qf lf m k (w + 1) := by
  obtain ⟨h1, h2, h3, h4, h5, h6, h7, h8, h9, h10⟩ := h
  refine ⟨h1, h2, h3, h4, h5, h6, h7, h8, fun i w' q hi hw' hc hn ho => ?_, h10⟩
  by_cases last : i = k ∧ w' = w
  · obtain ⟨rfl, rfl⟩ := last
    obtain ⟨z, z0⟩ := hs q hn ho
    rcases h5 q (nx_lt (h1 i hi).2.1 hn) z with a | ⟨i', hi', e⟩
    · exact absurd z0 a
    · exact ⟨i', hi', e, h4 hk i' hi'⟩
  · exact h9 i w' q hi hw' (by omega) hn ho
theorem QU.next {S : Nat → Prop} {ok : Nat → Nat → Prop} {F0 F Qr : nT} {qf lf : Nat → Nat} {m k : Nat} (h : QU S ok F0 F Qr qf lf m k 4) (hk : k < m) : QU S ok F0 F Qr qf lf m (k + 1) 0 := by
  obtain ⟨h1, h2, h3, h4, h5, h6, h7, h8, h9, h10, h11⟩ := h
  refine ⟨h1, h2, h3, fun hk1 i hi => ?_, h5, h6, h7, h8, fun i w' q hi hw' hc hn ho => h9 i w' q hi hw' (by omega) hn ho, by omega, h11⟩
  have := h4 hk i hi
  have := h3 k (k + 1) (by omega) hk1
  omega
def RQ (qf lf : Nat → Nat) (m : Nat) : Nat → Nat → Prop := fun q j => ∃ i, i < m ∧ qf i = q ∧ lf i = j
theorem QU.ch {S : Nat → Prop} {ok : Nat → Nat → Prop} {F0 F Qr : nT} {qf lf : Nat → Nat} {m k w K : Nat} (h : QU S ok F0 F Qr qf lf m k w) (hK : k < m → K ≤ lf k) : ChR S ok (RQ qf lf m) K := by
  obtain ⟨h1, h2, h3, h4, h5, h6, h7, h8, h9, h10, h11⟩ := h
  refine ⟨fun q i j a b => ?_, fun q => ⟨fun a => ?_, fun a => ?_⟩, fun q j a => ?_, fun p w' q j hj a hw hn ho => ?_⟩
  · obtain ⟨x, x1, x2, x3⟩ := a
    obtain ⟨y, y1, y2, y3⟩ := b
    have := h2 x y x1 y1 (x2.trans y2.symm)
    subst this
    exact x3.symm.trans y3
  · obtain ⟨x, x1, x2, x3⟩ := a
    subst x2
    exact ⟨(h1 x x1).2.1, (h6 x x1).mp x3⟩
  · obtain ⟨x, x1, x2⟩ := h7 q a.1 a.2
    subst x2
    exact ⟨x, x1, rfl, (h6 x x1).mpr a.2⟩
  · obtain ⟨x, x1, x2, x3⟩ := a
    subst x2
    obtain ⟨a1, i', w', a2, a3, a4, a5⟩ := h8 x j x1 x3
    exact ⟨(h1 x x1).2.1, a1, qf i', w', (h1 i' a2).2.1, a3, a4, i', a2, rfl, a5⟩
  · obtain ⟨x, x1, x2, x3⟩ := a
    subst x2
    subst x3
    have hx : x < k := by
      by_cases z : x < k
      · exact z
      · have := h3 k x (by omega) x1
        have := hK (by omega)
        omega
    obtain ⟨i', b1, b2, b3⟩ := h9 x w' q x1 hw (Or.inl hx) hn ho
    exact ⟨lf i', b3, i', b1, b2, rfl⟩
