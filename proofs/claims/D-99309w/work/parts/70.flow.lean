/-! STREAMS, plain: flows of ones over places come into and out of; a cut bounds them -/
def sZ (f : Nat → Int) : Nat → Int
  | 0 => 0
  | n + 1 => sZ f n + f n
theorem sZ_c {f g : Nat → Int} : ∀ n, (∀ i, i < n → f i = g i) → sZ f n = sZ g n
  | 0, _ => rfl
  | n + 1, h => by simp only [sZ]; rw [sZ_c n (fun i hi => h i (by omega)), h n (by omega)]
theorem sZ_le {f g : Nat → Int} : ∀ n, (∀ i, i < n → f i ≤ g i) → sZ f n ≤ sZ g n
  | 0, _ => Int.le_refl _
  | n + 1, h => by
    have := sZ_le n (fun i hi => h i (by omega))
    have := h n (by omega)
    simp only [sZ]; omega
theorem sZ_add {f g : Nat → Int} : ∀ n, sZ (fun i => f i + g i) n = sZ f n + sZ g n
  | 0 => rfl
  | n + 1 => by simp only [sZ]; rw [sZ_add n]; omega
theorem sZ_sub {f g : Nat → Int} : ∀ n, sZ (fun i => f i - g i) n = sZ f n - sZ g n
  | 0 => rfl
  | n + 1 => by simp only [sZ]; rw [sZ_sub n]; omega
theorem sZ_0 : ∀ n, sZ (fun _ => 0) n = 0
  | 0 => rfl
  | n + 1 => by simp only [sZ]; rw [sZ_0 n]; rfl
theorem sZ_mul {c : Int} {f : Nat → Int} : ∀ n, sZ (fun i => f i * c) n = sZ f n * c
  | 0 => by simp [sZ]
  | n + 1 => by simp only [sZ]; rw [sZ_mul n, Int.add_mul]
theorem sZ_swap {g : Nat → Nat → Int} {m : Nat} : ∀ n, sZ (fun p => sZ (fun q => g p q) m) n = sZ (fun q => sZ (fun p => g p q) n) m
  | 0 => by simp only [sZ]; exact (sZ_0 m).symm
  | n + 1 => by
    simp only [sZ]
    rw [sZ_swap n, ← sZ_add]
theorem sZ_at {a : Nat} {c : Int} : ∀ n, sZ (fun i => if i = a then c else 0) n = if a < n then c else 0
  | 0 => rfl
  | n + 1 => by
    simp only [sZ]
    rw [sZ_at n]
    by_cases h : n = a
    · subst h; rw [if_neg (by omega), if_pos rfl, if_pos (by omega)]; omega
    · rw [if_neg h]
      by_cases h2 : a < n
      · rw [if_pos h2, if_pos (by omega)]; omega
      · rw [if_neg h2, if_neg (by omega)]; rfl
theorem sZ_up {f g : Nat → Int} {a : Nat} {c : Int} : ∀ n, a < n → g a = f a + c → (∀ i, i < n → i ≠ a → g i = f i) → sZ g n = sZ f n + c
  | 0, h, _, _ => by omega
  | n + 1, h, h1, h2 => by
    simp only [sZ]
    by_cases e : a = n
    · subst e
      rw [sZ_c a (fun i hi => h2 i (by omega) (by omega)), h1]; omega
    · rw [sZ_up n (by omega) h1 (fun i hi hia => h2 i (by omega) hia), h2 n (by omega) (fun z => e z.symm)]; omega
/-- what is too much at a state -/
def exS (x : Nat → Nat → Int) (t : Nat → Int) (s : Nat) : Int := if s % 2 = 0 then sZ (fun p => x p (s / 2)) 96 - t (s / 2) else t (s / 2) - sZ (fun q => x (s / 2) q) 96
abbrev ind (c : Prop) [Decidable c] (n : Int) : Int := if c then n else 0
/-- a step that a stream may take -/
def arc (Kd : nT) (a b p q : Nat) : Prop := p < 96 ∧ q < 96 ∧ (∃ w, w < 4 ∧ nx p w = some q) ∧ Kd p = 1 ∧ Kd q = 1 ∧ q ≠ a ∧ p ≠ b
/-- a stream of n from a to b; one less at s, one more come to b -/
def FwG (Kd : nT) (a b : Nat) (e : Nat → Int) (x : Nat → Nat → Int) (t : Nat → Int) : Prop :=
  (∀ p q, x p q = 0 ∨ x p q = 1) ∧ (∀ p, t p = 0 ∨ t p = 1) ∧ (∀ p q, x p q = 1 → arc Kd a b p q) ∧ (∀ p, t p = 1 → p < 96 ∧ p ≠ a ∧ p ≠ b) ∧ ∀ s, s < 192 → exS x t s = e s
def Fw (Kd : nT) (a b : Nat) (n : Int) (x : Nat → Nat → Int) (t : Nat → Int) : Prop := FwG Kd a b (fun s => ind (s = 2 * b) n - ind (s = 2 * a + 1) n) x t
theorem Fw.cut {Kd : nT} {a b : Nat} {n : Int} {x : Nat → Nat → Int} {t : Nat → Int} {rI rO : Nat → Int} (h : Fw Kd a b n x t) (ha : a < 96) (hb : b < 96) (hO : rO a = 1) (hI : rI b = 0) :
    sZ (fun p => sZ (fun q => x p q * (rO p - rI q)) 96) 96 + sZ (fun p => t p * (rI p - rO p)) 96 = n := by
  have e1 : ∀ p, p < 96 → sZ (fun q => x p q) 96 - t p = ind (p = a) n := fun p hp => by
    have := h.2.2.2.2 (2 * p + 1) (by omega)
    unfold exS at this
    rw [if_neg (by omega), show (2 * p + 1) / 2 = p by omega] at this
    simp only [ind] at this ⊢
    rw [if_neg (by omega)] at this
    by_cases e : p = a
    · subst e; rw [if_pos rfl] at this ⊢; omega
    · rw [if_neg (by omega)] at this; rw [if_neg e]; omega
  have e2 : ∀ q, q < 96 → sZ (fun p => x p q) 96 - t q = ind (q = b) n := fun q hq => by
    have := h.2.2.2.2 (2 * q) (by omega)
    unfold exS at this
    rw [if_pos (by omega), show (2 * q) / 2 = q by omega] at this
    simp only [ind] at this ⊢
    by_cases e : q = b
    · subst e; rw [if_pos rfl, if_neg (by omega)] at this; rw [if_pos rfl]; omega
    · rw [if_neg (by omega), if_neg (by omega)] at this; rw [if_neg e]; omega
  have s1 : sZ (fun p => sZ (fun q => x p q * (rO p - rI q)) 96) 96 = sZ (fun p => sZ (fun q => x p q) 96 * rO p) 96 - sZ (fun q => sZ (fun p => x p q) 96 * rI q) 96 := by
    have : (fun p => sZ (fun q => x p q * (rO p - rI q)) 96) = fun p => sZ (fun q => x p q) 96 * rO p - sZ (fun q => x p q * rI q) 96 := by
      funext p
      rw [← sZ_mul, ← sZ_sub]
      exact sZ_c 96 fun q _ => by rw [Int.mul_sub]
    rw [this, sZ_sub, sZ_swap (g := fun p q => x p q * rI q) 96, sZ_c (g := fun q => sZ (fun p => x p q) 96 * rI q) 96 fun q _ => sZ_mul 96]
  have s2 : sZ (fun p => t p * (rI p - rO p)) 96 = sZ (fun p => t p * rI p) 96 - sZ (fun p => t p * rO p) 96 := by
    rw [← sZ_sub]
    exact sZ_c 96 fun p _ => by rw [Int.mul_sub]
  have s3 : sZ (fun p => sZ (fun q => x p q) 96 * rO p) 96 - sZ (fun p => t p * rO p) 96 = n := by
    rw [← sZ_sub, sZ_c (g := fun p => if p = a then n else 0) 96 (fun p hp => by
      rw [← Int.sub_mul, e1 p hp]
      simp only [ind]
      by_cases e : p = a
      · subst e; rw [if_pos rfl, hO, Int.mul_one]
      · rw [if_neg e, Int.zero_mul]), sZ_at, if_pos ha]
  have s4 : sZ (fun q => sZ (fun p => x p q) 96 * rI q) 96 - sZ (fun p => t p * rI p) 96 = 0 := by
    rw [← sZ_sub, sZ_c (g := fun _ => 0) 96 (fun q hq => by
      rw [← Int.sub_mul, e2 q hq]
      simp only [ind]
      by_cases e : q = b
      · subst e; rw [if_pos rfl, hI, Int.mul_zero]
      · rw [if_neg e, Int.zero_mul]), sZ_0]
  rw [s1, s2]
  omega
/-- a set of states that a search from a came to, b not among them -/
def Clo (Kd : nT) (a b : Nat) (x : Nat → Nat → Int) (t : Nat → Int) (rI rO : Nat → Int) : Prop :=
  (∀ p, (rI p = 0 ∨ rI p = 1) ∧ (rO p = 0 ∨ rO p = 1)) ∧ rO a = 1 ∧ rI b = 0 ∧
  (∀ p q, arc Kd a b p q → rO p = 1 → x p q = 0 → rI q = 1) ∧ (∀ p q, rI q = 1 → x p q = 1 → rO p = 1) ∧
  (∀ p, p < 96 → p ≠ a → p ≠ b → (rI p = 1 → t p = 0 → rO p = 1) ∧ (rO p = 1 → t p = 1 → rI p = 1))
theorem Fw.le {Kd : nT} {a b : Nat} {n n' : Int} {x x' : Nat → Nat → Int} {t t' : Nat → Int} {rI rO : Nat → Int} (h : Fw Kd a b n x t) (h' : Fw Kd a b n' x' t') (c : Clo Kd a b x' t' rI rO) (ha : a < 96) (hb : b < 96) : n ≤ n' := by
  obtain ⟨c0, c1, c2, c3, c4, c5⟩ := c
  rw [← h.cut (rI := rI) (rO := rO) ha hb c1 c2, ← h'.cut (rI := rI) (rO := rO) ha hb c1 c2]
  refine Int.add_le_add (sZ_le 96 fun p hp => sZ_le 96 fun q hq => ?_) (sZ_le 96 fun p hp => ?_)
  · have hx := h.1 p q
    have hx' := h'.1 p q
    have p1 := (c0 p).2
    have q1 := (c0 q).1
    by_cases ar : arc Kd a b p q
    · have d3 := c3 p q ar
      have d4 := c4 p q
      rcases hx with e | e <;> rcases hx' with e' | e' <;> rcases p1 with f | f <;> rcases q1 with g | g <;> rw [e, e', f, g] <;> first | decide | (rw [e', f, g] at *; omega) | (simp [e', f, g] at d3 d4)
    · have z : x p q = 0 := hx.resolve_right fun e => ar (h.2.2.1 p q e)
      have z' : x' p q = 0 := hx'.resolve_right fun e => ar (h'.2.2.1 p q e)
      rw [z, z', Int.zero_mul]; exact Int.le_refl _
  · have hx := h.2.1 p
    have hx' := h'.2.1 p
    have p1 := (c0 p).2
    have q1 := (c0 p).1
    by_cases ar : p ≠ a ∧ p ≠ b
    · have ⟨d3, d4⟩ := c5 p hp ar.1 ar.2
      rcases hx with e | e <;> rcases hx' with e' | e' <;> rcases p1 with f | f <;> rcases q1 with g | g <;> rw [e, e', f, g] <;> first | decide | (simp [e', f, g] at d3 d4)
    · have z : t p = 0 := hx.resolve_right fun e => ar (h.2.2.2.1 p e).2
      have z' : t' p = 0 := hx'.resolve_right fun e => ar (h'.2.2.2.1 p e).2
      rw [z, z', Int.zero_mul]; exact Int.le_refl _
