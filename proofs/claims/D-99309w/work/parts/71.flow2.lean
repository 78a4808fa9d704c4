/-! STREAMS, plain: a step laid or taken off moves what is too much -/
def updX (x : Nat → Nat → Int) (p q : Nat) (v : Int) : Nat → Nat → Int := fun p' q' => if p' = p ∧ q' = q then v else x p' q'
def updT (t : Nat → Int) (p : Nat) (v : Int) : Nat → Int := fun p' => if p' = p then v else t p'
theorem ex_x {x : Nat → Nat → Int} {t : Nat → Int} {p q s : Nat} {v : Int} (hp : p < 96) (hq : q < 96) : exS (updX x p q v) t s = exS x t s + ind (s = 2 * q) (v - x p q) - ind (s = 2 * p + 1) (v - x p q) := by
  unfold exS
  simp only [ind]
  by_cases hs : s % 2 = 0
  · rw [if_pos hs, if_pos hs, if_neg (show ¬ s = 2 * p + 1 by omega)]
    by_cases e : s = 2 * q
    · rw [if_pos e, show s / 2 = q by omega, sZ_up (f := fun p' => x p' q) (a := p) (c := v - x p q) 96 hp (by show (if p = p ∧ q = q then v else x p q) = _; rw [if_pos ⟨rfl, rfl⟩]; omega) (fun i _ hi => by show (if i = p ∧ q = q then v else x i q) = _; rw [if_neg (fun z => hi z.1)])]
      omega
    · rw [if_neg e, sZ_c (g := fun p' => x p' (s / 2)) 96 (fun i _ => by show (if i = p ∧ s / 2 = q then v else x i (s / 2)) = _; rw [if_neg (fun z => by omega)])]
      omega
  · rw [if_neg hs, if_neg hs, if_neg (show ¬ s = 2 * q by omega)]
    by_cases e : s = 2 * p + 1
    · rw [if_pos e, show s / 2 = p by omega, sZ_up (f := fun q' => x p q') (a := q) (c := v - x p q) 96 hq (by show (if p = p ∧ q = q then v else x p q) = _; rw [if_pos ⟨rfl, rfl⟩]; omega) (fun i _ hi => by show (if p = p ∧ i = q then v else x p i) = _; rw [if_neg (fun z => hi z.2)])]
      omega
    · rw [if_neg e, sZ_c (g := fun q' => x (s / 2) q') 96 (fun i _ => by show (if s / 2 = p ∧ i = q then v else x (s / 2) i) = _; rw [if_neg (fun z => by omega)])]
      omega
theorem ex_t {x : Nat → Nat → Int} {t : Nat → Int} {p s : Nat} {v : Int} : exS x (updT t p v) s = exS x t s - ind (s = 2 * p) (v - t p) + ind (s = 2 * p + 1) (v - t p) := by
  unfold exS updT
  simp only [ind]
  by_cases hs : s % 2 = 0
  · rw [if_pos hs, if_pos hs, if_neg (show ¬ s = 2 * p + 1 by omega)]
    by_cases e : s = 2 * p
    · rw [if_pos e, if_pos (by omega), show s / 2 = p by omega]; omega
    · rw [if_neg e, if_neg (by omega)]; omega
  · rw [if_neg hs, if_neg hs, if_neg (show ¬ s = 2 * p by omega)]
    by_cases e : s = 2 * p + 1
    · rw [if_pos e, if_pos (by omega), show s / 2 = p by omega]; omega
    · rw [if_neg e, if_neg (by omega)]; omega
