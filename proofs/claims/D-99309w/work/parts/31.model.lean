/-! THE MODEL: a town as a row of ints, as the twin lays it: 0.. how places fare, 96.. minutes yet, 192.. told, 216.. where, 240.. value, 264.. sum, 288.. gone, 312 wind, 313 clock, 314 lot; kinds beside it; the law as a function -/
abbrev nT : Type := Nat → Int32
/-- the place beside another one -/
def nx (p w : Nat) : Option Nat :=
  if w = 0 then (if p < 12 then none else some (p - 12))
  else if w = 1 then (if p % 12 = 11 then none else some (p + 1))
  else if w = 2 then (if 84 ≤ p then none else some (p + 12))
  else (if p % 12 = 0 then none else some (p - 1))
def oI (o : Option Nat) : Int32 := match o with | none => -1 | some q => nI q
/-- sums, sets and counts up to n -/
def sI (f : Nat → Int32) : Nat → Int32
  | 0 => 0
  | n + 1 => sI f n + f n
def oS (c : Nat → Prop) [DecidablePred c] : Nat → Int32
  | 0 => 0
  | n + 1 => if c n then oS c n ||| ((1 : Int32) <<< (nI n &&& 31)) else oS c n
def cN (c : Nat → Prop) [DecidablePred c] : Nat → Nat
  | 0 => 0
  | n + 1 => if c n then cN c n + 1 else cN c n
def itN {α : Type} (f : Nat → α → α) : Nat → α → α
  | 0, a => a
  | n + 1, a => f n (itN f n a)
def told (N : nT) (i : Nat) : Prop := N (192 + i) = 1
def lies (N : nT) (p i : Nat) : Prop := N (192 + i) = 1 ∧ N (288 + i) = 0 ∧ N (216 + i) = nI p
abbrev liesB (N : nT) (p i : Nat) : Prop := N (192 + i) = 1 ∧ N (288 + i) = 0 ∧ N (216 + i) = nI p
def valuesA (N : nT) (p : Nat) : Int32 := sI (fun i => if liesB N p i ∧ N (264 + i) = 0 then N (240 + i) else 0) 24
def sumsA (N : nT) (p : Nat) : Int32 := sI (fun i => if liesB N p i then N (264 + i) else 0) 24
def thingsA (N : nT) (p : Nat) : Int32 := oS (fun i => liesB N p i) 24
def burnC (N : nT) (p w : Nat) : Prop := ∃ q, nx p w = some q ∧ N q = 1
abbrev burnB (N : nT) (p w : Nat) : Prop := (match nx p w with | none => false | some q => decide (N q = 1)) = true
def aroundA (N : nT) (p : Nat) : Int32 := nI (cN (fun w => burnB N p w) 4)
def factsA (N : nT) (p : Nat) (yet way drawn : Int32) : nT := fun j =>
  if j = 0 then nI p else if j = 1 then yet else if j = 2 then aroundA N p else if j = 3 then valuesA N p else if j = 4 then sumsA N p else if j = 5 then way else if j = 6 then N 312 else if j = 7 then rmd (N 313) 100 else if j = 8 then drawn else 0
abbrev lawT : Type := Int32 → nT → Option Int32
def clampA (v lo hi : Int32) : Int32 := if v < lo then lo else if hi < v then hi else v
def byA (L : lawT) (c lo hi : Int32) (F : nT) : Int32 := match L c F with | none => lo | some v => clampA v lo hi
def anyA (L : lawT) (c : Int32) (F : nT) : Bool := (L c F).isSome
def drawN (N : nT) : nT := upd N 314 (rmd ((25173 * N 314) + 13849) 65536)
def overA (L : lawT) (Kd : nT) (p w : Nat) (N : nT) : nT := match nx p w with
  | none => N
  | some q => if Kd q = 1 ∧ N q = 0 then
      (if rmd (drawN N 314) 10 < byA L 115 0 10 (factsA N q (N (96 + p)) (nI w) 0) then
        upd (upd (drawN N) (96 + q) (byA L 98 1 9 (factsA (drawN N) q 0 0 0))) q 1
      else drawN N) else N
def goneN (p : Nat) (N : nT) : nT := fun j => if 288 ≤ j ∧ j < 312 ∧ liesB N p (j - 288) ∧ N (264 + (j - 288)) = 0 then 1 else N j
def outA (L : lawT) (p : Nat) (N : nT) : nT :=
  let N1 := drawN N
  let y := if anyA L 120 (factsA N1 p (N (96 + p)) 0 (rmd (N1 314) 10)) = true then 0 else N1 (96 + p) - 1
  if y = 0 then upd (upd N1 (96 + p) y) p 2 else upd N1 (96 + p) y
def turnA (L : lawT) (Kd : nT) (p : Nat) (N : nT) : nT := outA L p (itN (fun w M => overA L Kd p w M) 4 (goneN p N))
def minuteA (L : lawT) (Kd : nT) (N : nT) : nT :=
  let M := itN (fun p M => if N p = 1 then turnA L Kd p M else M) 96 N
  upd M 313 (M 313 + 1)
def minutesA (L : lawT) (Kd : nT) : Nat → nT → nT
  | 0, N => N
  | n + 1, N => if N 313 < 9999 then minutesA L Kd n (minuteA L Kd N) else N
def lostA (N : nT) : Int32 := sI (fun i => if N (192 + i) = 1 ∧ N (288 + i) = 1 then N (240 + i) else 0) 24
def goneA (N : nT) : Int32 := oS (fun i => N (192 + i) = 1 ∧ N (288 + i) = 1) 24
def toldA (N : nT) : Int32 := oS (fun i => N (192 + i) = 1) 24
def faringA (N : nT) (x : Int32) : Int32 := nI (cN (fun p => N p = x) 96)
def ruinsA (N : nT) : Int32 := sI (fun p => if N p = 0 then 0 else sumsA N p) 96
/-! rows of a heap -/
theorem up2_r {f : vT} {o k : Nat} {x : Int32} : up2 f o k x o = upd (f o) k x := by
  funext j; unfold up2 upd; by_cases h : j = k <;> simp [h]
theorem up2_n {f : vT} {o a k : Nat} {x : Int32} (h : a ≠ o) : up2 f o k x a = f a := by
  funext j; unfold up2; simp [h]
/-- all rows but those named are as they were -/
def Fr (S : List Nat) (V V' : vT) : Prop := ∀ o, o ∉ S → V' o = V o
theorem Fr.rf {S : List Nat} {V : vT} : Fr S V V := fun _ _ => rfl
theorem Fr.tr {S : List Nat} {V V1 V2 : vT} (h : Fr S V V1) (h1 : Fr S V1 V2) : Fr S V V2 := fun o ho => (h1 o ho).trans (h o ho)
theorem Fr.up {S : List Nat} {V V1 : vT} {o k : Nat} {x : Int32} (h : Fr S V V1) (ho : o ∈ S) : Fr S V (up2 V1 o k x) := fun a ha => (up2_n (fun e => ha (by rw [e]; exact ho))).trans (h a ha)
theorem Fr.sub {S S' : List Nat} {V V1 : vT} (h : Fr S V V1) (hs : ∀ o, o ∈ S → o ∈ S') : Fr S' V V1 := fun o ho => h o (fun e => ho (hs o e))
theorem upd_s {f : nT} {k : Nat} {x : Int32} : upd f k x k = x := by simp [upd]
theorem upd_n {f : nT} {k j : Nat} {x : Int32} (h : j ≠ k) : upd f k x j = f j := by simp [upd, h]
/-! the place beside -/
theorem nx_lt {p w q : Nat} (hp : p < 96) (h : nx p w = some q) : q < 96 := by
  unfold nx at h
  split at h
  · split at h
    · cases h
    · cases h; omega
  · split at h
    · split at h
      · cases h
      · cases h; omega
    · split at h
      · split at h
        · cases h
        · cases h; omega
      · split at h
        · cases h
        · cases h; omega
theorem oI_m1 {o : Option Nat} (h : ∀ q, o = some q → q < 2 ^ 31) : oI o = -1 ↔ o = none := by
  cases o with
  | none => simp [oI]
  | some q =>
    have hq := h q rfl
    simp only [oI, reduceCtorEq, iff_false]
    intro e
    have := congrArg Int32.toInt e
    rw [nI_toInt hq] at this
    simp at this
