/-! BOTH OBJECTS, call by call: ruin -/
def bcI (x : Int32) : Int32 := ((((((((x - (((x.toUInt32 >>> ((1 : Int32).toUInt32 &&& Int32.toUInt32 31)).toInt32) &&& 1431655765)) &&& 858993459) + ((((x - (((x.toUInt32 >>> ((1 : Int32).toUInt32 &&& Int32.toUInt32 31)).toInt32) &&& 1431655765)).toUInt32 >>> ((2 : Int32).toUInt32 &&& Int32.toUInt32 31)).toInt32) &&& 858993459)) + (((((x - (((x.toUInt32 >>> ((1 : Int32).toUInt32 &&& Int32.toUInt32 31)).toInt32) &&& 1431655765)) &&& 858993459) + ((((x - (((x.toUInt32 >>> ((1 : Int32).toUInt32 &&& Int32.toUInt32 31)).toInt32) &&& 1431655765)).toUInt32 >>> ((2 : Int32).toUInt32 &&& Int32.toUInt32 31)).toInt32) &&& 858993459)).toUInt32 >>> ((4 : Int32).toUInt32 &&& Int32.toUInt32 31)).toInt32)) &&& 252645135) + (((((((x - (((x.toUInt32 >>> ((1 : Int32).toUInt32 &&& Int32.toUInt32 31)).toInt32) &&& 1431655765)) &&& 858993459) + ((((x - (((x.toUInt32 >>> ((1 : Int32).toUInt32 &&& Int32.toUInt32 31)).toInt32) &&& 1431655765)).toUInt32 >>> ((2 : Int32).toUInt32 &&& Int32.toUInt32 31)).toInt32) &&& 858993459)) + (((((x - (((x.toUInt32 >>> ((1 : Int32).toUInt32 &&& Int32.toUInt32 31)).toInt32) &&& 1431655765)) &&& 858993459) + ((((x - (((x.toUInt32 >>> ((1 : Int32).toUInt32 &&& Int32.toUInt32 31)).toInt32) &&& 1431655765)).toUInt32 >>> ((2 : Int32).toUInt32 &&& Int32.toUInt32 31)).toInt32) &&& 858993459)).toUInt32 >>> ((4 : Int32).toUInt32 &&& Int32.toUInt32 31)).toInt32)) &&& 252645135).toUInt32 >>> ((8 : Int32).toUInt32 &&& Int32.toUInt32 31)).toInt32)) + ((((((((x - (((x.toUInt32 >>> ((1 : Int32).toUInt32 &&& Int32.toUInt32 31)).toInt32) &&& 1431655765)) &&& 858993459) + ((((x - (((x.toUInt32 >>> ((1 : Int32).toUInt32 &&& Int32.toUInt32 31)).toInt32) &&& 1431655765)).toUInt32 >>> ((2 : Int32).toUInt32 &&& Int32.toUInt32 31)).toInt32) &&& 858993459)) + (((((x - (((x.toUInt32 >>> ((1 : Int32).toUInt32 &&& Int32.toUInt32 31)).toInt32) &&& 1431655765)) &&& 858993459) + ((((x - (((x.toUInt32 >>> ((1 : Int32).toUInt32 &&& Int32.toUInt32 31)).toInt32) &&& 1431655765)).toUInt32 >>> ((2 : Int32).toUInt32 &&& Int32.toUInt32 31)).toInt32) &&& 858993459)).toUInt32 >>> ((4 : Int32).toUInt32 &&& Int32.toUInt32 31)).toInt32)) &&& 252645135) + (((((((x - (((x.toUInt32 >>> ((1 : Int32).toUInt32 &&& Int32.toUInt32 31)).toInt32) &&& 1431655765)) &&& 858993459) + ((((x - (((x.toUInt32 >>> ((1 : Int32).toUInt32 &&& Int32.toUInt32 31)).toInt32) &&& 1431655765)).toUInt32 >>> ((2 : Int32).toUInt32 &&& Int32.toUInt32 31)).toInt32) &&& 858993459)) + (((((x - (((x.toUInt32 >>> ((1 : Int32).toUInt32 &&& Int32.toUInt32 31)).toInt32) &&& 1431655765)) &&& 858993459) + ((((x - (((x.toUInt32 >>> ((1 : Int32).toUInt32 &&& Int32.toUInt32 31)).toInt32) &&& 1431655765)).toUInt32 >>> ((2 : Int32).toUInt32 &&& Int32.toUInt32 31)).toInt32) &&& 858993459)).toUInt32 >>> ((4 : Int32).toUInt32 &&& Int32.toUInt32 31)).toInt32)) &&& 252645135).toUInt32 >>> ((8 : Int32).toUInt32 &&& Int32.toUInt32 31)).toInt32)).toUInt32 >>> ((16 : Int32).toUInt32 &&& Int32.toUInt32 31)).toInt32)) &&& 63)
def bI (t : Nat) : Nat → Int32
  | 0 => 0
  | i + 1 => bI t i + ((nI t >>> (nI i &&& 31)) &&& 1)
theorem bc_all : (List.range 64).all (fun t => decide (bcI (nI t) = bI t 24)) = true := by decide +kernel
theorem bc_b {t : Nat} (h : t < 64) : bcI (nI t) = bI t 24 := of_decide_eq_true (List.all_eq_true.mp bc_all t (List.mem_range.mpr h))
def owB (T : nT) (n l a : Nat) : Nat → Nat := sN fun d => if d ≠ a ∧ ¬ l.testBit d = true then oq T (n * a + d) else 0
def owT (T : nT) (n l a : Nat) : Nat → Nat := sN fun d => if d ≠ a ∧ ¬ l.testBit d = true then oq T (n * d + a) else 0
abbrev badA (T : nT) (n l a : Nat) : Prop := oq T (n * a + a) + owT T n l a n < owB T n l a n
def rnd (T : nT) (n l : Nat) : Nat → Nat
  | 0 => l
  | i + 1 => if ¬ l.testBit i = true ∧ badA T n l i then rnd T n l i ||| 2 ^ i else rnd T n l i
def ruG (T : nT) (n : Nat) : Nat → Nat → Nat
  | 0, t => t
  | r + 1, t => if rnd T n t n = t then t else ruG T n r (rnd T n t n)
def ruZ (w : Int32) (t : Nat) : Int32 := if w = 0 then bI t 24 else nI t
theorem sN_le {f : Nat → Nat} {b : Nat} (h : ∀ i, f i ≤ b) : ∀ n, sN f n ≤ b * n
  | 0 => by simp [sN]
  | n + 1 => by
    have := sN_le h n
    have := h n
    simp only [sN, Nat.mul_succ]; omega
theorem owB_le {T : nT} {n l a i : Nat} : owB T n l a i ≤ 255 * i := sN_le (fun d => by have := oq_lt (T := T) (i := n * a + d); split <;> omega) i
theorem owT_le {T : nT} {n l a i : Nat} : owT T n l a i ≤ 255 * i := sN_le (fun d => by have := oq_lt (T := T) (i := n * d + a); split <;> omega) i
theorem rnd_ge {T : nT} {n l : Nat} : ∀ i, l ≤ rnd T n l i
  | 0 => Nat.le_refl _
  | i + 1 => by
    simp only [rnd]
    split
    · exact Nat.le_trans (rnd_ge i) Nat.left_le_or
    · exact rnd_ge i
theorem rnd_lt {T : nT} {n l : Nat} (hl : l < 2 ^ n) : ∀ i, i ≤ n → rnd T n l i < 2 ^ n
  | 0, _ => hl
  | i + 1, h => by
    simp only [rnd]
    split
    · exact Nat.or_lt_two_pow (rnd_lt hl i (by omega)) (Nat.pow_lt_pow_right (by decide) (by omega))
    · exact rnd_lt hl i (by omega)
theorem ru_all : (List.range 7).all (fun n => (List.range (2 ^ n)).all fun t => decide ((nI (2 ^ n) - 1) &&& (nI (2 ^ n - 1 - t) ^^^ (-1)) = nI t) && (List.range n).all fun c => decide (nI (2 ^ n - 1 - t) &&& (nI (2 ^ c) ^^^ (-1)) = nI (2 ^ n - 1 - (t ||| 2 ^ c)))) = true := by decide +kernel
theorem ru_0 : (List.range 7).all (fun n => (List.range n).all fun c => decide ((nI (2 ^ n) - 1) &&& (nI (2 ^ c) ^^^ (-1)) = nI (2 ^ n - 1 - 2 ^ c))) = true := by decide +kernel
theorem ru_1 {n t : Nat} (hn : n ≤ 6) (ht : t < 2 ^ n) : (nI (2 ^ n) - 1) &&& (nI (2 ^ n - 1 - t) ^^^ (-1)) = nI t := by
  have h := List.all_eq_true.mp ru_all n (List.mem_range.mpr (by omega))
  have h := List.all_eq_true.mp h t (List.mem_range.mpr ht)
  rw [Bool.and_eq_true] at h
  exact of_decide_eq_true h.1
theorem ru_2 {n t c : Nat} (hn : n ≤ 6) (ht : t < 2 ^ n) (hc : c < n) : nI (2 ^ n - 1 - t) &&& (nI (2 ^ c) ^^^ (-1)) = nI (2 ^ n - 1 - (t ||| 2 ^ c)) := by
  have h := List.all_eq_true.mp ru_all n (List.mem_range.mpr (by omega))
  have h := List.all_eq_true.mp h t (List.mem_range.mpr ht)
  rw [Bool.and_eq_true] at h
  exact of_decide_eq_true (List.all_eq_true.mp h.2 c (List.mem_range.mpr hc))
theorem ru_3 {n c : Nat} (hn : n ≤ 6) (hc : c < n) : (nI (2 ^ n) - 1) &&& (nI (2 ^ c) ^^^ (-1)) = nI (2 ^ n - 1 - 2 ^ c) := by
  have h := List.all_eq_true.mp ru_0 n (List.mem_range.mpr (by omega))
  exact of_decide_eq_true (List.all_eq_true.mp h c (List.mem_range.mpr hc))
theorem cbit {n l i : Nat} (hl : l < 2 ^ n) (hi : i < n) : (2 ^ n - 1 - l).testBit i = true ↔ ¬ l.testBit i = true := by
  have := Nat.testBit_two_pow_sub_succ hl i
  rw [show 2 ^ n - 1 - l = 2 ^ n - (l + 1) by omega, this]
  simp [hi]
theorem sub_neg {a b : Nat} (ha : a < 2 ^ 30) (hb : b < 2 ^ 30) : nI a - nI b < 0 ↔ a < b := by
  rw [Int32.lt_iff_toInt_lt, pk_sub_toInt ha hb]
  show _ < (0 : Int) ↔ _
  omega
section OPS9
variable {E : eT} {V V1 V2 : vT} {tl : Nat} {k : Int32 → vT → Prop} {kv : vT → Prop} {x1 x2 x3 x4 x5 : Int32}
theorem sj_bitCount {t : Nat} (hC : CM E tl) (ht : t < 64) (h : k (bI t 24) V) : cj6_bitCount E (nI t) V k := by
  refine nj6_bitCount (bj6_bitCount_0 ?_)
  rw [← bc_b ht] at h
  exact h
theorem s6_bits {t : Nat} (hT : TW E) (h : k (bI t 24) V) : c6_bits E (nI t) V k := by
  refine n6_bits (b6_bits_0 hT ?_)
  have key : ∀ r i, i + r = 24 → w6_bits E k 4 [some (vi (nI t)), some (vi (bI t i)), some (vi (nI i))] [] V := by
    intro r
    induction r with
    | zero =>
      intro i hi
      have : i = 24 := by omega
      subst this
      exact b6_bits_4 hT ⟨fun _ => h, fun q => absurd q (by decide)⟩
    | succ r ih =>
      intro i hi
      refine b6_bits_4 hT ⟨fun q => absurd q ?_, fun _ => ?_⟩
      · simp (disch := omega) only [lle_n]; omega
      · rw [nI_1]; exact ih (i + 1) (by omega)
  exact key 24 0 rfl
theorem ix_lt {n a b : Nat} (hn : n ≤ 6) (ha : a < n) (hb : b < n) : n * a + b < 36 := by
  have h1 : n * a ≤ n * (n - 1) := Nat.mul_le_mul_left _ (by omega)
  have h2 : n * (n - 1) + n = n * n := by
    cases n with
    | zero => omega
    | succ m => rw [Nat.add_sub_cancel, Nat.mul_succ (m + 1) m]
  have h3 : n * n ≤ 6 * 6 := Nat.mul_le_mul hn hn
  omega
theorem s0_owedBy {n l a : Nat} (hC : CM E tl) (hn : n ≤ 6) (hl : l < 2 ^ n) (ha : a < n) (h : k (nI (owB (V 106) n l a n)) V) : c0_owedBy E (nI a) (nI n) (nI (2 ^ n - 1 - l)) V k := by
  have h2 : 2 ^ n ≤ 64 := Nat.pow_le_pow_right (n := 2) (j := 6) (by decide) hn
  refine n0_owedBy (b0_owedBy_0 hC ?_)
  have key : ∀ r i, i + r = n → w0_owedBy E k 6 [some (vr 16), some (vi (nI a)), some (vi (nI n)), some (vi (nI (2 ^ n - 1 - l))), some (vi (nI (owB (V 106) n l a i))), some (vi (nI i))] [] V := by
    intro r
    induction r with
    | zero =>
      intro i hi
      have : i = n := by omega
      subst this
      exact b0_owedBy_6 hC ⟨fun _ => h, fun q => absurd q (nI_nlt (Nat.le_refl _) (by omega))⟩
    | succ r ih =>
      intro i hi
      have ih := ih (i + 1) (by omega)
      unfold owB at ih ⊢
      simp only [sN] at ih
      refine b0_owedBy_6 hC ⟨fun q => absurd q (nI_ge (by omega) (by omega)), fun _ => ?_⟩
      rw [nI_eq (by omega) (by omega), Int32.add_zero, nI_1]
      refine ⟨fun q => by rwa [if_neg (fun z => z.1 q), Nat.add_zero] at ih, fun q => s0_has hC (by omega) (by omega) ?_⟩
      rw [b2_0, cbit hl (by omega)]
      refine ⟨fun q2 => by rwa [if_neg (fun z => q2 z.2), Nat.add_zero] at ih, fun q2 => ?_⟩
      rw [pk_mul, nI_add]
      refine s0_fed hC (by have := ix_lt hn ha (show i < n by omega); omega) ?_
      rw [oc_q, nI_add]
      rwa [if_pos ⟨q, Classical.not_not.mp q2⟩] at ih
  exact key n 0 (by omega)
theorem s0_owedTo {n l a : Nat} (hC : CM E tl) (hn : n ≤ 6) (hl : l < 2 ^ n) (ha : a < n) (h : k (nI (owT (V 106) n l a n)) V) : c0_owedTo E (nI a) (nI n) (nI (2 ^ n - 1 - l)) V k := by
  have h2 : 2 ^ n ≤ 64 := Nat.pow_le_pow_right (n := 2) (j := 6) (by decide) hn
  refine n0_owedTo (b0_owedTo_0 hC ?_)
  have key : ∀ r i, i + r = n → w0_owedTo E k 6 [some (vr 16), some (vi (nI a)), some (vi (nI n)), some (vi (nI (2 ^ n - 1 - l))), some (vi (nI (owT (V 106) n l a i))), some (vi (nI i))] [] V := by
    intro r
    induction r with
    | zero =>
      intro i hi
      have : i = n := by omega
      subst this
      exact b0_owedTo_6 hC ⟨fun _ => h, fun q => absurd q (nI_nlt (Nat.le_refl _) (by omega))⟩
    | succ r ih =>
      intro i hi
      have ih := ih (i + 1) (by omega)
      unfold owT at ih ⊢
      simp only [sN] at ih
      refine b0_owedTo_6 hC ⟨fun q => absurd q (nI_ge (by omega) (by omega)), fun _ => ?_⟩
      rw [nI_eq (by omega) (by omega), Int32.add_zero, nI_1]
      refine ⟨fun q => by rwa [if_neg (fun z => z.1 q), Nat.add_zero] at ih, fun q => s0_has hC (by omega) (by omega) ?_⟩
      rw [b2_0, cbit hl (by omega)]
      refine ⟨fun q2 => by rwa [if_neg (fun z => q2 z.2), Nat.add_zero] at ih, fun q2 => ?_⟩
      rw [pk_mul, nI_add]
      refine s0_fed hC (by have := ix_lt hn (show i < n by omega) ha; omega) ?_
      rw [oc_q, nI_add]
      rwa [if_pos ⟨q, Classical.not_not.mp q2⟩] at ih
  exact key n 0 (by omega)
theorem s6_restOf {n l a : Nat} (hT : TW E) (hn : n ≤ 6) (hl : l < 2 ^ n) (ha : a < n) (h : k (nI (oq (V 220) (n * a + a) + owT (V 220) n l a n) - nI (owB (V 220) n l a n)) V) : c6_restOf E (nI a) (nI n) (nI l) V k := by
  have h2 : 2 ^ n ≤ 64 := Nat.pow_le_pow_right (n := 2) (j := 6) (by decide) hn
  refine n6_restOf (b6_restOf_0 hT ?_)
  rw [pk_mul, nI_add]
  refine s6_octet hT (by have := ix_lt hn ha ha; omega) ?_
  have key : ∀ r i, i + r = n → w6_restOf E k 14 [some (vr 214), some (vi (nI a)), some (vi (nI n)), some (vi (nI l)), some (vi (nI (oq (V 220) (n * a + a) + owT (V 220) n l a i) - nI (owB (V 220) n l a i))), some (vi (nI i))] [] V := by
    intro r
    induction r with
    | zero =>
      intro i hi
      have : i = n := by omega
      subst this
      exact b6_restOf_14 hT ⟨fun _ => h, fun q => absurd q (nI_nlt (Nat.le_refl _) (by omega))⟩
    | succ r ih =>
      intro i hi
      have ih := ih (i + 1) (by omega)
      unfold owT owB at ih ⊢
      simp only [sN] at ih
      refine b6_restOf_14 hT ⟨fun q => absurd q (nI_ge (by omega) (by omega)), fun _ => ?_⟩
      rw [nI_eq (by omega) (by omega), nI_1]
      refine ⟨fun q => by rwa [if_neg (fun z => z.1 q), if_neg (fun z => z.1 q), Nat.add_zero, Nat.add_zero] at ih, fun q => s6_has hT (by omega) (by omega) ?_⟩
      rw [b2_0]
      refine ⟨fun q2 => by rwa [if_neg (fun z => q2 z.2), if_neg (fun z => q2 z.2), Nat.add_zero, Nat.add_zero] at ih, fun q2 => ?_⟩
      rw [pk_mul, nI_add, pk_mul, nI_add]
      refine s6_octet hT (by have := ix_lt hn (show i < n by omega) ha; omega) (s6_octet hT (by have := ix_lt hn ha (show i < n by omega); omega) ?_)
      rw [if_pos ⟨q, q2⟩, if_pos ⟨q, q2⟩] at ih
      rw [oc_q, oc_q]
      have e : ∀ A B c d : Nat, nI A - nI B + nI c - nI d = nI (A + c) - nI (B + d) := fun A B c d => by rw [← nI_add, ← nI_add]; grind
      rw [e, Nat.add_assoc]
      exact ih
  have := key n 0 (by omega)
  have e0 : nI (oq (V 220) (n * a + a) + owT (V 220) n l a 0) - nI (owB (V 220) n l a 0) = oc (V 220) (n * a + a) := by
    rw [oc_q]; show nI (_ + 0) - nI 0 = _; rw [Nat.add_zero]; show _ - 0 = _; grind
  rwa [e0] at this
theorem cruin_body {n : Nat} {z : Int32} (hC : CM E tl) (hn : n ≤ 6) (h : k z V) :
    ∀ r t, t < 2 ^ n → 2 ^ n - t ≤ r → ruZ x3 (ruG (V 106) n r t) = z → w0_ruin E k 73 [some (vr 16), some (vi (nI n)), none, some (vi x3), some (vi (nI (2 ^ n - 1 - t))), some (vi (nI (2 ^ n - 1 - t))), some (vi (nI 0))] [] V := by
  have h2 : 2 ^ n ≤ 64 := Nat.pow_le_pow_right (n := 2) (j := 6) (by decide) hn
  intro r
  induction r with
  | zero => intro t ht hr _; omega
  | succ r ih =>
    intro t ht hr h1
    simp only [ruG] at h1
    have inner : ∀ r' i, i + r' = n → w0_ruin E k 73 [some (vr 16), some (vi (nI n)), none, some (vi x3), some (vi (nI (2 ^ n - 1 - rnd (V 106) n t i))), some (vi (nI (2 ^ n - 1 - t))), some (vi (nI i))] [] V := by
      intro r'
      induction r' with
      | zero =>
        intro i hi
        have : i = n := by omega
        subst this
        have g1 := rnd_lt (T := V 106) ht i (Nat.le_refl _)
        have g2 := rnd_ge (T := V 106) (n := i) (l := t) i
        refine b0_ruin_73 hC ⟨fun _ => b0_ruin_59 hC ?_, fun q => absurd q (nI_nlt (Nat.le_refl _) (by omega))⟩
        rw [nI_eq (by omega) (by omega)]
        refine ⟨fun q => ?_, fun q => ?_⟩
        · have e : rnd (V 106) i t i = t := by omega
          rw [if_pos e] at h1
          rw [e, shl1 (by omega), ru_1 hn ht]
          unfold ruZ at h1
          exact ⟨fun q2 => by rw [if_neg q2] at h1; rw [h1]; exact h, fun q2 => sj_bitCount hC (by omega) (by rw [if_pos q2] at h1; rw [h1]; exact h)⟩
        · have e : ¬ rnd (V 106) i t i = t := by omega
          rw [if_neg e] at h1
          exact ih _ g1 (by omega) h1
      | succ r' ih' =>
        intro i hi
        have ih' := ih' (i + 1) (by omega)
        simp only [rnd] at ih'
        refine b0_ruin_73 hC ⟨fun q => absurd q (nI_ge (by omega) (by omega)), fun _ => s0_has hC (by omega) (by omega) ?_⟩
        rw [b2_0, cbit ht (by omega), nI_1]
        refine ⟨fun q => by rwa [if_neg (fun z => q z.1)] at ih', fun q => s0_owedBy hC hn ht (by omega) ?_⟩
        rw [pk_mul, nI_add]
        refine s0_fed hC (by have := ix_lt hn (show i < n by omega) (show i < n by omega); omega) (s0_owedTo hC hn ht (by omega) ?_)
        have l1 := owB_le (T := V 106) (n := n) (l := t) (a := i) (i := n)
        have l2 := owT_le (T := V 106) (n := n) (l := t) (a := i) (i := n)
        have l3 := oq_lt (T := V 106) (i := n * i + i)
        rw [oc_q, nI_add, nI_leI (by omega) (by omega), nI_ltI (by omega) (by omega), shl1 (by omega), ru_2 hn (rnd_lt ht i (by omega)) (by omega)]
        exact ⟨fun q2 => by rwa [if_neg (fun z => by have := z.2; unfold badA at this; omega)] at ih', fun q2 => by rwa [if_pos ⟨Classical.not_not.mp q, q2⟩] at ih'⟩
    exact inner n 0 (by omega)
theorem truin_body {n : Nat} {z : Int32} (hT : TW E) (hn : n ≤ 6) (h : k z V) :
    ∀ r t, t < 2 ^ n → 2 ^ n - t ≤ r → ruZ x3 (ruG (V 220) n r t) = z → w6_ruin E k 69 [some (vr 214), some (vi (nI n)), none, some (vi x3), some (vi (nI t)), some (vi (nI t)), some (vi (nI 0))] [] V := by
  have h2 : 2 ^ n ≤ 64 := Nat.pow_le_pow_right (n := 2) (j := 6) (by decide) hn
  intro r
  induction r with
  | zero => intro t ht hr _; omega
  | succ r ih =>
    intro t ht hr h1
    simp only [ruG] at h1
    have inner : ∀ r' i, i + r' = n → w6_ruin E k 69 [some (vr 214), some (vi (nI n)), none, some (vi x3), some (vi (nI t)), some (vi (nI (rnd (V 220) n t i))), some (vi (nI i))] [] V := by
      intro r'
      induction r' with
      | zero =>
        intro i hi
        have : i = n := by omega
        subst this
        have g1 := rnd_lt (T := V 220) ht i (Nat.le_refl _)
        have g2 := rnd_ge (T := V 220) (n := i) (l := t) i
        refine b6_ruin_69 hT ⟨fun _ => b6_ruin_55 hT ?_, fun q => absurd q (nI_nlt (Nat.le_refl _) (by omega))⟩
        rw [nI_eq (by omega) (by omega)]
        refine ⟨fun e => ?_, fun e => ?_⟩
        · rw [if_pos e] at h1
          unfold ruZ at h1
          exact ⟨fun q2 => by rw [if_neg q2] at h1; rw [h1]; exact h, fun q2 => s6_bits hT (by rw [if_pos q2] at h1; rw [h1]; exact h)⟩
        · rw [if_neg e] at h1
          exact ih _ g1 (by omega) h1
      | succ r' ih' =>
        intro i hi
        have ih' := ih' (i + 1) (by omega)
        simp only [rnd] at ih'
        refine b6_ruin_69 hT ⟨fun q => absurd q (nI_ge (by omega) (by omega)), fun _ => s6_has hT (by omega) (by omega) ?_⟩
        rw [b2_0, nI_1]
        refine ⟨fun q => by rwa [if_neg (fun z => q z.1)] at ih', fun q => s6_restOf hT hn ht (by omega) ?_⟩
        have l1 := owB_le (T := V 220) (n := n) (l := t) (a := i) (i := n)
        have l2 := owT_le (T := V 220) (n := n) (l := t) (a := i) (i := n)
        have l3 := oq_lt (T := V 220) (i := n * i + i)
        rw [← Int32.not_lt, sub_neg (by omega) (by omega), shl1 (by omega), nI_or]
        exact ⟨fun q2 => by rwa [if_neg (fun z => q2 z.2)] at ih', fun q2 => by rwa [if_pos ⟨q, q2⟩] at ih'⟩
    exact inner n 0 (by omega)
theorem o_ruin (h : Rl E tl V) : c0_ruin E x1 x2 x3 V (fun r V1 => c6_ruin E x1 x2 x3 V1 (fun r' V2 => r' = r ∧ Rl E tl V2)) := by
  have e0 : b2 (0 ≤ x3 ∧ x3 < 2) = b2 (0 ≤ x3 ∧ x3 ≤ 1) := in_le (a := 2) (b := 1) rfl (by decide)
  refine n0_ruin (b0_ruin_0 h.C (s0_within h.C ⟨fun q => n6_ruin (b6_ruin_0 h.T (s6_in h.T ⟨fun _ => ⟨rfl, h⟩, fun q2 => absurd q q2⟩)), fun q => s0_in h.C ?_⟩))
  obtain ⟨n, n1, n2, rfl⟩ := rng (a := 2) (b := 6) (by decide) (by decide) q
  have e1 : nI n - 1 = nI (n - 1) := pk_sub (a := n) (b := 1) (by omega)
  have e2 : b2 (0 ≤ x2 ∧ x2 < nI n) = b2 (0 ≤ x2 ∧ x2 ≤ nI (n - 1)) := in_le (a := n) (b := n - 1) (by omega) (by omega)
  refine ⟨fun q1 => ?_, fun q1 => s0_in h.C ⟨fun q2 => ?_, fun q2 => ?_⟩⟩
  · refine n6_ruin (b6_ruin_0 h.T (s6_in h.T ⟨fun q3 => absurd q3 q, fun _ => s6_in h.T ?_⟩))
    rw [e1, ← e2]
    exact ⟨fun _ => ⟨rfl, h⟩, fun q3 => absurd q1 q3⟩
  · refine n6_ruin (b6_ruin_0 h.T (s6_in h.T ⟨fun q3 => absurd q3 q, fun _ => s6_in h.T ?_⟩))
    rw [e1, ← e2]
    exact ⟨fun q3 => absurd q3 q1, fun _ => s6_in h.T ⟨fun _ => ⟨rfl, h⟩, fun q3 => absurd (e0 ▸ q2) q3⟩⟩
  rw [h.tp]
  refine ⟨fun q3 => ?_, fun q3 => ?_⟩
  rotate_left
  · refine n6_ruin (b6_ruin_0 h.T (s6_in h.T ⟨fun q4 => absurd q4 q, fun _ => s6_in h.T ?_⟩))
    rw [e1, ← e2]
    exact ⟨fun q4 => absurd q4 q1, fun _ => s6_in h.T ⟨fun q4 => absurd (e0 ▸ q4) q2, fun _ => ⟨fun q4 => absurd q3 (Int32.not_lt.mpr q4), fun _ => ⟨rfl, h⟩⟩⟩⟩
  rw [e2] at q1
  obtain ⟨c, _, c2, rfl⟩ := rng (a := 0) (b := n - 1) (by omega) (by decide) q1
  rw [← e2] at q1
  have h2 : 2 ^ n ≤ 64 := Nat.pow_le_pow_right (n := 2) (j := 6) (by decide) n2
  have hc : 2 ^ c < 2 ^ n := Nat.pow_lt_pow_right (by decide) (by omega)
  have hc1 : 2 ^ c * 2 ≤ 2 ^ n := by rw [← Nat.pow_succ]; exact Nat.pow_le_pow_right (by decide) (by omega)
  have hn4 : 2 ^ 2 ≤ 2 ^ n := Nat.pow_le_pow_right (by decide) n1
  have hc0 := Nat.two_pow_pos c
  refine b0_ruin_59 h.C ?_
  rw [shl1 (by omega), shl1 (by omega), ru_3 n2 (by omega)]
  refine ⟨fun q4 => absurd ((nI_eq (a := 0) (by decide) (by omega)).mp q4) (by omega), fun _ => ?_⟩
  refine cruin_body (n := n) h.C n2 ?_ 64 (2 ^ c) hc (by omega) rfl
  refine n6_ruin (b6_ruin_0 h.T (s6_in h.T ⟨fun q4 => absurd q4 q, fun _ => s6_in h.T ?_⟩))
  rw [e1, ← e2]
  refine ⟨fun q4 => absurd q4 q1, fun _ => s6_in h.T ⟨fun q4 => absurd (e0 ▸ q4) q2, fun _ => ⟨fun _ => b6_ruin_55 h.T ?_, fun q4 => absurd q3 ?_⟩⟩⟩
  · rw [shl1 (by omega)]
    refine ⟨fun q4 => absurd ((nI_eq (b := 0) (by omega) (by decide)).mp q4) (by omega), fun _ => ?_⟩
    refine truin_body (n := n) h.T n2 ⟨?_, h.tz0⟩ 64 (2 ^ c) hc (by omega) rfl
    rw [up2_n (by decide), up2_n (by decide), up2_n (by decide), h.tap]
  · rw [up2_n (by decide)] at q4; exact Int32.not_le.mpr q4
end OPS9
