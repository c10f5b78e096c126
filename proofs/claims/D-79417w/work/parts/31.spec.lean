/-! plain facts on numbers and arrays, to paste: each family by itself; over the kit's rows on nI and upd -/
/-! ===== order of ints, in all its forms, and through longs ===== -/
theorem fa_lt (a b : Int32) : a < b ↔ a.toInt < b.toInt := Int32.lt_iff_toInt_lt
theorem fa_le (a b : Int32) : a ≤ b ↔ a.toInt ≤ b.toInt := Int32.le_iff_toInt_le
theorem fa_eq (a b : Int32) : a = b ↔ a.toInt = b.toInt := Int32.toInt_inj.symm
theorem fa_lt64 (a b : Int64) : a < b ↔ a.toInt < b.toInt := Int64.lt_iff_toInt_lt
theorem fa_le64 (a b : Int64) : a ≤ b ↔ a.toInt ≤ b.toInt := Int64.le_iff_toInt_le
theorem fa_eq64 (a b : Int64) : a = b ↔ a.toInt = b.toInt := Int64.toInt_inj.symm
/-- a comparison of two ints taken as longs -/
theorem fa_wide_lt (a b : Int32) : a.toInt64 < b.toInt64 ↔ a < b := by rw [fa_lt64, fa_lt, Int32.toInt_toInt64, Int32.toInt_toInt64]
theorem fa_wide_le (a b : Int32) : a.toInt64 ≤ b.toInt64 ↔ a ≤ b := by rw [fa_le64, fa_le, Int32.toInt_toInt64, Int32.toInt_toInt64]
theorem fa_wide_eq (a b : Int32) : a.toInt64 = b.toInt64 ↔ a = b := by rw [fa_eq64, fa_eq, Int32.toInt_toInt64, Int32.toInt_toInt64]
/-- one strict comparison gives all the others -/
theorem fa_of_lt {a b : Int32} (h : a < b) : a ≤ b ∧ ¬ b ≤ a ∧ ¬ b < a ∧ a ≠ b ∧ b ≠ a := by
  rw [fa_lt] at h
  refine ⟨?_, ?_, ?_, ?_, ?_⟩
  · rw [fa_le]; omega
  · rw [fa_le]; omega
  · rw [fa_lt]; omega
  · intro e; rw [fa_eq] at e; omega
  · intro e; rw [fa_eq] at e; omega
theorem fa_of_nlt {a b : Int32} (h : ¬ a < b) : b ≤ a := by
  rw [fa_lt] at h
  rw [fa_le]
  omega
theorem fa_of_nle {a b : Int32} (h : ¬ a ≤ b) : b < a := by
  rw [fa_le] at h
  rw [fa_lt]
  omega
theorem fa_le_ne {a b : Int32} (h : a ≤ b) (h2 : a ≠ b) : a < b := by
  rw [fa_le] at h
  rw [fa_lt]
  have h3 : a.toInt ≠ b.toInt := fun e => h2 ((fa_eq a b).mpr e)
  omega
theorem fa_three (a b : Int32) : a < b ∨ a = b ∨ b < a := by
  rw [fa_lt, fa_lt, fa_eq]
  omega
theorem fa_trans {a b c : Int32} (h : a < b) (h2 : b ≤ c) : a < c := by
  rw [fa_lt] at *
  rw [fa_le] at h2
  omega
/-! ===== small literals as numbers ===== -/
theorem fa_lit (n : Nat) : (OfNat.ofNat n : Int32) = nI n := rfl
theorem fa_litL (n : Nat) : (OfNat.ofNat n : Int64) = lN n := rfl
/-! ===== bits of a number: 'or', masks, one bit ===== -/
theorem fa_and (a b : Nat) : nI a &&& nI b = nI (a &&& b) := by
  apply Int32.toBitVec_inj.1
  show BitVec.ofNat 32 a &&& BitVec.ofNat 32 b = BitVec.ofNat 32 (a &&& b)
  apply BitVec.eq_of_getLsbD_eq
  intro i hi
  simp [hi]
theorem fa_or (a b : Nat) : nI a ||| nI b = nI (a ||| b) := by
  apply Int32.toBitVec_inj.1
  show BitVec.ofNat 32 a ||| BitVec.ofNat 32 b = BitVec.ofNat 32 (a ||| b)
  apply BitVec.eq_of_getLsbD_eq
  intro i hi
  simp [hi]
/-- a remainder by a power of two, as a mask -/
theorem fa_mask (n k : Nat) : nI n &&& nI (2 ^ k - 1) = nI (n % 2 ^ k) := by rw [fa_and, Nat.and_two_pow_sub_one_eq_mod]
/-- 'or' of a high part and a low one that don't meet is their sum -/
theorem fa_or_sum {a k : Nat} (b : Nat) (h : a < 2 ^ k) : nI (2 ^ k * b) ||| nI a = nI (2 ^ k * b + a) := by rw [fa_or, Nat.two_pow_add_eq_or_of_lt h]
/-- one bit, by 'and' with a power of two -/
theorem fa_bit {n j : Nat} (hj : j < 31) : nI n &&& nI (2 ^ j) = 0 ↔ n.testBit j = false := by
  have h2 : (2 : Nat) ^ j < 2 ^ 31 := Nat.pow_lt_pow_right (by decide) hj
  have hle : n &&& 2 ^ j ≤ 2 ^ j := Nat.and_le_right
  have e : n &&& 2 ^ j = 0 ↔ n.testBit j = false := by
    constructor
    · intro h
      have h1 : (n &&& 2 ^ j).testBit j = false := by rw [h]; simp
      rw [Nat.testBit_and] at h1
      first | simpa using h1 | simpa [Nat.testBit_two_pow_self] using h1 | simpa [Nat.testBit_two_pow] using h1
    · intro h
      apply Nat.eq_of_testBit_eq
      intro i
      rw [Nat.testBit_and]
      by_cases hi : j = i
      · subst hi; simp [h]
      · first | (simp [Nat.testBit_two_pow, hi]; done) | (simp [Nat.testBit_two_pow_of_ne hi]; done)
  rw [fa_and]
  constructor
  · intro h
    apply e.mp
    rcases Nat.eq_zero_or_pos (n &&& 2 ^ j) with z | z
    · exact z
    · exact absurd h (nI_ne0 z (Nat.lt_of_le_of_lt hle h2))
  · intro h
    rw [e.mpr h]; exact nI_0
/-- a remainder by a power of two of a number that isn't negative, as Java divides -/
theorem fa_rem {a k : Nat} (ha : a < 2 ^ 31) (hk : k < 31) : nI a - nI a / nI (2 ^ k) * nI (2 ^ k) = nI (a % 2 ^ k) := pk_rem ha (Nat.two_pow_pos k) (Nat.pow_lt_pow_right (by decide) hk)
/-! ===== cuts to a byte, a short ===== -/
theorem fa_byte_xor (x y : Int32) : (x ^^^ y).toInt8 = x.toInt8 ^^^ y.toInt8 := by
  apply Int8.toBitVec_inj.1
  apply BitVec.eq_of_getLsbD_eq
  intro i hi
  first | (simp [hi]; done) | (simp [hi, BitVec.getLsbD_setWidth, BitVec.getLsbD_signExtend]; done)
theorem fa_short_xor (x y : Int32) : (x ^^^ y).toInt16 = x.toInt16 ^^^ y.toInt16 := by
  apply Int16.toBitVec_inj.1
  apply BitVec.eq_of_getLsbD_eq
  intro i hi
  first | (simp [hi]; done) | (simp [hi, BitVec.getLsbD_setWidth, BitVec.getLsbD_signExtend]; done)
/-- the cut to a byte sees the low byte alone -/
theorem fa_byte_low (x : Int32) : (x &&& 255).toInt8 = x.toInt8 := by
  apply Int8.toBitVec_inj.1
  apply BitVec.eq_of_getLsbD_eq
  intro i hi
  have h2 : (255 : Int32).toBitVec.getLsbD i = true := by
    have : ∀ j : Fin 8, (255 : Int32).toBitVec.getLsbD j.val = true := by decide +kernel
    exact this ⟨i, hi⟩
  have h4 : (x &&& 255).toBitVec.getLsbD i = x.toBitVec.getLsbD i := by
    show (x.toBitVec &&& (255 : Int32).toBitVec).getLsbD i = _
    rw [BitVec.getLsbD_and, h2, Bool.and_true]
  have h3 : i < 32 := by omega
  first
    | (show (((x &&& 255).toBitVec).signExtend 8).getLsbD i = (x.toBitVec.signExtend 8).getLsbD i; rw [BitVec.getLsbD_signExtend, BitVec.getLsbD_signExtend, if_pos h3, if_pos h3, h4])
    | (show (((x &&& 255).toBitVec).setWidth 8).getLsbD i = (x.toBitVec.setWidth 8).getLsbD i; rw [BitVec.getLsbD_setWidth, BitVec.getLsbD_setWidth, h4])
    | (simp [hi, h3, h4]; done)
theorem fa_short_low (x : Int32) : (x &&& 65535).toInt16 = x.toInt16 := by
  apply Int16.toBitVec_inj.1
  apply BitVec.eq_of_getLsbD_eq
  intro i hi
  have h2 : (65535 : Int32).toBitVec.getLsbD i = true := by
    have : ∀ j : Fin 16, (65535 : Int32).toBitVec.getLsbD j.val = true := by decide +kernel
    exact this ⟨i, hi⟩
  have h4 : (x &&& 65535).toBitVec.getLsbD i = x.toBitVec.getLsbD i := by
    show (x.toBitVec &&& (65535 : Int32).toBitVec).getLsbD i = _
    rw [BitVec.getLsbD_and, h2, Bool.and_true]
  have h3 : i < 32 := by omega
  first
    | (show (((x &&& 65535).toBitVec).signExtend 16).getLsbD i = (x.toBitVec.signExtend 16).getLsbD i; rw [BitVec.getLsbD_signExtend, BitVec.getLsbD_signExtend, if_pos h3, if_pos h3, h4])
    | (show (((x &&& 65535).toBitVec).setWidth 16).getLsbD i = (x.toBitVec.setWidth 16).getLsbD i; rw [BitVec.getLsbD_setWidth, BitVec.getLsbD_setWidth, h4])
    | (simp [hi, h3, h4]; done)
/-- a small number is its own byte, its own short -/
theorem fa_byte_small {n : Nat} (h : n < 128) : (nI n).toInt8.toInt32 = nI n := by
  have : ∀ j : Fin 128, (nI j.val).toInt8.toInt32 = nI j.val := by decide +kernel
  exact this ⟨n, h⟩
/-! ===== absolute difference ===== -/
theorem fa_absdiff {a b : Nat} (ha : a < 2 ^ 31) (hb : b < 2 ^ 31) : (if nI a < nI b then nI b - nI a else nI a - nI b) = nI (if a < b then b - a else a - b) := by
  by_cases h : a < b
  · rw [if_pos (nI_lt h hb), if_pos h]
    exact pk_sub (Nat.le_of_lt h)
  · rw [if_neg (nI_nlt (Nat.le_of_not_lt h) ha), if_neg h]
    exact pk_sub (Nat.le_of_not_lt h)
/-! ===== an array behind i stores, a conditional store, a row copied ===== -/
/-- f where k < i, what stood there else -/
def fa_fill {α : Type} (f g : Nat → α) (i : Nat) : Nat → α := fun k => if k < i then f k else g k
theorem fa_fill_0 {α : Type} (f g : Nat → α) : fa_fill f g 0 = g := funext fun k => if_neg (Nat.not_lt_zero k)
theorem fa_fill_in {α : Type} {f g : Nat → α} {i k : Nat} (h : k < i) : fa_fill f g i k = f k := if_pos h
theorem fa_fill_out {α : Type} {f g : Nat → α} {i k : Nat} (h : i ≤ k) : fa_fill f g i k = g k := if_neg (Nat.not_lt.mpr h)
theorem fa_fill_succ (f g : Nat → Int32) (i : Nat) : upd (fa_fill f g i) i (f i) = fa_fill f g (i + 1) := by
  funext k
  by_cases e : k = i
  · subst e
    rw [pk_us]
    exact (if_pos (Nat.lt_succ_self k)).symm
  · rw [pk_un e]
    by_cases h : k < i
    · rw [fa_fill_in h, fa_fill_in (Nat.lt_succ_of_lt h)]
    · rw [fa_fill_out (Nat.le_of_not_lt h), fa_fill_out (by omega)]
/-- a store that changes nothing -/
theorem fa_upd_same {f : Nat → Int32} {i : Nat} {x : Int32} (h : f i = x) : upd f i x = f := by
  funext k
  by_cases e : k = i
  · subst e
    rw [pk_us, h]
  · rw [pk_un e]
/-- a store under a condition, told as one -/
theorem fa_upd_if (c : Prop) [Decidable c] (f : Nat → Int32) (i : Nat) (x : Int32) : (if c then upd f i x else f) = upd f i (if c then x else f i) := by
  by_cases h : c
  · rw [if_pos h, if_pos h]
  · rw [if_neg h, if_neg h, fa_upd_same rfl]
/-- two stores at one place, at two -/
theorem fa_upd_twice (f : Nat → Int32) (i : Nat) (x y : Int32) : upd (upd f i x) i y = upd f i y := by
  funext k
  by_cases e : k = i
  · subst e
    rw [pk_us, pk_us]
  · rw [pk_un e, pk_un e, pk_un e]
theorem fa_upd_swap (f : Nat → Int32) {i j : Nat} (h : i ≠ j) (x y : Int32) : upd (upd f i x) j y = upd (upd f j y) i x := by
  funext k
  by_cases e : k = i
  · subst e
    rw [pk_un h, pk_us, pk_us]
  · by_cases e2 : k = j
    · subst e2
      rw [pk_us, pk_un e, pk_us]
    · rw [pk_un e2, pk_un e, pk_un e, pk_un e2]
/-! ===== the first index with a property; a count ===== -/
/-- the first k < n with p k, n if there is none -/
def fa_first (p : Nat → Bool) : Nat → Nat
  | 0 => 0
  | n + 1 => if fa_first p n < n then fa_first p n else if p n then n else n + 1
theorem fa_first_le (p : Nat → Bool) : ∀ n, fa_first p n ≤ n
  | 0 => Nat.le_refl 0
  | n + 1 => by
    have ih := fa_first_le p n
    unfold fa_first
    split
    · omega
    · split
      · omega
      · omega
theorem fa_first_no (p : Nat → Bool) : ∀ n k, k < fa_first p n → p k = false
  | 0, k, h => absurd h (Nat.not_lt_zero k)
  | n + 1, k, h => by
    have ih := fa_first_no p n
    have hl := fa_first_le p n
    unfold fa_first at h
    split at h
    · exact ih k h
    · rename_i h1
      split at h
      · exact ih k (by omega)
      · rename_i h2
        by_cases e : k = n
        · subst e
          exact Bool.eq_false_iff.mpr h2
        · exact ih k (by omega)
theorem fa_first_yes (p : Nat → Bool) : ∀ n, fa_first p n < n → p (fa_first p n) = true
  | 0, h => absurd h (Nat.not_lt_zero _)
  | n + 1, h => by
    have ih := fa_first_yes p n
    have hl := fa_first_le p n
    unfold fa_first at h ⊢
    split at h
    · rename_i h1
      rw [if_pos h1]
      exact ih h1
    · rename_i h1
      rw [if_neg h1]
      split at h
      · rename_i h2
        rw [if_pos h2]
        exact h2
      · omega
/-- how many k < n have p k -/
def fa_cnt (p : Nat → Bool) : Nat → Nat
  | 0 => 0
  | n + 1 => fa_cnt p n + if p n then 1 else 0
theorem fa_cnt_le (p : Nat → Bool) : ∀ n, fa_cnt p n ≤ n
  | 0 => Nat.le_refl 0
  | n + 1 => by
    have ih := fa_cnt_le p n
    unfold fa_cnt
    split
    · omega
    · omega
theorem fa_cnt_yes {p : Nat → Bool} {n : Nat} (h : p n = true) : fa_cnt p (n + 1) = fa_cnt p n + 1 := by rw [fa_cnt, if_pos h]
theorem fa_cnt_no {p : Nat → Bool} {n : Nat} (h : p n = false) : fa_cnt p (n + 1) = fa_cnt p n := by rw [fa_cnt, if_neg (by rw [h]; decide)]; rfl
theorem fa_cnt_cong {p q : Nat → Bool} : ∀ {n : Nat}, (∀ k, k < n → p k = q k) → fa_cnt p n = fa_cnt q n
  | 0, _ => rfl
  | n + 1, h => by rw [fa_cnt, fa_cnt, fa_cnt_cong (fun k hk => h k (Nat.lt_succ_of_lt hk)), h n (Nat.lt_succ_self n)]
/-! ===== an answer carried into a post; a branch on a boolean answer ===== -/
theorem fa_post {α : Type} {P : α → Prop} {x y : α} (h : x = y) (hp : P y) : P x := h ▸ hp
theorem fa_post2 {α β : Type} {P : α → β → Prop} {x y : α} {u v : β} (h : x = y) (h2 : u = v) (hp : P y v) : P x u := h ▸ h2 ▸ hp
theorem fa_bool {r : Int32} {b : Bool} (h : r = if b then 1 else 0) : (r = 0 ↔ b = false) ∧ (¬ r = 0 ↔ b = true) := by
  subst h
  cases b
  · exact ⟨⟨fun _ => rfl, fun _ => rfl⟩, ⟨fun h => absurd rfl h, fun h => absurd h (by decide)⟩⟩
  · exact ⟨⟨fun h => absurd h (by decide), fun h => absurd h (by decide)⟩, ⟨fun _ => rfl, fun _ => by decide⟩⟩
/-- a boolean's narrowing changes nothing -/
theorem fa_bool_and {r : Int32} (h : r = 0 ∨ r = 1) : r &&& 1 = r := by
  rcases h with rfl | rfl
  · decide
  · decide
theorem fa_bool_prop {c : Prop} [Decidable c] {r : Int32} (h : r = if c then 1 else 0) : (r = 0 ↔ ¬ c) ∧ (¬ r = 0 ↔ c) := by
  subst h
  by_cases hc : c
  · rw [if_pos hc]
    exact ⟨⟨fun h => absurd h (by decide), fun h => absurd hc h⟩, ⟨fun _ => hc, fun _ => by decide⟩⟩
  · rw [if_neg hc]
    exact ⟨⟨fun _ => hc, fun _ => rfl⟩, ⟨fun h => absurd rfl h, fun h => absurd h hc⟩⟩
/-! what the methods compute, in plain Lean: f is the contents of the reference's array m -/
def nR (f : FA) : Nat := (f 0).toNatClampNeg
def nO (f : FA) : Nat := (f 1).toNatClampNeg
def nV (f : FA) : Nat := (f 2).toNatClampNeg
def nN (f : FA) : Nat := (f 5).toNatClampNeg
def t_in (v lo hi : Int32) : Bool := decide (lo ≤ v) && decide (v ≤ hi)
def isR (f : FA) (r : Int32) : Bool := t_in r (nI 0) (nI (nR f) - nI 1)
def isO (f : FA) (r : Int32) : Bool := t_in r (nI 0) (nI (nO f) - nI 1)
def isV (f : FA) (r : Int32) : Bool := t_in r (nI 0) (nI (nV f) - nI 1)
def ct (p : Nat → Bool) : Nat → Nat
  | 0 => 0
  | n + 1 => ct p n + (p n).toNat
def sumI (g : Nat → Int32) : Nat → Int32
  | 0 => nI 0
  | n + 1 => sumI g n + g n
def itr {α : Type} (step : Nat → α → α) : Nat → α → α
  | 0, a => a
  | n + 1, a => step n (itr step n a)
def lives (f : FA) (o : Nat) : Bool := decide (f (120 + 5 * o) = 0)
def livesAt (f : FA) (o : Nat) (r : Int32) : Bool := lives f o && decide (f (120 + 5 * o + 1) = r)
def otters (f : FA) (r : Int32) : Nat := ct (fun o => livesAt f o r) (nO f)
def holt (f : FA) (r : Nat) : Bool := decide (f (12 + 9 * r + 5) = nI 1)
def bridge (f : FA) (r : Nat) : Bool := !decide (f (12 + 9 * r + 1) = (-1))
def quality (f : FA) (r : Nat) : Int32 := nI 2 * f (12 + 9 * r) + (if 0 < r then f (12 + 9 * (r - 1)) else nI 0) + (if r < nR f - 1 then f (12 + 9 * (r + 1)) else nI 0)
/-! helpers on numbers -/
theorem lgc_lt (x y : Int64) : lg_cmp x y < 0 ↔ x < y := by
  unfold lg_cmp
  by_cases h1 : y < x
  · rw [if_pos h1]
    exact ⟨fun h => absurd h (by decide), fun h => absurd (Int64.lt_trans h h1) (Int64.lt_irrefl)⟩
  · rw [if_neg h1]
    by_cases h2 : x = y
    · rw [if_pos h2]
      subst h2
      exact ⟨fun h => absurd h (by decide), fun h => absurd h h1⟩
    · rw [if_neg h2]
      refine ⟨fun _ => ?_, fun _ => by decide⟩
      rcases Int64.lt_or_lt_of_ne h2 with h | h
      · exact h
      · exact absurd h h1
theorem ct_le (p : Nat → Bool) : ∀ n, ct p n ≤ n := by
  intro n
  induction n with
  | zero => exact Nat.le_refl _
  | succ n ih =>
    show ct p n + (p n).toNat ≤ n + 1
    have := Bool.toNat_le (p n)
    omega
/-! the operations on f -/
abbrev OUT : Type := (Int32 × Int32) ⊕ (Int32 × FA)
def cpy (n : Nat) (f g : FA) : FA := fun k => if k < n then f k else g k
def z9 (f : FA) (r : Nat) : Nat → FA
  | 0 => f
  | k + 1 => upd (z9 f r k) (r + k) (nI 0)
def reachF (f : FA) (c hd : Int32) : FA :=
  upd (upd (upd (upd (upd (z9 f (12 + 9 * nR f) 9) (12 + 9 * nR f) c) (12 + 9 * nR f + 1) hd) (12 + 9 * nR f + 4) (if hd = (-1) then nI 0 else nI 1)) (12 + 9 * nR f + 8) (-1)) 0 (nI (nR f + 1))
def o_reach (f : FA) (c hd : Int32) : OUT :=
  if t_in c (nI 0) (nI 9) = false then .inl (nI 3, c) else if t_in hd (-1) (nI 9) = false then .inl (nI 3, hd) else if nR f = 12 then .inl (nI 1, nI 12)
  else .inr (nI (nR f), reachF f c hd)
def o_holt (f : FA) (x : Int32) : OUT :=
  if isR f x = false then .inl (nI 2, x) else if holt f x.toNatClampNeg then .inl (nI 4, nI (otters f x))
  else .inr (quality (upd f (12 + 9 * x.toNatClampNeg + 5) (nI 1)) x.toNatClampNeg, upd f (12 + 9 * x.toNatClampNeg + 5) (nI 1))
def comesF (f : FA) (x : Int32) : FA :=
  upd (upd (upd (upd (upd (upd f (120 + 5 * nO f) (if x = (-1) then nI 2 else nI 0)) (120 + 5 * nO f + 1) x) (120 + 5 * nO f + 2) (nI 0)) (120 + 5 * nO f + 3) (nI 0)) (120 + 5 * nO f + 4) (nI (nN f))) 1 (nI (nO f + 1))
/-- the first from o on, at most n -/
def fstF (p : Nat → Bool) : Nat → Nat → Nat
  | 0, o => o
  | n + 1, o => if p o then o else fstF p n (o + 1)
def lowest (f : FA) (x : Int32) : Nat := fstF (fun o => livesAt f o x) (nO f) 0
def o_otter (f : FA) (x : Int32) : OUT :=
  if isR f x = false then .inl (nI 2, x) else if holt f x.toNatClampNeg = false then .inl (nI 5, f (12 + 9 * x.toNatClampNeg))
  else if 1 < otters f x then .inl (nI 6, nI (lowest f x)) else if nO f = 30 then .inl (nI 1, nI 30)
  else .inr (nI (nO f), comesF f x)
def volF (f : FA) (a b : Int32) : FA :=
  upd (upd (upd (upd (upd (upd f (270 + 5 * nV f) a) (270 + 5 * nV f + 1) b) (270 + 5 * nV f + 2) (nI 0)) (270 + 5 * nV f + 3) (nI 0)) (270 + 5 * nV f + 4) (nI 0)) 2 (nI (nV f + 1))
def o_vol (f : FA) (a b : Int32) : OUT :=
  if isR f a = false then .inl (nI 2, a) else if isR f b = false then .inl (nI 2, b) else if b < a then .inl (nI 3, b) else if nV f = 5 then .inl (nI 1, nI 5)
  else .inr (nI (nV f), volF f a b)
def o_level (f : FA) (x : Int32) : OUT := if t_in x (nI 0) (nI 9) = false then .inl (nI 3, x) else .inr (f 3, upd f 3 x)
def o_give (f : FA) (x : Int32) : OUT := if t_in x (nI 1) (nI 99) = false then .inl (nI 3, x) else .inr (f 4 + x, upd f 4 (f 4 + x))
def openDips (f : FA) : Int32 := sumI (fun r => f (12 + 9 * r + 4)) (nR f)
def shutF (f : FA) (r : Nat) : FA := upd (upd f 4 (f 4 - nI 25)) (12 + 9 * r + 4) (nI 0)
def o_shut (f : FA) (x : Int32) : OUT :=
  if isR f x = false then .inl (nI 2, x) else if bridge f x.toNatClampNeg = false then .inl (nI 7, f (12 + 9 * x.toNatClampNeg))
  else if f (12 + 9 * x.toNatClampNeg + 4) = 0 then .inl (nI 8, f (12 + 9 * x.toNatClampNeg + 3)) else if f 4 < nI 25 then .inl (nI 9, nI 25 - f 4)
  else .inr (openDips (shutF f x.toNatClampNeg), shutF f x.toNatClampNeg)
/-! nights -/
def irem3 (x : Int32) : Int32 := x - x / nI 3 * nI 3
def sprF (f : FA) (o x : Nat) : FA := if f (12 + 9 * x + 2) < nI 99 then upd (upd (upd f (12 + 9 * x + 2) (f (12 + 9 * x + 2) + nI 1)) (120 + 5 * o + 3) (f (120 + 5 * o + 3) + nI 1)) 8 (f 8 + nI 1) else f
def crsF (f : FA) (x : Nat) : FA := if f 3 < f (12 + 9 * x + 1) then f else upd f (12 + 9 * x + 3) (f (12 + 9 * x + 3) + nI 1)
def kills (f : FA) (x : Nat) : Bool := !decide (f 3 < f (12 + 9 * x + 1)) && (decide (f (12 + 9 * x + 4) = nI 1) && decide (irem3 (f (12 + 9 * x + 3) + nI 1) = 0))
/-- an otter o comes to the reach x -/
def stepF (f : FA) (o x : Nat) : FA × List Nat :=
  if bridge f x then (if kills f x then (upd (upd (crsF f x) (120 + 5 * o) (nI 1)) (120 + 5 * o + 1) (nI x), [x]) else (sprF (crsF f x) o x, [])) else (f, [])
def sd (s x : Nat) : Int32 := nI x + (if s % 2 = 0 then nI 1 else (-1))
/-- w more ways, at x -/
def goes (o s : Nat) : Nat → FA → Nat → FA × List Nat
  | 0, f, _ => (f, [])
  | w + 1, f, x => if (lives f o && isR f (sd s x)) = true then ((goes o s w (stepF f o (sd s x).toNatClampNeg).1 (sd s x).toNatClampNeg).1, (stepF f o (sd s x).toNatClampNeg).2 ++ (goes o s w (stepF f o (sd s x).toNatClampNeg).1 (sd s x).toNatClampNeg).2) else (f, [])
def ways (s : Nat) : Nat := 1 + s / 2 % 3
def goesOut (f : FA) (o : Nat) : FA × List Nat := goes o (nN f + o) (ways (nN f + o)) f (f (120 + 5 * o + 1)).toNatClampNeg
def washF (f : FA) (r : Nat) : FA := upd (upd f (12 + 9 * r + 2) (f (12 + 9 * r + 2) / nI 2)) 10 (f 10 + (f (12 + 9 * r + 2) - f (12 + 9 * r + 2) / nI 2))
def washes (f : FA) : FA := itr (fun r g => washF g r) (nR f) f
def dist (a b : Nat) : Nat := if a ≤ b then b - a else a - b
def mayB (f : FA) (many r : Nat) : Bool := holt f r && (decide (otters f (nI r) = many) && (decide (0 < many) || decide (f (12 + 9 * r + 6) = 0)))
/-- the nearest of those below n -/
def nearB (f : FA) (x many : Nat) : Nat → Option Nat
  | 0 => none
  | n + 1 => if mayB f many n then (match nearB f x many n with
    | none => some n
    | some b => if dist n x < dist b x then some n else some b) else nearB f x many n
def oI (o : Option Nat) : Int32 := match o with
  | none => (-1)
  | some n => nI n
def near (f : FA) (x many : Nat) : Option Nat := nearB f x many (nR f)
def refuge (f : FA) (x : Nat) : Option Nat := match near f x 0 with
  | none => near f x 1
  | some b => some b
def growS (r : Nat) (f : FA) : FA := if nO f = 30 then upd f 7 (f 7 + nI 1) else comesF f (oI (refuge f r))
def growUp (f : FA) (r : Nat) : FA := itr (fun _ => growS r) (f (12 + 9 * r + 6)).toNatClampNeg (upd f (12 + 9 * r + 6) (nI 0))
def minI (x y : Int32) : Int32 := if y < x then y else x
def breeds (f : FA) (r : Nat) : Bool := decide (otters f (nI r) = 2) && (t_in (nI (nN f / 30 % 12)) (nI 2) (nI 4) && (decide (nI 15 ≤ quality f r) && decide (f (12 + 9 * r + 8) ≠ nI (nN f / 360))))
def bornF (f : FA) (r : Nat) : FA := upd (upd (upd (upd f (12 + 9 * r + 6) (minI (nI 3) (nI 1 + quality f r / nI 12))) (12 + 9 * r + 7) (nI (nN f))) (12 + 9 * r + 8) (nI (nN f / 360))) 6 (f 6 + minI (nI 3) (nI 1 + quality f r / nI 12))
def loseF (f : FA) (r : Nat) : FA := upd (upd f 7 (f 7 + f (12 + 9 * r + 6))) (12 + 9 * r + 6) (nI 0)
/-- what a night does at the holt r, and whether cubs are born -/
def atHolt (f : FA) (r : Nat) : FA × Bool :=
  if 0 < f (12 + 9 * r + 6) then ((if otters f (nI r) = 0 then loseF f r else if nI 200 ≤ nI (nN f) - f (12 + 9 * r + 7) then growUp f r else f), false)
  else if breeds f r then (bornF f r, true) else (f, false)
def outsS (o : Nat) (p : FA × List Nat) : FA × List Nat := if lives p.1 o then ((goesOut p.1 o).1, p.2 ++ (goesOut p.1 o).2) else p
def outs (f : FA) : FA × List Nat := itr outsS (nO f) (f, [])
def holtsS (r : Nat) (p : FA × List Nat) : FA × List Nat := if holt p.1 r then ((atHolt p.1 r).1, if (atHolt p.1 r).2 then p.2 ++ [r] else p.2) else p
def holts (f : FA) : FA × List Nat := itr holtsS (nR f) (f, [])
def nightA (f : FA) : FA × List Nat := outs (upd f 5 (nI (nN f + 1)))
def nightB (f : FA) : FA := if nI 7 ≤ (nightA f).1 3 then washes (nightA f).1 else (nightA f).1
/-- a night: the new f, where otters were killed, where cubs were born -/
def night (f : FA) : FA := (holts (nightB f)).1
def nightK (f : FA) : List Nat := (nightA f).2
def nightW (f : FA) : List Nat := (holts (nightB f)).2
def nights : Nat → FA → FA
  | 0, f => f
  | n + 1, f => night (nights n f)
def nightsK : Nat → FA → List Nat
  | 0, _ => []
  | n + 1, f => nightsK n f ++ nightK (nights n f)
def inState (f : FA) (x : Int32) : Nat := ct (fun o => decide (f (120 + 5 * o) = x)) (nO f)
def o_pass (f : FA) (x : Int32) : OUT :=
  if t_in x (nI 1) (nI 99) = false then .inl (nI 3, x) else .inr (nI (inState (nights x.toNatClampNeg f) (nI 1)) - nI (inState f (nI 1)), nights x.toNatClampNeg f)
/-! rounds -/
def inRound (f : FA) (v : Nat) (r : Int32) : Bool := t_in r (f (270 + 5 * v)) (f (270 + 5 * v + 1))
def walkR (v r : Nat) (f : FA) : FA := upd (upd (upd f (270 + 5 * v + 2) (f (270 + 5 * v + 2) + f (12 + 9 * r + 2))) 9 (f 9 + f (12 + 9 * r + 2))) (12 + 9 * r + 2) (nI 0)
def walkA (f : FA) (v : Nat) : FA := itr (fun k g => walkR v ((f (270 + 5 * v)).toNatClampNeg + k) g) ((f (270 + 5 * v + 1)).toNatClampNeg + 1 - (f (270 + 5 * v)).toNatClampNeg) f
def walkP (f : FA) (v o : Nat) : Bool := lives f o && (inRound f v (f (120 + 5 * o + 1)) && decide (f (120 + 5 * o + 2) = 0))
def walkS (v o : Nat) (p : FA × Nat) : FA × Nat := if walkP p.1 v o then (upd p.1 (120 + 5 * o + 2) (nI 1), p.2 + 1) else p
def walkB (f : FA) (v : Nat) : FA × Nat := itr (walkS v) (nO f) (f, 0)
def walkC (f : FA) (v n : Nat) : FA := upd (upd (upd f (270 + 5 * v + 3) (f (270 + 5 * v + 3) + nI n)) (270 + 5 * v + 4) (f (270 + 5 * v + 4) + nI n)) 11 (f 11 + nI n)
def o_walk (f : FA) (x : Int32) : OUT :=
  if isV f x = false then .inl (nI 10, x) else .inr (nI (walkB (walkA f x.toNatClampNeg) x.toNatClampNeg).2, walkC (walkB (walkA f x.toNatClampNeg) x.toNatClampNeg).1 x.toNatClampNeg (walkB (walkA f x.toNatClampNeg) x.toNatClampNeg).2)
def cenO (o : Nat) (f : FA) : FA := upd f (120 + 5 * o + 2) (nI 0)
def cenV (v : Nat) (f : FA) : FA := upd f (270 + 5 * v + 4) (nI 0)
def censusF (f : FA) : FA := itr cenV (nV f) (itr cenO (nO f) (upd f 11 (nI 0)))
/-! numbers that are numbers -/
def Gn (f : FA) : Prop := f 0 = nI (nR f) ∧ nR f ≤ 12 ∧ f 1 = nI (nO f) ∧ nO f ≤ 30 ∧ f 2 = nI (nV f) ∧ nV f ≤ 5 ∧ f 5 = nI (nN f) ∧ nN f < 2 ^ 28
theorem Gn.r {f : FA} (h : Gn f) : f 0 = nI (nR f) := h.1
theorem Gn.rb {f : FA} (h : Gn f) : nR f ≤ 12 := h.2.1
theorem Gn.o {f : FA} (h : Gn f) : f 1 = nI (nO f) := h.2.2.1
theorem Gn.ob {f : FA} (h : Gn f) : nO f ≤ 30 := h.2.2.2.1
theorem Gn.v {f : FA} (h : Gn f) : f 2 = nI (nV f) := h.2.2.2.2.1
theorem Gn.vb {f : FA} (h : Gn f) : nV f ≤ 5 := h.2.2.2.2.2.1
theorem Gn.n {f : FA} (h : Gn f) : f 5 = nI (nN f) := h.2.2.2.2.2.2.1
theorem Gn.nb {f : FA} (h : Gn f) : nN f < 2 ^ 28 := h.2.2.2.2.2.2.2
theorem isR_iff {f : FA} (h : Gn f) {x : Int32} : isR f x = true ↔ ∃ j, j < nR f ∧ x = nI j := by
  have hb := h.rb
  unfold isR t_in
  rw [Bool.and_eq_true, decide_eq_true_eq, decide_eq_true_eq]
  constructor
  · rintro ⟨h1, h2⟩
    obtain ⟨j, hj, rfl⟩ := nI_of (Int32.not_lt.mpr h1)
    refine ⟨j, ?_, rfl⟩
    rw [Int32.le_iff_toInt_le, pk_sub_toInt (by omega) (by omega), nI_toInt hj] at h2
    omega
  · rintro ⟨j, hj, rfl⟩
    refine ⟨nI_le (Nat.zero_le _) (by omega), ?_⟩
    rw [Int32.le_iff_toInt_le, pk_sub_toInt (by omega) (by omega), nI_toInt (by omega)]
    omega
theorem t_in_nat {x : Int32} {a b : Nat} (hb : b < 2 ^ 31) : t_in x (nI a) (nI b) = true → a < 2 ^ 31 → ∃ j, a ≤ j ∧ j ≤ b ∧ x = nI j := by
  unfold t_in
  rw [Bool.and_eq_true, decide_eq_true_eq, decide_eq_true_eq]
  rintro ⟨h1, h2⟩ ha
  have h0 : ¬ x < 0 := fun h => by
    have h3 := Int32.lt_of_le_of_lt h1 h
    rw [Int32.lt_iff_toInt_lt, nI_toInt ha] at h3
    have : (0 : Int32).toInt = 0 := rfl
    omega
  obtain ⟨j, hj, rfl⟩ := nI_of h0
  exact ⟨j, (nI_leI ha hj).mp h1, (nI_leI hj hb).mp h2, rfl⟩
theorem t_in_f1 {x a b : Int32} (h : lg_cmp x.toInt64 a.toInt64 < 0) : t_in x a b = false := by
  rw [lgc_lt, fa_wide_lt] at h
  unfold t_in
  rw [decide_eq_false (Int32.not_le.mpr h), Bool.false_and]
theorem lgc_gt (x y : Int64) : 0 < lg_cmp x y ↔ y < x := by
  unfold lg_cmp
  by_cases h1 : y < x
  · rw [if_pos h1]
    exact ⟨fun _ => h1, fun _ => by decide⟩
  · rw [if_neg h1]
    by_cases h2 : x = y
    · rw [if_pos h2]
      exact ⟨fun h => absurd h (by decide), fun h => absurd h h1⟩
    · rw [if_neg h2]
      exact ⟨fun h => absurd h (by decide), fun h => absurd h h1⟩
theorem t_in_f2 {x a b : Int32} (h0 : ¬ lg_cmp x.toInt64 a.toInt64 < 0) (h : 0 < lg_cmp x.toInt64 b.toInt64) : t_in x a b = false := by
  rw [lgc_gt, fa_wide_lt] at h
  unfold t_in
  rw [decide_eq_false (p := x ≤ b) (Int32.not_le.mpr h), Bool.and_false]
theorem t_in_t {x a b : Int32} (h0 : ¬ lg_cmp x.toInt64 a.toInt64 < 0) (h : ¬ 0 < lg_cmp x.toInt64 b.toInt64) : t_in x a b = true := by
  rw [lgc_gt, fa_wide_lt] at h
  rw [lgc_lt, fa_wide_lt] at h0
  unfold t_in
  rw [decide_eq_true (Int32.not_lt.mp h0), decide_eq_true (Int32.not_lt.mp h)]
  rfl
/-! small steps of proofs -/
theorem bt {b : Bool} (h : b = true) : some (Value.int (nI 1)) = some (Value.int (bI b)) := by rw [h]; rfl
theorem bf {b : Bool} (h : b = false) : some (Value.int (nI 0)) = some (Value.int (bI b)) := by rw [h]; rfl
theorem andb_1 {a b : Bool} (h : a = false) : (a && b) = false := by rw [h]; rfl
theorem andb_2 {a b : Bool} (h : b = false) : (a && b) = false := by rw [h, Bool.and_false]
theorem andb_t {a b : Bool} (h : a = true) (h2 : b = true) : (a && b) = true := by rw [h, h2]; rfl
theorem bridge_f {f : FA} {r : Nat} (h : f (12 + 9 * r + 1) = (-1)) : bridge f r = false := by unfold bridge; rw [decide_eq_true h]; rfl
theorem bridge_t {f : FA} {r : Nat} (h : ¬ f (12 + 9 * r + 1) = (-1)) : bridge f r = true := by unfold bridge; rw [decide_eq_false h]; rfl
theorem ct_t {p : Nat → Bool} {n : Nat} (h : p n = true) : ct p n + 1 = ct p (n + 1) := by
  show _ = ct p n + (p n).toNat
  rw [h]; rfl
theorem ct_f {p : Nat → Bool} {n : Nat} (h : p n = false) : ct p n = ct p (n + 1) := by
  show _ = ct p n + (p n).toNat
  rw [h]; rfl
theorem ct_pos {p : Nat → Bool} : ∀ {n : Nat}, 0 < ct p n → ∃ k, k < n ∧ p k = true := by
  intro n
  induction n with
  | zero => intro h; exact absurd h (Nat.lt_irrefl 0)
  | succ n ih =>
    intro h
    cases hp : p n with
    | true => exact ⟨n, Nat.lt_succ_self n, hp⟩
    | false =>
      rw [← ct_f hp] at h
      obtain ⟨k, hk, hpk⟩ := ih h
      exact ⟨k, by omega, hpk⟩
theorem fstF_le {p : Nat → Bool} : ∀ (n o k : Nat), o ≤ k → k < o + n → p k = true → fstF p n o ≤ k := by
  intro n
  induction n with
  | zero => intro o k h1 h2; omega
  | succ n ih =>
    intro o k h1 h2 hk
    show (if p o then o else fstF p n (o + 1)) ≤ k
    by_cases ho : p o = true
    · rw [if_pos ho]; exact h1
    · rw [if_neg ho]
      refine ih (o + 1) k ?_ (by omega) hk
      rcases Nat.eq_or_lt_of_le h1 with e | e
      · subst e; exact absurd hk ho
      · exact e
theorem fstF_ge {p : Nat → Bool} : ∀ (n o : Nat), o ≤ fstF p n o := by
  intro n
  induction n with
  | zero => intro o; exact Nat.le_refl _
  | succ n ih =>
    intro o
    show o ≤ (if p o then o else fstF p n (o + 1))
    by_cases ho : p o = true
    · rw [if_pos ho]; exact Nat.le_refl _
    · rw [if_neg ho]; exact Nat.le_trans (Nat.le_succ o) (ih (o + 1))
theorem fstF_is {p : Nat → Bool} : ∀ (n o : Nat), fstF p n o < o + n → p (fstF p n o) = true := by
  intro n
  induction n with
  | zero => intro o h; exact absurd h (Nat.not_lt.mpr (fstF_ge 0 o))
  | succ n ih =>
    intro o h
    by_cases ho : p o = true
    · have e : fstF p (n + 1) o = o := if_pos ho
      rw [e]; exact ho
    · have e : fstF p (n + 1) o = fstF p n (o + 1) := if_neg ho
      rw [e] at h ⊢
      exact ih (o + 1) (by omega)
theorem lowest_lt {f : FA} {x : Int32} (h : 0 < otters f x) : lowest f x < nO f := by
  obtain ⟨k, hk, hp⟩ := ct_pos h
  exact Nat.lt_of_le_of_lt (fstF_le (nO f) 0 k (Nat.zero_le _) (by omega) hp) hk
theorem lowest_up {f : FA} {x : Int32} {j : Nat} (h : j ≤ lowest f x) (hl : lowest f x < nO f) (hj : livesAt f j x = false) : j + 1 ≤ lowest f x := by
  rcases Nat.eq_or_lt_of_le h with e | e
  · have h1 := fstF_is (p := fun o => livesAt f o x) (nO f) 0 (by rw [Nat.zero_add]; exact hl)
    have h2 : livesAt f (lowest f x) x = true := h1
    rw [← e, hj] at h2
    cases h2
  · exact e
theorem lowest_eq {f : FA} {x : Int32} {j : Nat} (hl : lowest f x < nO f) (h : j ≤ lowest f x) (hj : livesAt f j x = true) : j = lowest f x :=
  Nat.le_antisymm h (fstF_le (nO f) 0 j (Nat.zero_le _) (by omega) hj)
/-- the first volunteer in whose round the otter's reach lies -/
def seer (f : FA) (o : Nat) : Option Nat := if fstF (fun v => inRound f v (f (120 + 5 * o + 1))) (nV f) 0 < nV f then some (fstF (fun v => inRound f v (f (120 + 5 * o + 1))) (nV f) 0) else none
theorem fstF_eq {p : Nat → Bool} {n j : Nat} (hj : j < n) (h : ∀ i, i < j → p i = false) (hp : p j = true) : fstF p n 0 = j := by
  have h1 := fstF_le n 0 j (Nat.zero_le _) (by omega) hp
  rcases Nat.eq_or_lt_of_le h1 with e | e
  · exact e
  · have h2 := fstF_is (p := p) n 0 (by omega)
    rw [h _ e] at h2
    cases h2
theorem seer_some {f : FA} {o j : Nat} (hj : j < nV f) (h : ∀ i, i < j → inRound f i (f (120 + 5 * o + 1)) = false) (hp : inRound f j (f (120 + 5 * o + 1)) = true) : seer f o = some j := by
  unfold seer
  rw [fstF_eq (p := fun v => inRound f v (f (120 + 5 * o + 1))) hj h hp, if_pos hj]
theorem seer_none {f : FA} {o : Nat} (h : ∀ i, i < nV f → inRound f i (f (120 + 5 * o + 1)) = false) : seer f o = none := by
  unfold seer
  refine if_neg fun hl => ?_
  have h2 := fstF_is (p := fun v => inRound f v (f (120 + 5 * o + 1))) (nV f) 0 (by omega)
  have h3 : inRound f (fstF (fun v => inRound f v (f (120 + 5 * o + 1))) (nV f) 0) (f (120 + 5 * o + 1)) = true := h2
  rw [h _ hl] at h3
  cases h3
