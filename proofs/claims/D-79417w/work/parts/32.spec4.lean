/-! what the reference's operations do to its world -/
set_option maxRecDepth 100000
def pushN (c : Nat) : Nat := if c = 8 then 8 else c + 1
def pshJ (g : FA) (j : Nat) : FA := fun k => if k < j then g (k + 295) else g k
def pputJ (g a : FA) (c j : Nat) : FA := fun k => if 295 * c ≤ k ∧ k < 295 * c + j then a (k - 295 * c) else g k
def pushP (g a : FA) (c : Nat) : FA := if c = 8 then pputJ (pshJ g 2065) a 7 295 else pputJ g a c 295

def pIt (G : GT) (hx : HF) (M : Nat) (ad : Nat → Nat) (w4 w6 w7 w8 w9 w10 w11 w13 w19 w20 w21 w22 w24 : Int32) (m0 m1 m2 m3 m5 m12 m14 m15 m16 m17 m18 m23 : FA) (o : OUT) : Option Value → HF → Prop := fun v h9 => (∀ x, o = .inl x → v = some (.int (nI 0)) ∧ TW G hx h9 M ad w4 w6 (nI 1) x.1 x.2 (nI 0) w11 w13 w19 w20 w21 w22 w24 m0 m1 m2 m3 m5 m12 m14 m15 m16 m17 m18 m23) ∧ ∀ y, o = .inr y → v = some (.int y.1) ∧ TW G hx h9 M ad w4 w6 w7 w8 w9 w10 w11 w13 w19 w20 w21 w22 w24 y.2 m1 m2 m3 m5 m12 m14 m15 m16 m17 m18 m23
theorem pIt_l {G : GT} {hx h : HF} {M : Nat} {ad : Nat → Nat} {w4 w6 w7 w8 w9 w10 w11 w13 w19 w20 w21 w22 w24 : Int32} {m0 m1 m2 m3 m5 m12 m14 m15 m16 m17 m18 m23 : FA} {o : OUT} {a b : Int32} (ho : o = .inl (a, b)) (hT : TW G hx h M ad w4 w6 (nI 1) a b (nI 0) w11 w13 w19 w20 w21 w22 w24 m0 m1 m2 m3 m5 m12 m14 m15 m16 m17 m18 m23) : pIt G hx M ad w4 w6 w7 w8 w9 w10 w11 w13 w19 w20 w21 w22 w24 m0 m1 m2 m3 m5 m12 m14 m15 m16 m17 m18 m23 o (some (.int (nI 0))) h :=
  ⟨fun x hx => (by cases ho.symm.trans hx; exact ⟨rfl, hT⟩), fun y hy => (by cases ho.symm.trans hy)⟩
theorem pIt_r {G : GT} {hx h : HF} {M : Nat} {ad : Nat → Nat} {w4 w6 w7 w8 w9 w10 w11 w13 w19 w20 w21 w22 w24 : Int32} {m0 m1 m2 m3 m5 m12 m14 m15 m16 m17 m18 m23 : FA} {o : OUT} {a : Int32} {f : FA} (ho : o = .inr (a, f)) (hT : TW G hx h M ad w4 w6 w7 w8 w9 w10 w11 w13 w19 w20 w21 w22 w24 f m1 m2 m3 m5 m12 m14 m15 m16 m17 m18 m23) : pIt G hx M ad w4 w6 w7 w8 w9 w10 w11 w13 w19 w20 w21 w22 w24 m0 m1 m2 m3 m5 m12 m14 m15 m16 m17 m18 m23 o (some (.int a)) h :=
  ⟨fun x hx => (by cases ho.symm.trans hx), fun y hy => (by cases ho.symm.trans hy; exact ⟨rfl, hT⟩)⟩
def pOp (G : GT) (hx : HF) (M : Nat) (ad : Nat → Nat) (w4 w6 w7 w8 w9 w10 w11 w13 w19 w20 w21 w22 w24 : Int32) (m0 m1 m2 m3 m5 m12 m14 m15 m16 m17 m18 m23 : FA) (c : Nat) (o : OUT) : Option Value → HF → Prop := fun v h9 => (∀ x, o = .inl x → v = some (.int (nI 0)) ∧ TW G hx h9 M ad w4 w6 (nI 1) x.1 x.2 (nI 0) w11 w13 w19 w20 w21 w22 w24 m0 (cpy 295 m0 m1) m2 m3 m5 m12 m14 m15 m16 m17 m18 m23) ∧ ∀ y, o = .inr y → v = some (.int y.1) ∧ TW G hx h9 M ad w4 (nI (pushN c)) (nI 0) w8 w9 w10 w11 w13 w19 w20 w21 w22 w24 y.2 (cpy 295 m0 m1) m2 m3 (pushP m5 (cpy 295 m0 m1) c) m12 m14 m15 m16 m17 m18 m23
theorem pOp_l {G : GT} {hx h : HF} {M : Nat} {ad : Nat → Nat} {w4 w6 w7 w8 w9 w10 w11 w13 w19 w20 w21 w22 w24 : Int32} {m0 m1 m2 m3 m5 m12 m14 m15 m16 m17 m18 m23 : FA} {c : Nat} {o : OUT} {a b : Int32} (ho : o = .inl (a, b)) (hT : TW G hx h M ad w4 w6 (nI 1) a b (nI 0) w11 w13 w19 w20 w21 w22 w24 m0 (cpy 295 m0 m1) m2 m3 m5 m12 m14 m15 m16 m17 m18 m23) : pOp G hx M ad w4 w6 w7 w8 w9 w10 w11 w13 w19 w20 w21 w22 w24 m0 m1 m2 m3 m5 m12 m14 m15 m16 m17 m18 m23 c o (some (.int (nI 0))) h :=
  ⟨fun x hx => (by cases ho.symm.trans hx; exact ⟨rfl, hT⟩), fun y hy => (by cases ho.symm.trans hy)⟩
theorem pOp_r {G : GT} {hx h : HF} {M : Nat} {ad : Nat → Nat} {w4 w6 w7 w8 w9 w10 w11 w13 w19 w20 w21 w22 w24 : Int32} {m0 m1 m2 m3 m5 m12 m14 m15 m16 m17 m18 m23 : FA} {c : Nat} {o : OUT} {a : Int32} {f : FA} (ho : o = .inr (a, f)) (hT : TW G hx h M ad w4 (nI (pushN c)) (nI 0) w8 w9 w10 w11 w13 w19 w20 w21 w22 w24 f (cpy 295 m0 m1) m2 m3 (pushP m5 (cpy 295 m0 m1) c) m12 m14 m15 m16 m17 m18 m23) : pOp G hx M ad w4 w6 w7 w8 w9 w10 w11 w13 w19 w20 w21 w22 w24 m0 m1 m2 m3 m5 m12 m14 m15 m16 m17 m18 m23 c o (some (.int a)) h :=
  ⟨fun x hx => (by cases ho.symm.trans hx), fun y hy => (by cases ho.symm.trans hy; exact ⟨rfl, hT⟩)⟩
theorem upd_ext {f g : FA} (h : ∀ k, f k = g k) : f = g := funext h
theorem cpy_0 (f g : FA) : g = cpy 0 f g := by funext k; exact (if_neg (Nat.not_lt_zero k)).symm
theorem cpy_s (n : Nat) (f g : FA) : upd (cpy n f g) n (f n) = cpy (n + 1) f g := by
  funext k
  unfold upd cpy
  by_cases h : k = n
  · subst h; rw [if_pos rfl, if_pos (Nat.lt_succ_self k)]
  · rw [if_neg h]
    by_cases h2 : k < n
    · rw [if_pos h2, if_pos (by omega)]
    · rw [if_neg h2, if_neg (by omega)]
theorem psh_0 (g : FA) : g = pshJ g 0 := by funext k; exact (if_neg (Nat.not_lt_zero k)).symm
theorem psh_at (g : FA) (j : Nat) : pshJ g j (j + 295) = g (j + 295) := if_neg (by omega)
theorem psh_s (g : FA) (j : Nat) : upd (pshJ g j) j (g (j + 295)) = pshJ g (j + 1) := by
  funext k
  unfold upd pshJ
  by_cases h : k = j
  · subst h; rw [if_pos rfl, if_pos (Nat.lt_succ_self k)]
  · rw [if_neg h]
    by_cases h2 : k < j
    · rw [if_pos h2, if_pos (by omega)]
    · rw [if_neg h2, if_neg (by omega)]
theorem pput_0 (g a : FA) (c : Nat) : g = pputJ g a c 0 := by funext k; exact (if_neg (by omega)).symm
theorem pput_s (g a : FA) (c j : Nat) : upd (pputJ g a c j) (295 * c + j) (a j) = pputJ g a c (j + 1) := by
  funext k
  unfold upd pputJ
  by_cases h : k = 295 * c + j
  · subst h; rw [if_pos rfl, if_pos (by omega), show 295 * c + j - 295 * c = j by omega]
  · rw [if_neg h]
    by_cases h2 : 295 * c ≤ k ∧ k < 295 * c + j
    · rw [if_pos h2, if_pos (by omega)]
    · rw [if_neg h2, if_neg (by omega)]
theorem z9_s (f : FA) (r k : Nat) : upd (z9 f r k) (r + k) (nI 0) = z9 f r (k + 1) := rfl
theorem z9_lo (f : FA) (r : Nat) : ∀ (k i : Nat), i < r → z9 f r k i = f i := by
  intro k
  induction k with
  | zero => intro i _; rfl
  | succ k ih =>
    intro i hi
    show upd (z9 f r k) (r + k) (nI 0) i = f i
    rw [pk_un (by omega), ih i hi]
/-! the same head: numbers of reaches, otters, volunteers, nights -/
def Hd (f g : FA) : Prop := g 0 = f 0 ∧ g 1 = f 1 ∧ g 2 = f 2 ∧ g 5 = f 5
theorem Hd.rf {f : FA} : Hd f f := ⟨rfl, rfl, rfl, rfl⟩
theorem Hd.tr {f g i : FA} (h1 : Hd f g) (h2 : Hd g i) : Hd f i := ⟨h2.1.trans h1.1, h2.2.1.trans h1.2.1, h2.2.2.1.trans h1.2.2.1, h2.2.2.2.trans h1.2.2.2⟩
theorem Hd.R {f g : FA} (h : Hd f g) : nR g = nR f := by unfold nR; rw [h.1]
theorem Hd.O {f g : FA} (h : Hd f g) : nO g = nO f := by unfold nO; rw [h.2.1]
theorem Hd.V {f g : FA} (h : Hd f g) : nV g = nV f := by unfold nV; rw [h.2.2.1]
theorem Hd.N {f g : FA} (h : Hd f g) : nN g = nN f := by unfold nN; rw [h.2.2.2]
theorem Hd.G {f g : FA} (h : Hd f g) (hg : Gn f) : Gn g := by
  unfold Gn
  rw [h.R, h.O, h.V, h.N, h.1, h.2.1, h.2.2.1, h.2.2.2]
  exact hg
theorem Hd.up {f : FA} {k : Nat} {x : Int32} (h : 5 < k ∨ k = 3 ∨ k = 4) : Hd f (upd f k x) := ⟨pk_un (by omega), pk_un (by omega), pk_un (by omega), pk_un (by omega)⟩
theorem Hd.spr {f : FA} {o x : Nat} : Hd f (sprF f o x) := by
  unfold sprF
  by_cases h : f (12 + 9 * x + 2) < nI 99
  · rw [if_pos h]; exact ((Hd.up (Or.inl (by omega))).tr (Hd.up (Or.inl (by omega)))).tr (Hd.up (Or.inl (by omega)))
  · rw [if_neg h]; exact Hd.rf
theorem Hd.crs {f : FA} {x : Nat} : Hd f (crsF f x) := by
  unfold crsF
  by_cases h : f 3 < f (12 + 9 * x + 1)
  · rw [if_pos h]; exact Hd.rf
  · rw [if_neg h]; exact Hd.up (Or.inl (by omega))
theorem Hd.step {f : FA} {o x : Nat} : Hd f (stepF f o x).1 := by
  unfold stepF
  cases bridge f x with
  | false => exact Hd.rf
  | true =>
    cases kills f x with
    | true => exact (Hd.crs.tr (Hd.up (Or.inl (by omega)))).tr (Hd.up (Or.inl (by omega)))
    | false => exact Hd.crs.tr Hd.spr
theorem Hd.gos {o s : Nat} : ∀ (w : Nat) (f : FA) (x : Nat), Hd f (goes o s w f x).1 := by
  intro w
  induction w with
  | zero => intro f x; exact Hd.rf
  | succ w ih =>
    intro f x
    unfold goes
    by_cases h : (lives f o && isR f (sd s x)) = true
    · rw [if_pos h]; exact Hd.step.tr (ih _ _)
    · rw [if_neg h]; exact Hd.rf
theorem Hd.itr {step : Nat → FA → FA} (h : ∀ n f, Hd f (step n f)) : ∀ (n : Nat) (f : FA), Hd f (itr step n f) := by
  intro n
  induction n with
  | zero => intro f; exact Hd.rf
  | succ n ih => intro f; exact (ih f).tr (h n _)
theorem Hd.wash {f : FA} {r : Nat} : Hd f (washF f r) := (Hd.up (Or.inl (by omega))).tr (Hd.up (Or.inl (by omega)))
theorem Hd.washes {f : FA} : Hd f (washes f) := Hd.itr (fun _ _ => Hd.wash) _ _
theorem Hd.walkR {v r : Nat} {f : FA} : Hd f (walkR v r f) := ((Hd.up (Or.inl (by omega))).tr (Hd.up (Or.inl (by omega)))).tr (Hd.up (Or.inl (by omega)))
def addK (K : FA) : List Nat → FA
  | [] => K
  | r :: l => addK (upd K r (K r + nI 1)) l
theorem addK_app (l1 l2 : List Nat) : ∀ K, addK K (l1 ++ l2) = addK (addK K l1) l2 := by
  induction l1 with
  | nil => intro K; rfl
  | cons r l ih => intro K; exact ih _
theorem nI_nm1 {n : Nat} (h : n < 2 ^ 31) : nI n ≠ (-1) := fun hh => nI_pos h (by rw [hh]; decide)
theorem absd {a b : Nat} (ha : a < 2 ^ 30) (hb : b < 2 ^ 30) : (if 0 ≤ nI a - nI b then nI a - nI b else 0 - (nI a - nI b)) = nI (dist a b) := by
  unfold dist
  by_cases h : a ≤ b
  · rw [if_pos h]
    rcases Nat.eq_or_lt_of_le h with e | e
    · subst e
      rw [Nat.sub_self, Int32.sub_self]; rfl
    · rw [if_neg (by have := pk_sneg hb e; exact Int32.not_le.mpr this)]
      have h1 : nI b - nI a = nI (b - a) := pk_sub h
      rw [← h1]
      grind
  · rw [if_neg h]
    have h1 : nI a - nI b = nI (a - b) := pk_sub (by omega)
    rw [h1, if_pos (nI_pos' (by omega))]
