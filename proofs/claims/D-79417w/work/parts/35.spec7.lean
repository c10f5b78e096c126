/-! questions: what they answer, or the number of the thing thrown -/
set_option maxRecDepth 100000
abbrev ANS : Type := Nat ⊕ Int32
def maxI (x y : Int32) : Int32 := if x < y then y else x
theorem isN_iff {n : Nat} (hb : n ≤ 30) {x : Int32} : t_in x (nI 0) (nI n - nI 1) = true ↔ ∃ j, j < n ∧ x = nI j := by
  unfold t_in
  rw [Bool.and_eq_true, decide_eq_true_eq, decide_eq_true_eq]
  constructor
  · rintro ⟨h1, h2⟩
    obtain ⟨j, hj, rfl⟩ := nI_of (Int32.not_lt.mpr h1)
    refine ⟨j, ?_, rfl⟩
    rw [Int32.le_iff_toInt_le, pk_sub_toInt (by omega) (by omega), nI_toInt hj] at h2
    omega
  · rintro ⟨j, hj, rfl⟩
    refine ⟨nI_le (Nat.zero_le _) (by omega), ?_⟩
    rw [Int32.le_iff_toInt_le, pk_sub_toInt (by omega) (by omega), nI_toInt (by omega)]
    omega
theorem isO_iff {f : FA} (h : Gn f) {x : Int32} : isO f x = true ↔ ∃ j, j < nO f ∧ x = nI j := isN_iff h.ob
theorem isV_iff {f : FA} (h : Gn f) {x : Int32} : isV f x = true ↔ ∃ j, j < nV f ∧ x = nI j := isN_iff (Nat.le_trans h.vb (by omega))
theorem sw_cases (n : Nat) (x : Int32) (hn : n < 2 ^ 31) : (∃ k, k ≤ n ∧ x = nI k) ∨ (x.toInt < 0 ∨ (n : Int) < x.toInt) := by
  by_cases h : x < 0
  · exact Or.inr (Or.inl (by rw [Int32.lt_iff_toInt_lt] at h; exact h))
  · obtain ⟨j, hj, rfl⟩ := nI_of h
    by_cases h2 : j ≤ n
    · exact Or.inl ⟨j, h2, rfl⟩
    · exact Or.inr (Or.inr (by rw [nI_toInt hj]; omega))
def q_reachOf (f : FA) (x w : Int32) : ANS :=
  if isR f x = false then .inl 1 else if t_in w (nI 0) (nI 4) then .inr (f (12 + 9 * x.toNatClampNeg + w.toNatClampNeg))
  else if w = nI 5 then .inr (if holt f x.toNatClampNeg then quality f x.toNatClampNeg else (-1)) else if w = nI 6 then .inr (nI (otters f x)) else if w = nI 7 then .inr (f (12 + 9 * x.toNatClampNeg + 6)) else .inl 2
def q_otterOf (f : FA) (x w : Int32) : ANS := if isO f x = false then .inl 1 else if t_in w (nI 0) (nI 4) then .inr (f (120 + 5 * x.toNatClampNeg + w.toNatClampNeg)) else .inl 2
def q_volOf (f : FA) (x w : Int32) : ANS := if isV f x = false then .inl 1 else if t_in w (nI 0) (nI 4) then .inr (f (270 + 5 * x.toNatClampNeg + w.toNatClampNeg)) else .inl 2
def q_refuge (f : FA) (x : Int32) : ANS := if isR f x = false then .inl 1 else match refuge f x.toNatClampNeg with
  | none => .inl 2
  | some b => .inr (nI b)
def goalI (f : FA) (o : Nat) : Int32 := maxI (nI 0) (minI (nI (nR f) - nI 1) (f (120 + 5 * o + 1) + (if (nN f + 1 + o) % 2 = 0 then nI 1 else (-1)) * nI (ways (nN f + 1 + o))))
def q_goal (f : FA) (x : Int32) : ANS := if isO f x = false then .inl 1 else if lives f x.toNatClampNeg = false then .inl 2 else .inr (goalI f x.toNatClampNeg)
def killN (f : FA) (o : Nat) : Nat := fstF (fun k => !lives (nights k f) o) 400 0
def q_killedIn (f : FA) (x : Int32) : ANS := if isO f x = false then .inl 1 else if lives f x.toNatClampNeg = false then .inl 2 else if lives (nights (killN f x.toNatClampNeg) f) x.toNatClampNeg then .inl 3 else .inr (nI (killN f x.toNatClampNeg))
def bornAt (f : FA) (r k : Nat) : Bool := decide (r ∈ nightW (nights k f))
def cubN (f : FA) (r : Nat) : Nat := fstF (bornAt f r) 400 0
def q_cubsIn (f : FA) (x : Int32) : ANS := if isR f x = false then .inl 1 else if holt f x.toNatClampNeg = false then .inl 2 else if cubN f x.toNatClampNeg < 400 then .inr (nI (cubN f x.toNatClampNeg + 1)) else .inl 3
def mxA (K : FA) : Nat → Nat
  | 0 => 0
  | n + 1 => if K (mxA K n) < K (n + 1) then n + 1 else mxA K n
def dipK (f : FA) : FA := addK (fun _ => nI 0) (nightsK 100 f)
def q_worst (f : FA) : ANS := if dipK f (mxA (dipK f) 11) = 0 then .inl 1 else .inr (nI (mxA (dipK f) 11))
def unseenP (f : FA) (o : Nat) : Bool := lives f o && (decide (f (120 + 5 * o + 2) = 0) && (seer f o).isSome)
def orI (p : Nat → Bool) : Nat → Int32
  | 0 => nI 0
  | n + 1 => orI p n ||| (if p n then nI 1 <<< (nI n &&& 31) else nI 0)
def lonelyI (f : FA) : Int32 := orI (fun r => decide (otters f (nI r) = 1)) (nR f)
def lst (f : FA) : Nat → Int32
  | 0 => nI 10
  | n + 1 => if f (12 + 9 * n + 4) = nI 1 then minI (lst f n) (f (12 + 9 * n + 1)) else lst f n
def q_seenBy (f : FA) (x : Int32) : ANS := if isO f x = false then .inl 1 else if lives f x.toNatClampNeg = false then .inl 2 else match seer f x.toNatClampNeg with
  | none => .inl 3
  | some v => .inr (nI v)
def sprs (f : FA) : FA := fun r => f (12 + 9 * r + 2)
def q_busiest (f : FA) : ANS := if nR f = 0 then .inl 1 else if sprs f (mxA (sprs f) (nR f - 1)) = 0 then .inl 1 else .inr (nI (mxA (sprs f) (nR f - 1)))
def aheadP (f : FA) (x r : Nat) : Bool := holt f r && (decide (quality f x < quality f r) || (decide (quality f r = quality f x) && decide (r < x)))
def ahead (f : FA) (x : Nat) : Nat := ct (aheadP f x) (nR f)
def rankP (f : FA) (p : Int32) (r : Nat) : Bool := holt f r && decide (nI (ahead f r) = p)
def q_ranked (f : FA) (p : Int32) : ANS := if fstF (rankP f p) (nR f) 0 < nR f then .inr (nI (fstF (rankP f p) (nR f) 0)) else .inl 1
theorem fst_none {p : Nat → Bool} {n : Nat} (h : ∀ i, i < n → p i = false) : fstF p n 0 = n := by
  rcases Nat.lt_or_ge (fstF p n 0) n with e | e
  · have h2 := fstF_is (p := p) n 0 (by omega)
    rw [h _ e] at h2
    cases h2
  · have h3 : ∀ (n o : Nat), fstF p n o ≤ o + n := by
      intro n
      induction n with
      | zero => intro o; exact Nat.le_refl _
      | succ n ih =>
        intro o
        show (if p o then o else fstF p n (o + 1)) ≤ _
        by_cases c : p o = true
        · rw [if_pos c]; omega
        · rw [if_neg c]; have := ih (o + 1); omega
    have := h3 n 0
    omega
theorem mxA_le (K : FA) : ∀ n, mxA K n ≤ n := by
  intro n
  induction n with
  | zero => exact Nat.le_refl _
  | succ n ih =>
    show (if K (mxA K n) < K (n + 1) then n + 1 else mxA K n) ≤ n + 1
    by_cases c : K (mxA K n) < K (n + 1)
    · rw [if_pos c]; exact Nat.le_refl _
    · rw [if_neg c]; omega
theorem mxA_t {K : FA} {n : Nat} (h : K (mxA K n) < K (n + 1)) : mxA K (n + 1) = n + 1 := if_pos h
theorem mxA_f {K : FA} {n : Nat} (h : ¬ K (mxA K n) < K (n + 1)) : mxA K (n + 1) = mxA K n := if_neg h
theorem mxA_cong {K L : FA} : ∀ {n : Nat}, (∀ k, k ≤ n → K k = L k) → mxA K n = mxA L n := by
  intro n
  induction n with
  | zero => intro _; rfl
  | succ n ih =>
    intro h
    have e := ih (fun k hk => h k (by omega))
    show (if K (mxA K n) < K (n + 1) then n + 1 else mxA K n) = (if L (mxA L n) < L (n + 1) then n + 1 else mxA L n)
    rw [e, h (n + 1) (Nat.le_refl _), h (mxA L n) (by have := mxA_le L n; omega)]
theorem setW_in (ks : List Nat) : ∀ (g : FA) (r : Nat), setW g ks r = if r ∈ ks then nI 1 else g r := by
  induction ks with
  | nil => intro g r; rfl
  | cons a l ih =>
    intro g r
    show setW (upd g a (nI 1)) l r = _
    rw [ih]
    by_cases h : r ∈ l
    · rw [if_pos h, if_pos (List.mem_cons_of_mem _ h)]
    · rw [if_neg h]
      by_cases e : r = a
      · subst e; rw [pk_us, if_pos List.mem_cons_self]
      · rw [pk_un e, if_neg (fun hm => (List.mem_cons.mp hm).elim e h)]
theorem addK_at (ks : List Nat) : ∀ (K L : FA) (r : Nat), K r = L r → addK K ks r = addK L ks r := by
  induction ks with
  | nil => intro K L r h; exact h
  | cons a l ih =>
    intro K L r h
    refine ih _ _ r ?_
    by_cases e : r = a
    · subst e; rw [pk_us, pk_us, h]
    · rw [pk_un e, pk_un e, h]
theorem lst_s1 {f : FA} {n : Nat} (h : f (12 + 9 * n + 4) = nI 1) : minI (lst f n) (f (12 + 9 * n + 1)) = lst f (n + 1) := (if_pos h).symm
theorem lst_s2 {f : FA} {n : Nat} (h : ¬ f (12 + 9 * n + 4) = nI 1) : lst f n = lst f (n + 1) := (if_neg h).symm
theorem orI_t {p : Nat → Bool} {n : Nat} (h : p n = true) : orI p n ||| (nI 1 <<< (nI n &&& 31)) = orI p (n + 1) := by show _ = orI p n ||| (if p n then _ else _); rw [if_pos h]
theorem orI_f {p : Nat → Bool} {n : Nat} (h : p n = false) : orI p n ||| nI 0 = orI p (n + 1) := by show _ = orI p n ||| (if p n then _ else _); rw [if_neg (tf_ h)]
theorem seer_lt {f : FA} {o v : Nat} (h : seer f o = some v) : v < nV f := by
  unfold seer at h
  by_cases c : fstF (fun v => inRound f v (f (120 + 5 * o + 1))) (nV f) 0 < nV f
  · rw [if_pos c] at h; cases h; exact c
  · rw [if_neg c] at h; cases h
theorem ahead_f1 {f : FA} {x r : Nat} (h : holt f r = false) : aheadP f x r = false := by unfold aheadP; rw [h]; rfl
theorem ahead_t1 {f : FA} {x r : Nat} (h : holt f r = true) (h2 : quality f x < quality f r) : aheadP f x r = true := by unfold aheadP; rw [h, decide_eq_true h2]; rfl
theorem ahead_f2 {f : FA} {x r : Nat} (h2 : ¬ quality f x < quality f r) (h3 : ¬ quality f r = quality f x) : aheadP f x r = false := by unfold aheadP; rw [decide_eq_false h2, decide_eq_false h3, Bool.false_and, Bool.or_false, Bool.and_false]
theorem ahead_f3 {f : FA} {x r : Nat} (h2 : ¬ quality f x < quality f r) (h3 : ¬ r < x) : aheadP f x r = false := by unfold aheadP; rw [decide_eq_false h2, decide_eq_false h3, Bool.and_false, Bool.or_false, Bool.and_false]
theorem ahead_t2 {f : FA} {x r : Nat} (h : holt f r = true) (h3 : quality f r = quality f x) (h4 : r < x) : aheadP f x r = true := by unfold aheadP; rw [h, decide_eq_true h3, decide_eq_true h4, Bool.and_true, Bool.or_true]; rfl
theorem rank_f1 {f : FA} {p : Int32} {r : Nat} (h : holt f r = false) : rankP f p r = false := by unfold rankP; rw [h]; rfl
theorem rank_f2 {f : FA} {p : Int32} {r : Nat} (h : ¬ nI (ahead f r) = p) : rankP f p r = false := by unfold rankP; rw [decide_eq_false h, Bool.and_false]
theorem rank_t {f : FA} {p : Int32} {r : Nat} (h : holt f r = true) (h2 : nI (ahead f r) = p) : rankP f p r = true := by unfold rankP; rw [h, decide_eq_true h2]; rfl
theorem uns_f1 {f : FA} {o : Nat} (h : lives f o = false) : unseenP f o = false := by unfold unseenP; rw [h]; rfl
theorem uns_f2 {f : FA} {o : Nat} (h : ¬ f (120 + 5 * o + 2) = 0) : unseenP f o = false := by unfold unseenP; rw [decide_eq_false h, Bool.false_and, Bool.and_false]
theorem uns_f3 {f : FA} {o : Nat} (h : seer f o = none) : unseenP f o = false := by unfold unseenP; rw [h, Option.isSome_none, Bool.and_false, Bool.and_false]
theorem uns_t {f : FA} {o v : Nat} (h : lives f o = true) (h2 : f (120 + 5 * o + 2) = 0) (h3 : seer f o = some v) : unseenP f o = true := by unfold unseenP; rw [h, decide_eq_true h2, h3]; rfl

def pQ (G : GT) (hx : HF) (M : Nat) (ad : Nat → Nat) (w4 w6 w7 w8 w9 w10 w11 w13 w19 w20 w21 w22 w24 : Int32) (m0 m1 m2 m3 m5 m12 m14 m15 m16 m17 m18 m23 : FA) (o : ANS) : Option Value → HF → Prop := fun v h9 => (∀ k, o = .inl k → v = some (.int (nI 0)) ∧ TW G hx h9 M ad w4 w6 (nI k) w8 w9 w10 w11 w13 w19 w20 w21 w22 w24 m0 m1 m2 m3 m5 m12 m14 m15 m16 m17 m18 m23) ∧ ∀ a, o = .inr a → v = some (.int a) ∧ TW G hx h9 M ad w4 w6 (nI 0) w8 w9 w10 w11 w13 w19 w20 w21 w22 w24 m0 m1 m2 m3 m5 m12 m14 m15 m16 m17 m18 m23
theorem pQ_l {G : GT} {hx h : HF} {M : Nat} {ad : Nat → Nat} {w4 w6 w7 w8 w9 w10 w11 w13 w19 w20 w21 w22 w24 : Int32} {m0 m1 m2 m3 m5 m12 m14 m15 m16 m17 m18 m23 : FA} {o : ANS} {k : Nat} (ho : o = .inl k) (hT : TW G hx h M ad w4 w6 (nI k) w8 w9 w10 w11 w13 w19 w20 w21 w22 w24 m0 m1 m2 m3 m5 m12 m14 m15 m16 m17 m18 m23) : pQ G hx M ad w4 w6 w7 w8 w9 w10 w11 w13 w19 w20 w21 w22 w24 m0 m1 m2 m3 m5 m12 m14 m15 m16 m17 m18 m23 o (some (.int (nI 0))) h :=
  ⟨fun x hx => (by cases ho.symm.trans hx; exact ⟨rfl, hT⟩), fun y hy => (by cases ho.symm.trans hy)⟩
theorem pQ_r {G : GT} {hx h : HF} {M : Nat} {ad : Nat → Nat} {w4 w6 w7 w8 w9 w10 w11 w13 w19 w20 w21 w22 w24 : Int32} {m0 m1 m2 m3 m5 m12 m14 m15 m16 m17 m18 m23 : FA} {o : ANS} {a : Int32} (ho : o = .inr a) (hT : TW G hx h M ad w4 w6 (nI 0) w8 w9 w10 w11 w13 w19 w20 w21 w22 w24 m0 m1 m2 m3 m5 m12 m14 m15 m16 m17 m18 m23) : pQ G hx M ad w4 w6 w7 w8 w9 w10 w11 w13 w19 w20 w21 w22 w24 m0 m1 m2 m3 m5 m12 m14 m15 m16 m17 m18 m23 o (some (.int a)) h :=
  ⟨fun x hx => (by cases ho.symm.trans hx), fun y hy => (by cases ho.symm.trans hy; exact ⟨rfl, hT⟩)⟩
/-- a question that looks ahead -/
def pA (G : GT) (hx : HF) (M : Nat) (ad : Nat → Nat) (w4 w6 w7 w8 w9 w10 w11 w13 w19 w20 w21 w22 w24 : Int32) (m0 m1 m2 m3 m5 m12 m14 m15 m16 m17 m18 m23 : FA) (o : ANS) : Option Value → HF → Prop := fun v h9 => (∀ k, o = .inl k → v = some (.int (nI 0)) ∧ ∃ a0 a2 a14 a15 : FA, (∀ k, k < 295 → a0 k = m0 k) ∧ TW G hx h9 M ad w4 w6 (nI k) w8 w9 w10 w11 w13 w19 w20 w21 w22 w24 a0 m1 a2 m3 m5 m12 a14 a15 m16 m17 m18 m23) ∧ ∀ a, o = .inr a → v = some (.int a) ∧ ∃ a0 a2 a14 a15 : FA, (∀ k, k < 295 → a0 k = m0 k) ∧ TW G hx h9 M ad w4 w6 (nI 0) w8 w9 w10 w11 w13 w19 w20 w21 w22 w24 a0 m1 a2 m3 m5 m12 a14 a15 m16 m17 m18 m23
theorem pA_l {G : GT} {hx h : HF} {M : Nat} {ad : Nat → Nat} {w4 w6 w7 w8 w9 w10 w11 w13 w19 w20 w21 w22 w24 : Int32} {m0 m1 m2 m3 m5 m12 m14 m15 m16 m17 m18 m23 : FA} {o : ANS} {k : Nat} {a0 a2 a14 a15 : FA} (ho : o = .inl k) (h0 : ∀ k, k < 295 → a0 k = m0 k) (hT : TW G hx h M ad w4 w6 (nI k) w8 w9 w10 w11 w13 w19 w20 w21 w22 w24 a0 m1 a2 m3 m5 m12 a14 a15 m16 m17 m18 m23) : pA G hx M ad w4 w6 w7 w8 w9 w10 w11 w13 w19 w20 w21 w22 w24 m0 m1 m2 m3 m5 m12 m14 m15 m16 m17 m18 m23 o (some (.int (nI 0))) h :=
  ⟨fun x hx => (by cases ho.symm.trans hx; exact ⟨rfl, a0, a2, a14, a15, h0, hT⟩), fun y hy => (by cases ho.symm.trans hy)⟩
theorem pA_r {G : GT} {hx h : HF} {M : Nat} {ad : Nat → Nat} {w4 w6 w7 w8 w9 w10 w11 w13 w19 w20 w21 w22 w24 : Int32} {m0 m1 m2 m3 m5 m12 m14 m15 m16 m17 m18 m23 : FA} {o : ANS} {a : Int32} {a0 a2 a14 a15 : FA} (ho : o = .inr a) (h0 : ∀ k, k < 295 → a0 k = m0 k) (hT : TW G hx h M ad w4 w6 (nI 0) w8 w9 w10 w11 w13 w19 w20 w21 w22 w24 a0 m1 a2 m3 m5 m12 a14 a15 m16 m17 m18 m23) : pA G hx M ad w4 w6 w7 w8 w9 w10 w11 w13 w19 w20 w21 w22 w24 m0 m1 m2 m3 m5 m12 m14 m15 m16 m17 m18 m23 o (some (.int a)) h :=
  ⟨fun x hx => (by cases ho.symm.trans hx), fun y hy => (by cases ho.symm.trans hy; exact ⟨rfl, a0, a2, a14, a15, h0, hT⟩)⟩
