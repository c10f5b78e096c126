/-! the reference's nights: steps of loops -/
set_option maxRecDepth 100000
theorem kills_f1 {f : FA} {x : Nat} (h : f 3 < f (12 + 9 * x + 1)) : kills f x = false := by unfold kills; rw [decide_eq_true h]; rfl
theorem kills_f2 {f : FA} {x : Nat} (h : ¬ f (12 + 9 * x + 4) = nI 1) : kills f x = false := by unfold kills; rw [decide_eq_false h, Bool.false_and, Bool.and_false]
theorem kills_f3 {f : FA} {x : Nat} (h : ¬ f (12 + 9 * x + 3) + nI 1 - (f (12 + 9 * x + 3) + nI 1) / nI 3 * nI 3 = 0) : kills f x = false := by unfold kills irem3; rw [decide_eq_false h, Bool.and_false, Bool.and_false]
theorem kills_t {f : FA} {x : Nat} (h : ¬ f 3 < f (12 + 9 * x + 1)) (h2 : f (12 + 9 * x + 4) = nI 1) (h3 : f (12 + 9 * x + 3) + nI 1 - (f (12 + 9 * x + 3) + nI 1) / nI 3 * nI 3 = 0) : kills f x = true := by unfold kills irem3; rw [decide_eq_false h, decide_eq_true h2, decide_eq_true h3]; rfl
theorem goes_stop {o s w : Nat} {f : FA} {x : Nat} (h : lives f o = false ∨ isR f (sd s x) = false) : goes o s w f x = (f, []) := by
  cases w with
  | zero => rfl
  | succ w =>
    unfold goes
    rw [if_neg]
    rcases h with h | h
    · rw [h, Bool.false_and]; decide
    · rw [h, Bool.and_false]; decide
theorem goes_go {o s w : Nat} {f : FA} {x y : Nat} (hl : lives f o = true) (hr : isR f (sd s x) = true) (hy : (sd s x).toNatClampNeg = y) : goes o s (w + 1) f x = ((goes o s w (stepF f o y).1 y).1, (stepF f o y).2 ++ (goes o s w (stepF f o y).1 y).2) := by
  subst hy
  show (if (lives f o && isR f (sd s x)) = true then _ else _) = _
  rw [if_pos (by rw [hl, hr]; rfl)]
theorem step_no {f : FA} {o x : Nat} (h : bridge f x = false) : stepF f o x = (f, []) := by unfold stepF; rw [if_neg (tf_ h)]
theorem step_kill {f : FA} {o x : Nat} (h : bridge f x = true) (h2 : kills f x = true) : stepF f o x = (upd (upd (crsF f x) (120 + 5 * o) (nI 1)) (120 + 5 * o + 1) (nI x), [x]) := by unfold stepF; rw [if_pos h, if_pos h2]
theorem step_go {f : FA} {o x : Nat} (h : bridge f x = true) (h2 : kills f x = false) : stepF f o x = (sprF (crsF f x) o x, []) := by unfold stepF; rw [if_pos h, if_neg (tf_ h2)]
/-- what is still to come, behind the kills ks so far -/
def Rest (o s W : Nat) (f0 : FA) (x0 w : Nat) (f : FA) (x : Nat) (ks : List Nat) : Prop := goes o s W f0 x0 = ((goes o s w f x).1, ks ++ (goes o s w f x).2)
theorem Rest.go {o s W : Nat} {f0 : FA} {x0 w : Nat} {f : FA} {x : Nat} {ks : List Nat} (h : Rest o s W f0 x0 (w + 1) f x ks) {y : Nat} {f1 : FA} {k1 : List Nat} (hl : lives f o = true) (hr : isR f (sd s x) = true) (hy : (sd s x).toNatClampNeg = y) (he : stepF f o y = (f1, k1)) : Rest o s W f0 x0 w f1 y (ks ++ k1) := by
  unfold Rest at h ⊢
  rw [h, goes_go hl hr hy, he, List.append_assoc]
theorem Rest.stop {o s W : Nat} {f0 : FA} {x0 w : Nat} {f : FA} {x : Nat} {ks : List Nat} (h : Rest o s W f0 x0 w f x ks) (hs : goes o s w f x = (f, [])) : goes o s W f0 x0 = (f, ks) := by
  unfold Rest at h
  rw [h, hs, List.append_nil]
theorem addK_1 (K : FA) (ks : List Nat) (r : Nat) : upd (addK K ks) r (addK K ks r + nI 1) = addK K (ks ++ [r]) := by rw [addK_app]; rfl
def setW (g : FA) : List Nat → FA
  | [] => g
  | r :: l => setW (upd g r (nI 1)) l
theorem setW_app (l1 l2 : List Nat) : ∀ g, setW g (l1 ++ l2) = setW (setW g l1) l2 := by
  induction l1 with
  | nil => intro g; rfl
  | cons r l ih => intro g; exact ih _
theorem setW_1 (g : FA) (ks : List Nat) (r : Nat) : upd (setW g ks) r (nI 1) = setW g (ks ++ [r]) := by rw [setW_app]; rfl
def zJ (j : Nat) (g : FA) : FA := fun k => if k < j then nI 0 else g k
theorem zJ_0 (g : FA) : g = zJ 0 g := by funext k; exact (if_neg (Nat.not_lt_zero k)).symm
theorem zJ_s (j : Nat) (g : FA) : upd (zJ j g) j (nI 0) = zJ (j + 1) g := by
  funext k
  unfold upd zJ
  by_cases h : k = j
  · subst h; rw [if_pos rfl, if_pos (Nat.lt_succ_self k)]
  · rw [if_neg h]
    by_cases h2 : k < j
    · rw [if_pos h2, if_pos (by omega)]
    · rw [if_neg h2, if_neg (by omega)]
theorem nearB_no {f : FA} {x many j : Nat} (h : mayB f many j = false) : nearB f x many (j + 1) = nearB f x many j := by
  show (if mayB f many j then _ else _) = _
  rw [if_neg (tf_ h)]
theorem nearB_1 {f : FA} {x many j : Nat} (h : mayB f many j = true) (hb : nearB f x many j = none) : nearB f x many (j + 1) = some j := by
  show (if mayB f many j then _ else _) = _
  rw [if_pos h, hb]
theorem nearB_2 {f : FA} {x many j b : Nat} (h : mayB f many j = true) (hb : nearB f x many j = some b) (hd : dist j x < dist b x) : nearB f x many (j + 1) = some j := by
  show (if mayB f many j then _ else _) = _
  rw [if_pos h, hb]
  exact if_pos hd
theorem nearB_3 {f : FA} {x many j b : Nat} (h : mayB f many j = true) (hb : nearB f x many j = some b) (hd : ¬ dist j x < dist b x) : nearB f x many (j + 1) = some b := by
  show (if mayB f many j then _ else _) = _
  rw [if_pos h, hb]
  exact if_neg hd
theorem may_f1 {f : FA} {many r : Nat} (h : holt f r = false) : mayB f many r = false := by unfold mayB; rw [h]; rfl
theorem may_f2 {f : FA} {many r : Nat} (h : otters f (nI r) ≠ many) : mayB f many r = false := by unfold mayB; rw [decide_eq_false h, Bool.false_and, Bool.and_false]
theorem may_f3 {f : FA} {many r : Nat} (h : many = 0) (h2 : ¬ f (12 + 9 * r + 6) = 0) : mayB f many r = false := by unfold mayB; rw [decide_eq_false h2, decide_eq_false (show ¬ 0 < many by omega), Bool.or_false, Bool.and_false, Bool.and_false]
theorem may_t1 {f : FA} {many r : Nat} (h : holt f r = true) (h2 : otters f (nI r) = many) (h3 : 0 < many) : mayB f many r = true := by unfold mayB; rw [h, decide_eq_true h2, decide_eq_true h3]; rfl
theorem may_t2 {f : FA} {many r : Nat} (h : holt f r = true) (h2 : otters f (nI r) = many) (h3 : f (12 + 9 * r + 6) = 0) : mayB f many r = true := by unfold mayB; rw [h, decide_eq_true h2, decide_eq_true h3, Bool.or_true]; rfl
theorem refuge_0 {f : FA} {x : Nat} (h : near f x 0 = none) : refuge f x = near f x 1 := by unfold refuge; rw [h]
theorem refuge_1 {f : FA} {x b : Nat} (h : near f x 0 = some b) : refuge f x = some b := by unfold refuge; rw [h]
theorem growS_full {f : FA} {r : Nat} (h : nO f = 30) : growS r f = upd f 7 (f 7 + nI 1) := if_pos h
theorem growS_more {f : FA} {r : Nat} (h : nO f ≠ 30) : growS r f = comesF f (oI (refuge f r)) := if_neg h
theorem breeds_f1 {f : FA} {r : Nat} (h : otters f (nI r) ≠ 2) : breeds f r = false := by unfold breeds; rw [decide_eq_false h]; rfl
theorem breeds_f2 {f : FA} {r : Nat} (h : t_in (nI (nN f / 30 % 12)) (nI 2) (nI 4) = false) : breeds f r = false := by unfold breeds; rw [h, Bool.false_and, Bool.and_false]
theorem breeds_f3 {f : FA} {r : Nat} (h : quality f r < nI 15) : breeds f r = false := by unfold breeds; rw [decide_eq_false (Int32.not_le.mpr h), Bool.false_and, Bool.and_false, Bool.and_false]
theorem breeds_f4 {f : FA} {r : Nat} (h : f (12 + 9 * r + 8) = nI (nN f / 360)) : breeds f r = false := by unfold breeds; rw [decide_eq_false (not_not_intro h), Bool.and_false, Bool.and_false, Bool.and_false]
theorem breeds_t {f : FA} {r : Nat} (h : otters f (nI r) = 2) (h2 : t_in (nI (nN f / 30 % 12)) (nI 2) (nI 4) = true) (h3 : ¬ quality f r < nI 15) (h4 : ¬ f (12 + 9 * r + 8) = nI (nN f / 360)) : breeds f r = true := by unfold breeds; rw [decide_eq_true h, h2, decide_eq_true (Int32.not_lt.mp h3), decide_eq_true h4]; rfl
theorem outsS_t {o : Nat} {p : FA × List Nat} (h : lives p.1 o = true) : outsS o p = ((goesOut p.1 o).1, p.2 ++ (goesOut p.1 o).2) := if_pos h
theorem outsS_f {o : Nat} {p : FA × List Nat} (h : lives p.1 o = false) : outsS o p = p := if_neg (tf_ h)
theorem holtsS_t {r : Nat} {p : FA × List Nat} (h : holt p.1 r = true) : holtsS r p = ((atHolt p.1 r).1, if (atHolt p.1 r).2 then p.2 ++ [r] else p.2) := if_pos h
theorem holtsS_f {r : Nat} {p : FA × List Nat} (h : holt p.1 r = false) : holtsS r p = p := if_neg (tf_ h)
theorem setW_if (g : FA) (ks : List Nat) (r : Nat) (b : Bool) : (if b then upd (setW g ks) r (nI 1) else setW g ks) = setW g (if b then ks ++ [r] else ks) := by
  cases b with
  | true => exact setW_1 g ks r
  | false => rfl
theorem dist_b (a b : Nat) : dist a b ≤ a + b := by unfold dist; by_cases h : a ≤ b <;> simp [h] <;> omega
theorem ways_b (s : Nat) : 1 ≤ ways s ∧ ways s ≤ 3 := by unfold ways; omega
theorem npos {x : Int32} {c : Nat} (h : x = nI c) (h0 : 0 < c) (hc : c < 2 ^ 31) : 0 < x := by rw [h]; exact Int32.not_le.mp (nI_nle h0 hc)
theorem Rest.ini {o s W : Nat} {f : FA} {x : Nat} : Rest o s W f x (W - 0) f x [] := by rw [Nat.sub_zero]; rfl
