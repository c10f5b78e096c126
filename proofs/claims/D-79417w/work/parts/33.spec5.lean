/-! well-formed numbers, kept by the nights -/
set_option maxRecDepth 100000
theorem nf {b : Bool} (h : b = true) : ¬ b = false := by rw [h]; decide
theorem tf_ {b : Bool} (h : b = false) : ¬ b = true := by rw [h]; decide
def Lv (f : FA) : Prop := ∀ o, o < nO f → lives f o = true → ∃ x, x < nR f ∧ f (120 + 5 * o + 1) = nI x
def Cb (f : FA) : Prop := ∀ r, r < nR f → (∃ c, c ≤ 3 ∧ f (12 + 9 * r + 6) = nI c) ∧ ∃ c, c ≤ 9 ∧ f (12 + 9 * r) = nI c
def Wf (f : FA) : Prop := Gn f ∧ Lv f ∧ Cb f
theorem Lv.of {f g : FA} (h : Lv f) (hd : Hd f g) (hs : ∀ o, o < nO f → lives g o = true → g (120 + 5 * o) = f (120 + 5 * o) ∧ g (120 + 5 * o + 1) = f (120 + 5 * o + 1)) : Lv g := by
  intro o ho hl
  rw [hd.O] at ho
  obtain ⟨h1, h2⟩ := hs o ho hl
  have hl2 : lives f o = true := by unfold lives at hl ⊢; rw [← h1]; exact hl
  obtain ⟨x, hx, e⟩ := h o ho hl2
  exact ⟨x, by rw [hd.R]; exact hx, h2.trans e⟩
theorem Cb.of {f g : FA} (h : Cb f) (hd : Hd f g) (hs : ∀ r, r < nR f → g (12 + 9 * r + 6) = f (12 + 9 * r + 6) ∧ g (12 + 9 * r) = f (12 + 9 * r)) : Cb g := by
  intro r hr
  rw [hd.R] at hr
  obtain ⟨⟨c, hc, e⟩, c2, hc2, e2⟩ := h r hr
  exact ⟨⟨c, hc, (hs r hr).1.trans e⟩, c2, hc2, (hs r hr).2.trans e2⟩
theorem Wf.of {f g : FA} (h : Wf f) (hd : Hd f g) (hs : ∀ o, o < nO f → lives g o = true → g (120 + 5 * o) = f (120 + 5 * o) ∧ g (120 + 5 * o + 1) = f (120 + 5 * o + 1)) (hc : ∀ r, r < nR f → g (12 + 9 * r + 6) = f (12 + 9 * r + 6) ∧ g (12 + 9 * r) = f (12 + 9 * r)) : Wf g :=
  ⟨hd.G h.1, h.2.1.of hd hs, h.2.2.of hd hc⟩
theorem spr_at {f : FA} {o x k : Nat} (h : k ≠ 12 + 9 * x + 2 ∧ k ≠ 120 + 5 * o + 3 ∧ k ≠ 8) : sprF f o x k = f k := by
  unfold sprF
  by_cases c : f (12 + 9 * x + 2) < nI 99
  · rw [if_pos c, pk_un h.2.2, pk_un h.2.1, pk_un h.1]
  · rw [if_neg c]
theorem crs_at {f : FA} {x k : Nat} (h : k ≠ 12 + 9 * x + 3) : crsF f x k = f k := by
  unfold crsF
  by_cases c : f 3 < f (12 + 9 * x + 1)
  · rw [if_pos c]
  · rw [if_neg c, pk_un h]
theorem step_at {f : FA} {o x k : Nat} (h : k ≠ 12 + 9 * x + 2 ∧ k ≠ 120 + 5 * o + 3 ∧ k ≠ 8 ∧ k ≠ 12 + 9 * x + 3 ∧ k ≠ 120 + 5 * o ∧ k ≠ 120 + 5 * o + 1) : (stepF f o x).1 k = f k := by
  unfold stepF
  cases bridge f x with
  | false => rfl
  | true =>
    cases kills f x with
    | true => exact (pk_un h.2.2.2.2.2).trans ((pk_un h.2.2.2.2.1).trans (crs_at h.2.2.2.1))
    | false => exact (spr_at ⟨h.1, h.2.1, h.2.2.1⟩).trans (crs_at h.2.2.2.1)
theorem step_liv {f : FA} {o x : Nat} (hx : x < 12) (h : lives (stepF f o x).1 o = true) : (stepF f o x).1 (120 + 5 * o) = f (120 + 5 * o) ∧ (stepF f o x).1 (120 + 5 * o + 1) = f (120 + 5 * o + 1) := by
  unfold stepF at h ⊢
  cases hb : bridge f x with
  | false => exact ⟨rfl, rfl⟩
  | true =>
    cases hk : kills f x with
    | true =>
      rw [hb, hk] at h
      have h1 : upd (upd (crsF f x) (120 + 5 * o) (nI 1)) (120 + 5 * o + 1) (nI x) (120 + 5 * o) = 0 := of_decide_eq_true h
      rw [pk_un (by omega), pk_us] at h1
      exact absurd h1 (by decide)
    | false => exact ⟨(spr_at (by omega)).trans (crs_at (by omega)), (spr_at (by omega)).trans (crs_at (by omega))⟩
theorem Wf.step {f : FA} {o x : Nat} (h : Wf f) (hx : x < nR f) : Wf (stepF f o x).1 := by
  have hr := h.1.rb
  refine h.of Hd.step (fun o' ho' hl => ?_) (fun r hr' => ⟨step_at (by omega), step_at (by omega)⟩)
  by_cases e : o' = o
  · subst e; exact step_liv (by omega) hl
  · exact ⟨step_at (by omega), step_at (by omega)⟩
theorem isR_cl {f : FA} (h : Gn f) {x : Int32} (hx : isR f x = true) : x.toNatClampNeg < nR f ∧ x = nI x.toNatClampNeg := by
  obtain ⟨j, hj, rfl⟩ := (isR_iff h).mp hx
  have := h.rb
  rw [nI_clamp (by omega)]
  exact ⟨hj, rfl⟩
theorem Wf.gos {o s : Nat} : ∀ (w : Nat) (f : FA) (x : Nat), Wf f → Wf (goes o s w f x).1 := by
  intro w
  induction w with
  | zero => intro f x h; exact h
  | succ w ih =>
    intro f x h
    unfold goes
    by_cases c : (lives f o && isR f (sd s x)) = true
    · rw [if_pos c]
      rw [Bool.and_eq_true] at c
      exact ih _ _ (h.step (isR_cl h.1 c.2).1)
    · rw [if_neg c]; exact h
theorem Hd.outsq {o : Nat} {p : FA × List Nat} : Hd p.1 (outsS o p).1 := by
  unfold outsS
  cases lives p.1 o with
  | true => exact Hd.gos _ _ _
  | false => exact Hd.rf
theorem Wf.outsq {o : Nat} {p : FA × List Nat} (h : Wf p.1) : Wf (outsS o p).1 := by
  unfold outsS
  cases lives p.1 o with
  | true => exact Wf.gos _ _ _ h
  | false => exact h
theorem wf_outs {f : FA} (h : Wf f) : ∀ n, Hd f (itr outsS n (f, [])).1 ∧ Wf (itr outsS n (f, [])).1 := by
  intro n
  induction n with
  | zero => exact ⟨Hd.rf, h⟩
  | succ n ih => exact ⟨ih.1.tr Hd.outsq, ih.2.outsq⟩
theorem wash_at {f : FA} {r k : Nat} (h : k ≠ 12 + 9 * r + 2 ∧ k ≠ 10) : washF f r k = f k := (pk_un h.2).trans (pk_un h.1)
theorem Wf.wash {f : FA} {r : Nat} (h : Wf f) (hr : r < 12) : Wf (washF f r) := h.of Hd.wash (fun o _ _ => ⟨wash_at (by omega), wash_at (by omega)⟩) (fun r' _ => ⟨wash_at (by omega), wash_at (by omega)⟩)
theorem wf_washes {f : FA} (h : Wf f) : ∀ n, n ≤ nR f → Hd f (itr (fun r g => washF g r) n f) ∧ Wf (itr (fun r g => washF g r) n f) := by
  intro n
  have := h.1.rb
  induction n with
  | zero => intro _; exact ⟨Hd.rf, h⟩
  | succ n ih => intro hn; exact ⟨(ih (by omega)).1.tr Hd.wash, (ih (by omega)).2.wash (by omega)⟩
theorem nearB_lt {f : FA} {x many : Nat} : ∀ (n b : Nat), nearB f x many n = some b → b < n := by
  intro n
  induction n with
  | zero => intro b h; cases h
  | succ n ih =>
    intro b h
    unfold nearB at h
    by_cases c : mayB f many n = true
    · rw [if_pos c] at h
      cases hb : nearB f x many n with
      | none => rw [hb] at h; cases h; exact Nat.lt_succ_self n
      | some b' =>
        rw [hb] at h
        have hb' := ih b' hb
        by_cases d : dist n x < dist b' x
        · simp only [if_pos d] at h; cases h; exact Nat.lt_succ_self n
        · simp only [if_neg d] at h; cases h; omega
    · rw [if_neg c] at h
      have := ih b h
      omega
theorem refuge_lt {f : FA} {x b : Nat} (h : refuge f x = some b) : b < nR f := by
  unfold refuge at h
  cases h0 : near f x 0 with
  | none => rw [h0] at h; exact nearB_lt _ _ h
  | some b' => rw [h0] at h; cases h; exact nearB_lt _ _ h0
/-! an otter more -/
theorem com_at {f : FA} {x : Int32} {k : Nat} (h : k ≠ 1 ∧ (k < 120 + 5 * nO f ∨ 120 + 5 * nO f + 4 < k)) : comesF f x k = f k := by
  unfold comesF
  rw [pk_un h.1, pk_un (by omega), pk_un (by omega), pk_un (by omega), pk_un (by omega), pk_un (by omega)]
theorem com_0 {f : FA} {x : Int32} : comesF f x (120 + 5 * nO f) = if x = (-1) then nI 2 else nI 0 := by
  unfold comesF
  rw [pk_un (by omega), pk_un (by omega), pk_un (by omega), pk_un (by omega), pk_un (by omega), pk_us]
theorem com_1 {f : FA} {x : Int32} : comesF f x (120 + 5 * nO f + 1) = x := by
  unfold comesF
  rw [pk_un (by omega), pk_un (by omega), pk_un (by omega), pk_un (by omega), pk_us]
theorem com_n {f : FA} {x : Int32} : comesF f x 1 = nI (nO f + 1) := pk_us
theorem com_R {f : FA} {x : Int32} : nR (comesF f x) = nR f := by unfold nR; rw [com_at (by omega)]
theorem com_V {f : FA} {x : Int32} : nV (comesF f x) = nV f := by unfold nV; rw [com_at (by omega)]
theorem com_N {f : FA} {x : Int32} : nN (comesF f x) = nN f := by unfold nN; rw [com_at (by omega)]
theorem com_O {f : FA} {x : Int32} (h : nO f < 2 ^ 30) : nO (comesF f x) = nO f + 1 := by
  show (comesF f x 1).toNatClampNeg = _
  rw [com_n, nI_clamp (by omega)]
theorem Gn.com {f : FA} {x : Int32} (h : Gn f) (ho : nO f < 30) : Gn (comesF f x) := by
  unfold Gn
  rw [com_R, com_V, com_N, com_O (by omega), com_n, com_at (by omega), com_at (by omega), com_at (by omega)]
  exact ⟨h.r, h.rb, rfl, by omega, h.v, h.vb, h.n, h.nb⟩
theorem Wf.com {f : FA} {x : Int32} (h : Wf f) (ho : nO f < 30) (hx : x ≠ (-1) → ∃ j, j < nR f ∧ x = nI j) : Wf (comesF f x) := by
  have hr := h.1.rb
  refine ⟨h.1.com ho, fun o ho' hl => ?_, fun r hr' => ?_⟩
  · rw [com_O (by omega)] at ho'
    rw [com_R]
    by_cases e : o = nO f
    · subst e
      have h1 : comesF f x (120 + 5 * nO f) = 0 := of_decide_eq_true hl
      rw [com_0] at h1
      by_cases c : x = (-1)
      · rw [if_pos c] at h1; exact absurd h1 (by decide)
      · obtain ⟨j, hj, e⟩ := hx c
        exact ⟨j, hj, com_1.trans e⟩
    · have h1 : lives f o = true := by
        have h2 : comesF f x (120 + 5 * o) = 0 := of_decide_eq_true hl
        rw [com_at (by omega)] at h2
        exact decide_eq_true h2
      obtain ⟨j, hj, e⟩ := h.2.1 o (by omega) h1
      exact ⟨j, hj, (com_at (by omega)).trans e⟩
  · rw [com_R] at hr'
    obtain ⟨⟨c, hc, e⟩, c2, hc2, e2⟩ := h.2.2 r hr'
    exact ⟨⟨c, hc, (com_at (by omega)).trans e⟩, c2, hc2, (com_at (by omega)).trans e2⟩
theorem refuge_ok {f : FA} {r : Nat} : oI (refuge f r) ≠ (-1) → ∃ j, j < nR f ∧ oI (refuge f r) = nI j := by
  intro h
  cases e : refuge f r with
  | none => rw [e] at h; exact absurd rfl h
  | some b => exact ⟨b, refuge_lt e, rfl⟩
/-- as many reaches, volunteers, nights -/
def Hr (f g : FA) : Prop := nR g = nR f ∧ nV g = nV f ∧ nN g = nN f ∧ nO f ≤ nO g
theorem Hr.rf {f : FA} : Hr f f := ⟨rfl, rfl, rfl, Nat.le_refl _⟩
theorem Hr.tr {f g i : FA} (h1 : Hr f g) (h2 : Hr g i) : Hr f i := ⟨h2.1.trans h1.1, h2.2.1.trans h1.2.1, h2.2.2.1.trans h1.2.2.1, Nat.le_trans h1.2.2.2 h2.2.2.2⟩
theorem Hd.r {f g : FA} (h : Hd f g) : Hr f g := ⟨h.R, h.V, h.N, Nat.le_of_eq h.O.symm⟩
theorem Hr.growq {f : FA} {r : Nat} (h : Gn f) : Hr f (growS r f) := by
  unfold growS
  have := h.ob
  by_cases c : nO f = 30
  · rw [if_pos c]; exact (Hd.up (Or.inl (by omega))).r
  · rw [if_neg c]; exact ⟨com_R, com_V, com_N, by rw [com_O (by omega)]; omega⟩
theorem Wf.growq {f : FA} {r : Nat} (h : Wf f) : Wf (growS r f) := by
  unfold growS
  have := h.1.ob
  by_cases c : nO f = 30
  · rw [if_pos c]; exact h.of (Hd.up (Or.inl (by omega))) (fun o _ _ => ⟨pk_un (by omega), pk_un (by omega)⟩) (fun r _ => ⟨pk_un (by omega), pk_un (by omega)⟩)
  · rw [if_neg c]; exact h.com (by omega) refuge_ok
theorem wf_grow {f : FA} {r : Nat} (h : Wf f) : ∀ n, Hr f (itr (fun _ => growS r) n f) ∧ Wf (itr (fun _ => growS r) n f) := by
  intro n
  induction n with
  | zero => exact ⟨Hr.rf, h⟩
  | succ n ih => exact ⟨ih.1.tr (Hr.growq ih.2.1), ih.2.growq⟩
theorem Wf.cub {f : FA} {r : Nat} {x : Int32} (h : Wf f) (hr : r < 12) (hx : ∃ c, c ≤ 3 ∧ x = nI c) : Wf (upd f (12 + 9 * r + 6) x) := by
  refine ⟨(Hd.up (Or.inl (by omega))).G h.1, h.2.1.of (Hd.up (Or.inl (by omega))) (fun o _ _ => ⟨pk_un (by omega), pk_un (by omega)⟩), fun r' hr' => ?_⟩
  rw [(Hd.up (f := f) (k := 12 + 9 * r + 6) (x := x) (Or.inl (by omega))).R] at hr'
  obtain ⟨⟨c, hc, e2⟩, c2, hc2, e3⟩ := h.2.2 r' hr'
  refine ⟨?_, c2, hc2, (pk_un (by omega)).trans e3⟩
  by_cases e : r' = r
  · subst e
    obtain ⟨d, hd, ed⟩ := hx
    exact ⟨d, hd, pk_us.trans ed⟩
  · exact ⟨c, hc, (pk_un (by omega)).trans e2⟩
theorem Wf.up {f : FA} {k : Nat} {x : Int32} (h : Wf f) (hk : (5 < k ∨ k = 3 ∨ k = 4) ∧ k < 120 ∧ ∀ r, r < 12 → k ≠ 12 + 9 * r + 6 ∧ k ≠ 12 + 9 * r) : Wf (upd f k x) := by
  have := h.1.rb
  exact h.of (Hd.up hk.1) (fun o _ _ => ⟨pk_un (by omega), pk_un (by omega)⟩) (fun r hr => ⟨pk_un (fun e => (hk.2.2 r (by omega)).1 e.symm), pk_un (fun e => (hk.2.2 r (by omega)).2 e.symm)⟩)
theorem wf_growUp {f : FA} {r : Nat} (h : Wf f) (hr : r < 12) : Hr f (growUp f r) ∧ Wf (growUp f r) := by
  have h1 := wf_grow (r := r) (h.cub hr ⟨0, by omega, rfl⟩) (f (12 + 9 * r + 6)).toNatClampNeg
  exact ⟨(Hd.up (f := f) (k := 12 + 9 * r + 6) (x := nI 0) (Or.inl (by omega))).r.tr h1.1, h1.2⟩
theorem atHolt_lose {f : FA} {r : Nat} (h : 0 < f (12 + 9 * r + 6)) (h2 : otters f (nI r) = 0) : atHolt f r = (loseF f r, false) := by unfold atHolt; rw [if_pos h, if_pos h2]
theorem atHolt_grow {f : FA} {r : Nat} (h : 0 < f (12 + 9 * r + 6)) (h2 : ¬ otters f (nI r) = 0) (h3 : nI 200 ≤ nI (nN f) - f (12 + 9 * r + 7)) : atHolt f r = (growUp f r, false) := by unfold atHolt; rw [if_pos h, if_neg h2, if_pos h3]
theorem atHolt_wait {f : FA} {r : Nat} (h : 0 < f (12 + 9 * r + 6)) (h2 : ¬ otters f (nI r) = 0) (h3 : ¬ nI 200 ≤ nI (nN f) - f (12 + 9 * r + 7)) : atHolt f r = (f, false) := by unfold atHolt; rw [if_pos h, if_neg h2, if_neg h3]
theorem atHolt_born {f : FA} {r : Nat} (h : ¬ 0 < f (12 + 9 * r + 6)) (h2 : breeds f r = true) : atHolt f r = (bornF f r, true) := by unfold atHolt; rw [if_neg h, if_pos h2]
theorem atHolt_none {f : FA} {r : Nat} (h : ¬ 0 < f (12 + 9 * r + 6)) (h2 : breeds f r = false) : atHolt f r = (f, false) := by unfold atHolt; rw [if_neg h, if_neg (tf_ h2)]
theorem minI_3 {x : Int32} {n : Nat} (hx : x = nI n) (hn : n < 2 ^ 31) : ∃ c, c ≤ 3 ∧ minI (nI 3) x = nI c := by
  subst hx
  unfold minI
  by_cases h : nI n < nI 3
  · rw [if_pos h]; exact ⟨n, by have := (nI_ltI hn (by omega)).mp h; omega, rfl⟩
  · rw [if_neg h]; exact ⟨3, Nat.le_refl _, rfl⟩

theorem cov {f : FA} (h : Wf f) {r : Nat} (hr : r < nR f) : ∃ c, c ≤ 9 ∧ f (12 + 9 * r) = nI c := (h.2.2 r hr).2
theorem qual_n {f : FA} (h : Wf f) {r : Nat} (hr : r < nR f) : ∃ q, q ≤ 36 ∧ quality f r = nI q := by
  obtain ⟨c, hc, e⟩ := cov h hr
  have h1 : ∃ a, a ≤ 9 ∧ (if 0 < r then f (12 + 9 * (r - 1)) else nI 0) = nI a := by
    by_cases c0 : 0 < r
    · rw [if_pos c0]; exact cov h (by omega)
    · rw [if_neg c0]; exact ⟨0, by omega, rfl⟩
  have h2 : ∃ b, b ≤ 9 ∧ (if r < nR f - 1 then f (12 + 9 * (r + 1)) else nI 0) = nI b := by
    by_cases c0 : r < nR f - 1
    · rw [if_pos c0]; exact cov h (by omega)
    · rw [if_neg c0]; exact ⟨0, by omega, rfl⟩
  obtain ⟨a, ha, ea⟩ := h1
  obtain ⟨b, hb, eb⟩ := h2
  refine ⟨2 * c + a + b, by omega, ?_⟩
  unfold quality
  rw [ea, eb, e, pk_mul, nI_add, nI_add]
theorem Wf.born {f : FA} {r : Nat} (h : Wf f) (hr : r < nR f) : Wf (bornF f r) := by
  have hb := h.1.rb
  obtain ⟨q, hq, e⟩ := qual_n h hr
  have h3 : ∃ c, c ≤ 3 ∧ minI (nI 3) (nI 1 + quality f r / nI 12) = nI c := by
    rw [e, pk_div (by omega) (by omega) (by omega), nI_add]
    exact minI_3 rfl (by omega)
  exact (((h.cub (by omega) h3).up ⟨Or.inl (by omega), by omega, fun r' _ => by omega⟩).up ⟨Or.inl (by omega), by omega, fun r' _ => by omega⟩).up ⟨Or.inl (by omega), by omega, fun r' _ => by omega⟩
theorem Hd.born {f : FA} {r : Nat} : Hd f (bornF f r) := (((Hd.up (Or.inl (by omega))).tr (Hd.up (Or.inl (by omega)))).tr (Hd.up (Or.inl (by omega)))).tr (Hd.up (Or.inl (by omega)))
theorem Wf.lose {f : FA} {r : Nat} (h : Wf f) (hr : r < nR f) : Wf (loseF f r) := by
  have hb := h.1.rb
  exact (h.up ⟨Or.inl (by omega), by omega, fun r' _ => by omega⟩).cub (by omega) ⟨0, by omega, rfl⟩
theorem Hd.lose {f : FA} {r : Nat} : Hd f (loseF f r) := (Hd.up (Or.inl (by omega))).tr (Hd.up (Or.inl (by omega)))
theorem wf_atHolt {f : FA} {r : Nat} (h : Wf f) (hr : r < nR f) : Hr f (atHolt f r).1 ∧ Wf (atHolt f r).1 := by
  have hb := h.1.rb
  unfold atHolt
  by_cases c : 0 < f (12 + 9 * r + 6)
  · rw [if_pos c]
    by_cases c2 : otters f (nI r) = 0
    · rw [if_pos c2]; exact ⟨Hd.lose.r, h.lose hr⟩
    · rw [if_neg c2]
      by_cases c3 : nI 200 ≤ nI (nN f) - f (12 + 9 * r + 7)
      · rw [if_pos c3]; exact wf_growUp h (by omega)
      · rw [if_neg c3]; exact ⟨Hr.rf, h⟩
  · rw [if_neg c]
    cases breeds f r with
    | true => exact ⟨Hd.born.r, h.born hr⟩
    | false => exact ⟨Hr.rf, h⟩
theorem wf_holtsS {p : FA × List Nat} {r : Nat} (h : Wf p.1) (hr : r < nR p.1) : Hr p.1 (holtsS r p).1 ∧ Wf (holtsS r p).1 := by
  unfold holtsS
  cases holt p.1 r with
  | true => exact wf_atHolt h hr
  | false => exact ⟨Hr.rf, h⟩
theorem wf_holts {f : FA} (h : Wf f) : ∀ n, n ≤ nR f → Hr f (itr holtsS n (f, [])).1 ∧ Wf (itr holtsS n (f, [])).1 := by
  intro n
  induction n with
  | zero => intro _; exact ⟨Hr.rf, h⟩
  | succ n ih =>
    intro hn
    have h1 := ih (by omega)
    have h2 := wf_holtsS h1.2 (r := n) (by rw [h1.1.1]; omega)
    exact ⟨h1.1.tr h2.1, h2.2⟩
/-- a night counted -/
theorem Wf.day {f : FA} (h : Wf f) (hn : nN f + 1 < 2 ^ 28) : Wf (upd f 5 (nI (nN f + 1))) := by
  have e0 : ∀ k, k ≠ 5 → upd f 5 (nI (nN f + 1)) k = f k := fun k hk => pk_un hk
  have eR : nR (upd f 5 (nI (nN f + 1))) = nR f := by unfold nR; rw [e0 0 (by omega)]
  have eO : nO (upd f 5 (nI (nN f + 1))) = nO f := by unfold nO; rw [e0 1 (by omega)]
  have eV : nV (upd f 5 (nI (nN f + 1))) = nV f := by unfold nV; rw [e0 2 (by omega)]
  have eN : nN (upd f 5 (nI (nN f + 1))) = nN f + 1 := by unfold nN; rw [pk_us, nI_clamp (show (f 5).toNatClampNeg + 1 < 2 ^ 31 from Nat.lt_trans hn (by omega))]
  refine ⟨?_, fun o ho hl => ?_, fun r hr => ?_⟩
  · unfold Gn
    rw [eR, eO, eV, eN, e0 0 (by omega), e0 1 (by omega), e0 2 (by omega), pk_us]
    exact ⟨h.1.r, h.1.rb, h.1.o, h.1.ob, h.1.v, h.1.vb, rfl, hn⟩
  · rw [eO] at ho
    rw [eR, e0 _ (by omega)]
    refine h.2.1 o ho ?_
    unfold lives at hl ⊢
    rw [e0 _ (by omega)] at hl
    exact hl
  · rw [eR] at hr
    rw [e0 _ (by omega), e0 _ (by omega)]
    exact h.2.2 r hr
theorem day_N {f : FA} (hn : nN f + 1 < 2 ^ 28) : nN (upd f 5 (nI (nN f + 1))) = nN f + 1 := by unfold nN; rw [pk_us, nI_clamp (show (f 5).toNatClampNeg + 1 < 2 ^ 31 from Nat.lt_trans hn (by omega))]
theorem day_R {f : FA} {x : Int32} : nR (upd f 5 x) = nR f := by unfold nR; rw [pk_un (by omega)]
theorem day_O {f : FA} {x : Int32} : nO (upd f 5 x) = nO f := by unfold nO; rw [pk_un (by omega)]
theorem day_V {f : FA} {x : Int32} : nV (upd f 5 x) = nV f := by unfold nV; rw [pk_un (by omega)]
theorem wf_nightA {f : FA} (h : Wf f) (hn : nN f + 1 < 2 ^ 28) : Hd (upd f 5 (nI (nN f + 1))) (nightA f).1 ∧ Wf (nightA f).1 := wf_outs (h.day hn) _
theorem wf_nightB {f : FA} (h : Wf f) (hn : nN f + 1 < 2 ^ 28) : Hd (upd f 5 (nI (nN f + 1))) (nightB f) ∧ Wf (nightB f) := by
  have h1 := wf_nightA h hn
  unfold nightB
  by_cases c : nI 7 ≤ (nightA f).1 3
  · rw [if_pos c]
    have h2 := wf_washes h1.2 _ (Nat.le_refl _)
    exact ⟨h1.1.tr h2.1, h2.2⟩
  · rw [if_neg c]; exact h1
theorem wf_night {f : FA} (h : Wf f) (hn : nN f + 1 < 2 ^ 28) : Wf (night f) ∧ nR (night f) = nR f ∧ nV (night f) = nV f ∧ nN (night f) = nN f + 1 ∧ nO f ≤ nO (night f) := by
  have h1 := wf_nightB h hn
  have h2 := wf_holts h1.2 _ (Nat.le_refl _)
  refine ⟨h2.2, h2.1.1.trans (h1.1.R.trans day_R), h2.1.2.1.trans (h1.1.V.trans day_V), h2.1.2.2.1.trans (h1.1.N.trans (day_N hn)), ?_⟩
  have h3 := h2.1.2.2.2
  rw [h1.1.O, day_O] at h3
  exact h3
theorem wf_nights {f : FA} (h : Wf f) : ∀ n, nN f + n < 2 ^ 28 → Wf (nights n f) ∧ nR (nights n f) = nR f ∧ nV (nights n f) = nV f ∧ nN (nights n f) = nN f + n ∧ nO f ≤ nO (nights n f) := by
  intro n
  induction n with
  | zero => intro _; exact ⟨h, rfl, rfl, rfl, Nat.le_refl _⟩
  | succ n ih =>
    intro hn
    obtain ⟨h1, h2, h3, h4, h5⟩ := ih (by omega)
    obtain ⟨g1, g2, g3, g4, g5⟩ := wf_night h1 (by omega)
    exact ⟨g1, g2.trans h2, g3.trans h3, by show nN (night (nights n f)) = _; omega, Nat.le_trans h5 g5⟩
theorem OUT_cases (o : OUT) : (∃ x, o = .inl x) ∨ ∃ y, o = .inr y := by
  cases o with
  | inl x => exact Or.inl ⟨x, rfl⟩
  | inr y => exact Or.inr ⟨y, rfl⟩
theorem otters_b {f : FA} (h : Gn f) (x : Int32) : otters f x ≤ 30 := Nat.le_trans (ct_le _ _) h.ob
theorem inState_b {f : FA} (h : Gn f) (x : Int32) : inState f x ≤ 30 := Nat.le_trans (ct_le _ _) h.ob
