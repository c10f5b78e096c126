/-! the twin: what it reads -/
set_option maxHeartbeats 4000000 in
set_option maxRecDepth 100000 in
theorem t3_in {l : Launch} {G : GT} {bb : Nat} {s0 : State} (E0 : EN l G bb s0) (h : HF) (x a b : Int32) : HM l G s0 yX3_in [Cond.code yX3_in cX3_in 6 (some .boolean)] { frames := 0, cells := 0, slots := 0, locals := 0 } [.long x.toInt64, .long a.toInt64, .long b.toInt64] h (fun v h9 => v = some (.int (bI (t_in x a b))) ∧ h = h9) nox 0 0 := by
  refine HM.of (cc := cX3_in) (nL := 6) (own := RX3) (nm := "in") (lv := [(0, .long x.toInt64), (2, .long a.toInt64), (4, .long b.toInt64)]) (by decide) rfl rfl E0 (Nat.le_of_ble_eq_true rfl) rfl (fun p e s m args below meth c X => ?_)
  refine v_lload_n X dX3_in_0 rfl ?_
  refine v_lload_n X dX3_in_1 rfl ?_
  refine v_lcmp X dX3_in_2 ?_
  refine v_if_lt (tgt := 17) X dX3_in_3 (by decide) (fun c3 => ?_) (fun c3 => ?_)
  · refine v_iconst (v := nI 0) X dX3_in_17 rfl ?_
    exact v_iret (x := nI 0) X dX3_in_18 rfl rfl (Nat.le_refl _) (Nat.le_refl _) ⟨bf (t_in_f1 c3), rfl⟩
  · refine v_lload_n X dX3_in_6 rfl ?_
    refine v_lload X dX3_in_7 rfl ?_
    refine v_lcmp X dX3_in_9 ?_
    refine v_if_gt (tgt := 17) X dX3_in_10 (by decide) (fun c10 => ?_) (fun c10 => ?_)
    · refine v_iconst (v := nI 0) X dX3_in_17 rfl ?_
      exact v_iret (x := nI 0) X dX3_in_18 rfl rfl (Nat.le_refl _) (Nat.le_refl _) ⟨bf (t_in_f2 c3 c10), rfl⟩
    · refine v_iconst (v := nI 1) X dX3_in_13 rfl ?_
      refine v_goto (tgt := 18) X dX3_in_14 (by decide) ?_
      exact v_iret (x := nI 1) X dX3_in_18 rfl rfl (Nat.le_refl _) (Nat.le_refl _) ⟨bt (t_in_t c3 c10), rfl⟩

set_option maxHeartbeats 4000000 in
set_option maxRecDepth 100000 in
theorem t3_at {l : Launch} {G : GT} {bb : Nat} {s0 : State} (E0 : EN l G bb s0) (h : HF) (j : Nat) : HM l G s0 yX3_at [Cond.code yX3_at cX3_at 1 (some .int)] { frames := 0, cells := 0, slots := 0, locals := 0 } [.int (nI j)] h (fun v h9 => v = some (.int (nI (12 + 9 * j))) ∧ h = h9) nox 0 0 := by
  refine HM.of (cc := cX3_at) (nL := 1) (own := RX3) (nm := "at") (lv := [(0, .int (nI j))]) (by decide) rfl rfl E0 (Nat.le_of_ble_eq_true rfl) rfl (fun p e s m args below meth c X => ?_)
  refine v_bipush (v := nI 12) X dX3_at_0 rfl ?_
  refine v_bipush (v := nI 9) X dX3_at_2 rfl ?_
  refine v_iload_n X dX3_at_4 rfl ?_
  refine v_imulN (a := 9) (b := j) X dX3_at_5 rfl rfl ?_
  refine v_iaddN (a := 12) (b := 9 * j) X dX3_at_6 rfl rfl ?_
  exact v_iret (x := nI (12 + 9 * j)) X dX3_at_7 rfl rfl (Nat.le_refl _) (Nat.le_refl _) ⟨rfl, rfl⟩

set_option maxHeartbeats 4000000 in
set_option maxRecDepth 100000 in
theorem t3_of {l : Launch} {G : GT} {bb : Nat} {s0 : State} (E0 : EN l G bb s0) (h : HF) (j : Nat) : HM l G s0 yX3_of [Cond.code yX3_of cX3_of 1 (some .int)] { frames := 0, cells := 0, slots := 0, locals := 0 } [.int (nI j)] h (fun v h9 => v = some (.int (nI (120 + 5 * j))) ∧ h = h9) nox 0 0 := by
  refine HM.of (cc := cX3_of) (nL := 1) (own := RX3) (nm := "of") (lv := [(0, .int (nI j))]) (by decide) rfl rfl E0 (Nat.le_of_ble_eq_true rfl) rfl (fun p e s m args below meth c X => ?_)
  refine v_bipush (v := nI 120) X dX3_of_0 rfl ?_
  refine v_iconst (v := nI 5) X dX3_of_2 rfl ?_
  refine v_iload_n X dX3_of_3 rfl ?_
  refine v_imulN (a := 5) (b := j) X dX3_of_4 rfl rfl ?_
  refine v_iaddN (a := 120) (b := 5 * j) X dX3_of_5 rfl rfl ?_
  exact v_iret (x := nI (120 + 5 * j)) X dX3_of_6 rfl rfl (Nat.le_refl _) (Nat.le_refl _) ⟨rfl, rfl⟩

set_option maxHeartbeats 4000000 in
set_option maxRecDepth 100000 in
theorem t3_by {l : Launch} {G : GT} {bb : Nat} {s0 : State} (E0 : EN l G bb s0) (h : HF) (j : Nat) : HM l G s0 yX3_by [Cond.code yX3_by cX3_by 1 (some .int)] { frames := 0, cells := 0, slots := 0, locals := 0 } [.int (nI j)] h (fun v h9 => v = some (.int (nI (270 + 5 * j))) ∧ h = h9) nox 0 0 := by
  refine HM.of (cc := cX3_by) (nL := 1) (own := RX3) (nm := "by") (lv := [(0, .int (nI j))]) (by decide) rfl rfl E0 (Nat.le_of_ble_eq_true rfl) rfl (fun p e s m args below meth c X => ?_)
  refine v_sipush (v := nI 270) X dX3_by_0 rfl ?_
  refine v_iconst (v := nI 5) X dX3_by_3 rfl ?_
  refine v_iload_n X dX3_by_4 rfl ?_
  refine v_imulN (a := 5) (b := j) X dX3_by_5 rfl rfl ?_
  refine v_iaddN (a := 270) (b := 5 * j) X dX3_by_6 rfl rfl ?_
  exact v_iret (x := nI (270 + 5 * j)) X dX3_by_7 rfl rfl (Nat.le_refl _) (Nat.le_refl _) ⟨rfl, rfl⟩

set_option maxHeartbeats 4000000 in
set_option maxRecDepth 100000 in
theorem t3_thrown {l : Launch} {G : GT} {bb : Nat} {s0 : State} (E0 : EN l G bb s0) (h : HF) {hx : HF} {M : Nat} {ad : Nat → Nat} {w4 w6 w7 w8 w9 w10 w11 w13 w19 w20 w21 w22 w24 : Int32} {m0 m1 m2 m3 m5 m12 m14 m15 m16 m17 m18 m23 : FA} (hT : TW G hx h M ad w4 w6 w7 w8 w9 w10 w11 w13 w19 w20 w21 w22 w24 m0 m1 m2 m3 m5 m12 m14 m15 m16 m17 m18 m23)  : HM l G s0 yX3_thrown [Cond.code yX3_thrown cX3_thrown 1 (some .int)] { frames := 0, cells := 0, slots := 0, locals := 0 } [.ref M] h (fun v h9 => v = some (.int w7) ∧ h = h9) nox 0 0 := by
  refine HM.of (cc := cX3_thrown) (nL := 1) (own := RX3) (nm := "thrown") (lv := [(0, .ref M)]) (by decide) rfl rfl E0 (Nat.le_of_ble_eq_true rfl) rfl (fun p e s m args below meth c X => ?_)
  refine v_aload_n X dX3_thrown_0 rfl ?_
  refine v_get (v := .int w7) X dX3_thrown_1 fr_X3_52 hT.o rfl ?_
  exact v_iret (x := w7) X dX3_thrown_4 rfl rfl (Nat.le_refl _) (Nat.le_refl _) ⟨rfl, rfl⟩

set_option maxHeartbeats 4000000 in
set_option maxRecDepth 100000 in
theorem t3_isReach {l : Launch} {G : GT} {bb : Nat} {s0 : State} (E0 : EN l G bb s0) (h : HF) {hx : HF} {M : Nat} {ad : Nat → Nat} {w4 w6 w7 w8 w9 w10 w11 w13 w19 w20 w21 w22 w24 : Int32} {m0 m1 m2 m3 m5 m12 m14 m15 m16 m17 m18 m23 : FA} (hT : TW G hx h M ad w4 w6 w7 w8 w9 w10 w11 w13 w19 w20 w21 w22 w24 m0 m1 m2 m3 m5 m12 m14 m15 m16 m17 m18 m23) (hg : Gn (m0)) (x : Int32) : HM l G s0 yX3_isReach [Cond.code yX3_isReach cX3_isReach 2 (some .boolean)] { frames := 1, cells := 0, slots := 0, locals := 25 } [.ref M, .int x] h (fun v h9 => v = some (.int (bI (isR (m0) x))) ∧ h = h9) nox 0 0 := by
  refine HM.of (cc := cX3_isReach) (nL := 2) (own := RX3) (nm := "isReach") (lv := [(0, .ref M), (1, .int x)]) (by decide) rfl rfl E0 (Nat.le_of_ble_eq_true rfl) rfl (fun p e s m args below meth c X => ?_)
  have hgr := hg.rb
  have hgo := hg.ob
  have hgv := hg.vb
  have hgn := hg.nb
  refine v_iload_n X dX3_isReach_0 rfl ?_
  refine v_i2l (v := x.toInt64) X dX3_isReach_1 rfl ?_
  refine v_lconst (v := (nI 0).toInt64) X dX3_isReach_2 (by decide) ?_
  refine v_aload_n X dX3_isReach_3 rfl ?_
  refine v_get (v := .ref (ad 0)) X dX3_isReach_4 fr_X3_9 hT.o rfl ?_
  refine v_iconst (v := nI 0) X dX3_isReach_7 rfl ?_
  refine v_iald (f := m0) (j := 0) X dX3_isReach_8 hT.a0 rfl (by omega) (by decide) ?_
  refine v_eqi hg.r ?_
  refine v_iconst (v := nI 1) X dX3_isReach_9 rfl ?_
  refine v_isub X dX3_isReach_10 ?_
  refine v_i2l (v := ((nI (nR (m0))) - (nI 1)).toInt64) X dX3_isReach_11 rfl ?_
  refine v_callS (st := []) X dX3_isReach_12 (t3_in E0 h x (nI 0) ((nI (nR (m0))) - (nI 1))) mr_X3_71 rfl rfl (Nat.le_of_ble_eq_true rfl) ⟨rfl, rfl⟩ ⟨Nat.le_of_ble_eq_true rfl, Nat.le_of_ble_eq_true rfl⟩ ⟨Nat.le_refl _, Nat.le_refl _⟩ (fun _ _ _ hx => v_nox hx) (fun v9 h9 hp => ?_)
  obtain ⟨rfl, rfl⟩ := hp
  exact v_iret (x := bI (t_in x (nI 0) ((nI (nR (m0))) - (nI 1)))) X dX3_isReach_15 rfl (bI_nar _) (Nat.le_refl _) (Nat.le_refl _) ⟨rfl, rfl⟩

set_option maxHeartbeats 4000000 in
set_option maxRecDepth 100000 in
theorem t3_isOtter {l : Launch} {G : GT} {bb : Nat} {s0 : State} (E0 : EN l G bb s0) (h : HF) {hx : HF} {M : Nat} {ad : Nat → Nat} {w4 w6 w7 w8 w9 w10 w11 w13 w19 w20 w21 w22 w24 : Int32} {m0 m1 m2 m3 m5 m12 m14 m15 m16 m17 m18 m23 : FA} (hT : TW G hx h M ad w4 w6 w7 w8 w9 w10 w11 w13 w19 w20 w21 w22 w24 m0 m1 m2 m3 m5 m12 m14 m15 m16 m17 m18 m23) (hg : Gn (m0)) (x : Int32) : HM l G s0 yX3_isOtter [Cond.code yX3_isOtter cX3_isOtter 2 (some .boolean)] { frames := 1, cells := 0, slots := 0, locals := 25 } [.ref M, .int x] h (fun v h9 => v = some (.int (bI (isO (m0) x))) ∧ h = h9) nox 0 0 := by
  refine HM.of (cc := cX3_isOtter) (nL := 2) (own := RX3) (nm := "isOtter") (lv := [(0, .ref M), (1, .int x)]) (by decide) rfl rfl E0 (Nat.le_of_ble_eq_true rfl) rfl (fun p e s m args below meth c X => ?_)
  have hgr := hg.rb
  have hgo := hg.ob
  have hgv := hg.vb
  have hgn := hg.nb
  refine v_iload_n X dX3_isOtter_0 rfl ?_
  refine v_i2l (v := x.toInt64) X dX3_isOtter_1 rfl ?_
  refine v_lconst (v := (nI 0).toInt64) X dX3_isOtter_2 (by decide) ?_
  refine v_aload_n X dX3_isOtter_3 rfl ?_
  refine v_get (v := .ref (ad 0)) X dX3_isOtter_4 fr_X3_9 hT.o rfl ?_
  refine v_iconst (v := nI 1) X dX3_isOtter_7 rfl ?_
  refine v_iald (f := m0) (j := 1) X dX3_isOtter_8 hT.a0 rfl (by omega) (by decide) ?_
  refine v_eqi hg.o ?_
  refine v_iconst (v := nI 1) X dX3_isOtter_9 rfl ?_
  refine v_isub X dX3_isOtter_10 ?_
  refine v_i2l (v := ((nI (nO (m0))) - (nI 1)).toInt64) X dX3_isOtter_11 rfl ?_
  refine v_callS (st := []) X dX3_isOtter_12 (t3_in E0 h x (nI 0) ((nI (nO (m0))) - (nI 1))) mr_X3_71 rfl rfl (Nat.le_of_ble_eq_true rfl) ⟨rfl, rfl⟩ ⟨Nat.le_of_ble_eq_true rfl, Nat.le_of_ble_eq_true rfl⟩ ⟨Nat.le_refl _, Nat.le_refl _⟩ (fun _ _ _ hx => v_nox hx) (fun v9 h9 hp => ?_)
  obtain ⟨rfl, rfl⟩ := hp
  exact v_iret (x := bI (t_in x (nI 0) ((nI (nO (m0))) - (nI 1)))) X dX3_isOtter_15 rfl (bI_nar _) (Nat.le_refl _) (Nat.le_refl _) ⟨rfl, rfl⟩

set_option maxHeartbeats 4000000 in
set_option maxRecDepth 100000 in
theorem t3_lives {l : Launch} {G : GT} {bb : Nat} {s0 : State} (E0 : EN l G bb s0) (h : HF) {hx : HF} {M : Nat} {ad : Nat → Nat} {w4 w6 w7 w8 w9 w10 w11 w13 w19 w20 w21 w22 w24 : Int32} {m0 m1 m2 m3 m5 m12 m14 m15 m16 m17 m18 m23 : FA} (hT : TW G hx h M ad w4 w6 w7 w8 w9 w10 w11 w13 w19 w20 w21 w22 w24 m0 m1 m2 m3 m5 m12 m14 m15 m16 m17 m18 m23) (o : Nat) (ho : o < 35) : HM l G s0 yX3_lives [Cond.code yX3_lives cX3_lives 2 (some .boolean)] { frames := 1, cells := 0, slots := 0, locals := 20 } [.ref M, .int (nI o)] h (fun v h9 => v = some (.int (bI (lives (m0) o))) ∧ h = h9) nox 0 0 := by
  refine HM.of (cc := cX3_lives) (nL := 2) (own := RX3) (nm := "lives") (lv := [(0, .ref M), (1, .int (nI o))]) (by decide) rfl rfl E0 (Nat.le_of_ble_eq_true rfl) rfl (fun p e s m args below meth c X => ?_)
  refine v_aload_n X dX3_lives_0 rfl ?_
  refine v_get (v := .ref (ad 0)) X dX3_lives_1 fr_X3_9 hT.o rfl ?_
  refine v_iload_n X dX3_lives_4 rfl ?_
  refine v_callS (st := [.ref (ad 0)]) X dX3_lives_5 (t3_of E0 h o) mr_X3_75 rfl rfl (Nat.le_of_ble_eq_true rfl) ⟨rfl, rfl⟩ ⟨Nat.le_of_ble_eq_true rfl, Nat.le_of_ble_eq_true rfl⟩ ⟨Nat.le_refl _, Nat.le_refl _⟩ (fun _ _ _ hx => v_nox hx) (fun v9 h9 hp => ?_)
  obtain ⟨rfl, rfl⟩ := hp
  refine v_iconst (v := nI 0) X dX3_lives_8 rfl ?_
  refine v_iaddN (a := 120 + 5 * o) (b := 0) X dX3_lives_9 rfl rfl ?_
  refine v_iald (f := m0) (j := 120 + 5 * o) X dX3_lives_10 hT.a0 rfl (by omega) (by decide) ?_
  refine v_if_ne (tgt := 18) X dX3_lives_11 (by decide) (fun c11 => ?_) (fun c11 => ?_)
  · refine v_iconst (v := nI 0) X dX3_lives_18 rfl ?_
    exact v_iret (x := nI 0) X dX3_lives_19 rfl rfl (Nat.le_refl _) (Nat.le_refl _) ⟨bf (decide_eq_false c11), rfl⟩
  · refine v_iconst (v := nI 1) X dX3_lives_14 rfl ?_
    refine v_goto (tgt := 19) X dX3_lives_15 (by decide) ?_
    exact v_iret (x := nI 1) X dX3_lives_19 rfl rfl (Nat.le_refl _) (Nat.le_refl _) ⟨bt (decide_eq_true c11), rfl⟩

set_option maxHeartbeats 4000000 in
set_option maxRecDepth 100000 in
theorem t3_livesAt {l : Launch} {G : GT} {bb : Nat} {s0 : State} (E0 : EN l G bb s0) (h : HF) {hx : HF} {M : Nat} {ad : Nat → Nat} {w4 w6 w7 w8 w9 w10 w11 w13 w19 w20 w21 w22 w24 : Int32} {m0 m1 m2 m3 m5 m12 m14 m15 m16 m17 m18 m23 : FA} (hT : TW G hx h M ad w4 w6 w7 w8 w9 w10 w11 w13 w19 w20 w21 w22 w24 m0 m1 m2 m3 m5 m12 m14 m15 m16 m17 m18 m23) (o : Nat) (ho : o < 35) (x : Int32) : HM l G s0 yX3_livesAt [Cond.code yX3_livesAt cX3_livesAt 3 (some .boolean)] { frames := 2, cells := 0, slots := 0, locals := 41 } [.ref M, .int (nI o), .int x] h (fun v h9 => v = some (.int (bI (livesAt (m0) o x))) ∧ h = h9) nox 0 0 := by
  refine HM.of (cc := cX3_livesAt) (nL := 3) (own := RX3) (nm := "livesAt") (lv := [(0, .ref M), (1, .int (nI o)), (2, .int x)]) (by decide) rfl rfl E0 (Nat.le_of_ble_eq_true rfl) rfl (fun p e s m args below meth c X => ?_)
  refine v_aload_n X dX3_livesAt_0 rfl ?_
  refine v_iload_n X dX3_livesAt_1 rfl ?_
  refine v_callV (st := []) X dX3_livesAt_2 (t3_lives E0 h hT o (by omega)) mr_X3_78 hT.o rfl rfl rfl (Nat.le_of_ble_eq_true rfl) ⟨rfl, rfl⟩ ⟨Nat.le_of_ble_eq_true rfl, Nat.le_of_ble_eq_true rfl⟩ ⟨Nat.le_refl _, Nat.le_refl _⟩ (fun _ _ _ hx => v_nox hx) (fun v9 h9 hp => ?_)
  obtain ⟨rfl, rfl⟩ := hp
  refine v_if_eqB (tgt := 27) (b := (lives m0 o)) X dX3_livesAt_5 (by decide) rfl (fun c5 => ?_) (fun c5 => ?_)
  · refine v_iconst (v := nI 0) X dX3_livesAt_27 rfl ?_
    exact v_iret (x := nI 0) X dX3_livesAt_28 rfl rfl (Nat.le_refl _) (Nat.le_refl _) ⟨bf (andb_1 c5), rfl⟩
  · refine v_aload_n X dX3_livesAt_8 rfl ?_
    refine v_get (v := .ref (ad 0)) X dX3_livesAt_9 fr_X3_9 hT.o rfl ?_
    refine v_iload_n X dX3_livesAt_12 rfl ?_
    refine v_callS (st := [.ref (ad 0)]) X dX3_livesAt_13 (t3_of E0 h o) mr_X3_75 rfl rfl (Nat.le_of_ble_eq_true rfl) ⟨rfl, rfl⟩ ⟨Nat.le_of_ble_eq_true rfl, Nat.le_of_ble_eq_true rfl⟩ ⟨Nat.le_refl _, Nat.le_refl _⟩ (fun _ _ _ hx => v_nox hx) (fun v9 h9 hp => ?_)
    obtain ⟨rfl, rfl⟩ := hp
    refine v_iconst (v := nI 1) X dX3_livesAt_16 rfl ?_
    refine v_iaddN (a := 120 + 5 * o) (b := 1) X dX3_livesAt_17 rfl rfl ?_
    refine v_iald (f := m0) (j := 120 + 5 * o + 1) X dX3_livesAt_18 hT.a0 rfl (by omega) (by decide) ?_
    refine v_iload_n X dX3_livesAt_19 rfl ?_
    refine v_icmp_ne (tgt := 27) X dX3_livesAt_20 (by decide) (fun c20 => ?_) (fun c20 => ?_)
    · refine v_iconst (v := nI 0) X dX3_livesAt_27 rfl ?_
      exact v_iret (x := nI 0) X dX3_livesAt_28 rfl rfl (Nat.le_refl _) (Nat.le_refl _) ⟨bf (andb_2 (decide_eq_false c20)), rfl⟩
    · refine v_iconst (v := nI 1) X dX3_livesAt_23 rfl ?_
      refine v_goto (tgt := 28) X dX3_livesAt_24 (by decide) ?_
      exact v_iret (x := nI 1) X dX3_livesAt_28 rfl rfl (Nat.le_refl _) (Nat.le_refl _) ⟨bt (andb_t c5 (decide_eq_true c20)), rfl⟩

set_option maxHeartbeats 4000000 in
set_option maxRecDepth 100000 in
theorem t3_otters {l : Launch} {G : GT} {bb : Nat} {s0 : State} (E0 : EN l G bb s0) (h : HF) {hx : HF} {M : Nat} {ad : Nat → Nat} {w4 w6 w7 w8 w9 w10 w11 w13 w19 w20 w21 w22 w24 : Int32} {m0 m1 m2 m3 m5 m12 m14 m15 m16 m17 m18 m23 : FA} (hT : TW G hx h M ad w4 w6 w7 w8 w9 w10 w11 w13 w19 w20 w21 w22 w24 m0 m1 m2 m3 m5 m12 m14 m15 m16 m17 m18 m23) (hg : Gn (m0)) (x : Int32) : HM l G s0 yX3_otters [Cond.code yX3_otters cX3_otters 4 (some .int)] { frames := 3, cells := 0, slots := 0, locals := 63 } [.ref M, .int x] h (fun v h9 => v = some (.int (nI (otters (m0) x))) ∧ h = h9) nox 0 0 := by
  refine HM.of (cc := cX3_otters) (nL := 4) (own := RX3) (nm := "otters") (lv := [(0, .ref M), (1, .int x)]) (by decide) rfl rfl E0 (Nat.le_of_ble_eq_true rfl) rfl (fun p e s m args below meth c X => ?_)
  have hgr := hg.rb
  have hgo := hg.ob
  have hgv := hg.vb
  have hgn := hg.nb
  refine v_iconst (v := nI 0) X dX3_otters_0 rfl ?_
  refine v_istore_n (lv' := [(2, .int (nI 0)), (0, .ref M), (1, .int x)]) X dX3_otters_1 (by decide) rfl ?_
  refine v_iconst (v := nI 0) X dX3_otters_2 rfl ?_
  refine v_istore_n (lv' := [(3, .int (nI 0)), (2, .int (nI 0)), (0, .ref M), (1, .int x)]) X dX3_otters_3 (by decide) rfl ?_
  have L4 : ∀ (N4 : Nat) (j : Nat) (a : Nat) (hm4 : nO (m0) - j < N4) (hj : j ≤ nO (m0)) (ha : a = ct (fun o => livesAt (m0) o x) j), V p l e { frames := 3, cells := 0, slots := 0, locals := 63 } s m args below meth c (VQ below args s G s0 (fun v h9 => v = some (.int (nI (otters (m0) x))) ∧ h = h9) nox 0 0) G s0.heap.size 4 4 [(3, .int (nI j)), (2, .int (nI a)), (0, .ref M), (1, .int x)] [] h 0 0 := by
    intro N4
    induction N4 with
    | zero =>
      intro j a hm4
      exact absurd hm4 (Nat.not_lt_zero _)
    | succ N4 ih4 =>
      intro j a hm4 hj ha
      refine v_iload_n X dX3_otters_4 rfl ?_
      refine v_aload_n X dX3_otters_5 rfl ?_
      refine v_get (v := .ref (ad 0)) X dX3_otters_6 fr_X3_9 hT.o rfl ?_
      refine v_iconst (v := nI 1) X dX3_otters_9 rfl ?_
      refine v_iald (f := m0) (j := 1) X dX3_otters_10 hT.a0 rfl (by omega) (by decide) ?_
      refine v_eqi hg.o ?_
      refine v_icmp_geN (tgt := 37) (a := j) (b := nO (m0)) X dX3_otters_11 (by decide) rfl rfl (by omega) (by omega) (fun c11 => ?_) (fun c11 => ?_)
      · refine v_iload_n X dX3_otters_37 rfl ?_
        exact v_iret (x := nI a) X dX3_otters_38 rfl rfl (Nat.le_refl _) (Nat.le_refl _) ⟨by rw [ha, show j = nO (m0) by omega]; rfl, rfl⟩
      · refine v_iload_n X dX3_otters_14 rfl ?_
        refine v_aload_n X dX3_otters_15 rfl ?_
        refine v_iload_n X dX3_otters_16 rfl ?_
        refine v_iload_n X dX3_otters_17 rfl ?_
        refine v_callV (st := [.int (nI a)]) X dX3_otters_18 (t3_livesAt E0 h hT j (by omega) x) mr_X3_82 hT.o rfl rfl rfl (Nat.le_of_ble_eq_true rfl) ⟨rfl, rfl⟩ ⟨Nat.le_of_ble_eq_true rfl, Nat.le_of_ble_eq_true rfl⟩ ⟨Nat.le_refl _, Nat.le_refl _⟩ (fun _ _ _ hx => v_nox hx) (fun v9 h9 hp => ?_)
        obtain ⟨rfl, rfl⟩ := hp
        refine v_if_eqB (tgt := 28) (b := (livesAt m0 j x)) X dX3_otters_21 (by decide) rfl (fun c21 => ?_) (fun c21 => ?_)
        · refine v_iconst (v := nI 0) X dX3_otters_28 rfl ?_
          refine v_iaddN (a := a) (b := 0) X dX3_otters_29 rfl rfl ?_
          refine v_istore_n (lv' := [(2, .int (nI a)), (3, .int (nI j)), (0, .ref M), (1, .int x)]) X dX3_otters_30 (by decide) rfl ?_
          refine v_iinc (kx := 1) (v := nI (j + 1)) (lv' := [(3, .int (nI (j + 1))), (2, .int (nI a)), (0, .ref M), (1, .int x)]) X dX3_otters_31 rfl (nI_1 _) (by decide) rfl ?_
          refine v_goto (tgt := 4) X dX3_otters_34 (by decide) ?_
          exact ih4 (j + 1) a (by omega) (by omega) (by rw [ha]; exact ct_f c21)
        · refine v_iconst (v := nI 1) X dX3_otters_24 rfl ?_
          refine v_goto (tgt := 29) X dX3_otters_25 (by decide) ?_
          refine v_iaddN (a := a) (b := 1) X dX3_otters_29 rfl rfl ?_
          refine v_istore_n (lv' := [(2, .int (nI (a + 1))), (3, .int (nI j)), (0, .ref M), (1, .int x)]) X dX3_otters_30 (by decide) rfl ?_
          refine v_iinc (kx := 1) (v := nI (j + 1)) (lv' := [(3, .int (nI (j + 1))), (2, .int (nI (a + 1))), (0, .ref M), (1, .int x)]) X dX3_otters_31 rfl (nI_1 _) (by decide) rfl ?_
          refine v_goto (tgt := 4) X dX3_otters_34 (by decide) ?_
          exact ih4 (j + 1) (a + 1) (by omega) (by omega) (by rw [ha]; exact ct_t c21)
  exact L4 _ 0 0 (Nat.lt_succ_self _) (Nat.zero_le _) rfl

set_option maxHeartbeats 4000000 in
set_option maxRecDepth 100000 in
theorem t3_hasHolt {l : Launch} {G : GT} {bb : Nat} {s0 : State} (E0 : EN l G bb s0) (h : HF) {hx : HF} {M : Nat} {ad : Nat → Nat} {w4 w6 w7 w8 w9 w10 w11 w13 w19 w20 w21 w22 w24 : Int32} {m0 m1 m2 m3 m5 m12 m14 m15 m16 m17 m18 m23 : FA} (hT : TW G hx h M ad w4 w6 w7 w8 w9 w10 w11 w13 w19 w20 w21 w22 w24 m0 m1 m2 m3 m5 m12 m14 m15 m16 m17 m18 m23) (j : Nat) (hj : j < 31) : HM l G s0 yX3_hasHolt [Cond.code yX3_hasHolt cX3_hasHolt 2 (some .boolean)] { frames := 1, cells := 0, slots := 0, locals := 20 } [.ref M, .int (nI j)] h (fun v h9 => v = some (.int (bI (holt (m0) j))) ∧ h = h9) nox 0 0 := by
  refine HM.of (cc := cX3_hasHolt) (nL := 2) (own := RX3) (nm := "hasHolt") (lv := [(0, .ref M), (1, .int (nI j))]) (by decide) rfl rfl E0 (Nat.le_of_ble_eq_true rfl) rfl (fun p e s m args below meth c X => ?_)
  refine v_aload_n X dX3_hasHolt_0 rfl ?_
  refine v_get (v := .ref (ad 0)) X dX3_hasHolt_1 fr_X3_9 hT.o rfl ?_
  refine v_iload_n X dX3_hasHolt_4 rfl ?_
  refine v_callS (st := [.ref (ad 0)]) X dX3_hasHolt_5 (t3_at E0 h j) mr_X3_86 rfl rfl (Nat.le_of_ble_eq_true rfl) ⟨rfl, rfl⟩ ⟨Nat.le_of_ble_eq_true rfl, Nat.le_of_ble_eq_true rfl⟩ ⟨Nat.le_refl _, Nat.le_refl _⟩ (fun _ _ _ hx => v_nox hx) (fun v9 h9 hp => ?_)
  obtain ⟨rfl, rfl⟩ := hp
  refine v_iconst (v := nI 5) X dX3_hasHolt_8 rfl ?_
  refine v_iaddN (a := 12 + 9 * j) (b := 5) X dX3_hasHolt_9 rfl rfl ?_
  refine v_iald (f := m0) (j := 12 + 9 * j + 5) X dX3_hasHolt_10 hT.a0 rfl (by omega) (by decide) ?_
  refine v_iconst (v := nI 1) X dX3_hasHolt_11 rfl ?_
  refine v_icmp_ne (tgt := 19) X dX3_hasHolt_12 (by decide) (fun c12 => ?_) (fun c12 => ?_)
  · refine v_iconst (v := nI 0) X dX3_hasHolt_19 rfl ?_
    exact v_iret (x := nI 0) X dX3_hasHolt_20 rfl rfl (Nat.le_refl _) (Nat.le_refl _) ⟨bf (decide_eq_false c12), rfl⟩
  · refine v_iconst (v := nI 1) X dX3_hasHolt_15 rfl ?_
    refine v_goto (tgt := 20) X dX3_hasHolt_16 (by decide) ?_
    exact v_iret (x := nI 1) X dX3_hasHolt_20 rfl rfl (Nat.le_refl _) (Nat.le_refl _) ⟨bt (decide_eq_true c12), rfl⟩

set_option maxHeartbeats 4000000 in
set_option maxRecDepth 100000 in
theorem t3_hasBridge {l : Launch} {G : GT} {bb : Nat} {s0 : State} (E0 : EN l G bb s0) (h : HF) {hx : HF} {M : Nat} {ad : Nat → Nat} {w4 w6 w7 w8 w9 w10 w11 w13 w19 w20 w21 w22 w24 : Int32} {m0 m1 m2 m3 m5 m12 m14 m15 m16 m17 m18 m23 : FA} (hT : TW G hx h M ad w4 w6 w7 w8 w9 w10 w11 w13 w19 w20 w21 w22 w24 m0 m1 m2 m3 m5 m12 m14 m15 m16 m17 m18 m23) (j : Nat) (hj : j < 31) : HM l G s0 yX3_hasBridge [Cond.code yX3_hasBridge cX3_hasBridge 2 (some .boolean)] { frames := 1, cells := 0, slots := 0, locals := 20 } [.ref M, .int (nI j)] h (fun v h9 => v = some (.int (bI (bridge (m0) j))) ∧ h = h9) nox 0 0 := by
  refine HM.of (cc := cX3_hasBridge) (nL := 2) (own := RX3) (nm := "hasBridge") (lv := [(0, .ref M), (1, .int (nI j))]) (by decide) rfl rfl E0 (Nat.le_of_ble_eq_true rfl) rfl (fun p e s m args below meth c X => ?_)
  refine v_aload_n X dX3_hasBridge_0 rfl ?_
  refine v_get (v := .ref (ad 0)) X dX3_hasBridge_1 fr_X3_9 hT.o rfl ?_
  refine v_iload_n X dX3_hasBridge_4 rfl ?_
  refine v_callS (st := [.ref (ad 0)]) X dX3_hasBridge_5 (t3_at E0 h j) mr_X3_86 rfl rfl (Nat.le_of_ble_eq_true rfl) ⟨rfl, rfl⟩ ⟨Nat.le_of_ble_eq_true rfl, Nat.le_of_ble_eq_true rfl⟩ ⟨Nat.le_refl _, Nat.le_refl _⟩ (fun _ _ _ hx => v_nox hx) (fun v9 h9 hp => ?_)
  obtain ⟨rfl, rfl⟩ := hp
  refine v_iconst (v := nI 1) X dX3_hasBridge_8 rfl ?_
  refine v_iaddN (a := 12 + 9 * j) (b := 1) X dX3_hasBridge_9 rfl rfl ?_
  refine v_iald (f := m0) (j := 12 + 9 * j + 1) X dX3_hasBridge_10 hT.a0 rfl (by omega) (by decide) ?_
  refine v_iconst (v := (-1)) X dX3_hasBridge_11 rfl ?_
  refine v_icmp_eq (tgt := 19) X dX3_hasBridge_12 (by decide) (fun c12 => ?_) (fun c12 => ?_)
  · refine v_iconst (v := nI 0) X dX3_hasBridge_19 rfl ?_
    exact v_iret (x := nI 0) X dX3_hasBridge_20 rfl rfl (Nat.le_refl _) (Nat.le_refl _) ⟨bf (bridge_f c12), rfl⟩
  · refine v_iconst (v := nI 1) X dX3_hasBridge_15 rfl ?_
    refine v_goto (tgt := 20) X dX3_hasBridge_16 (by decide) ?_
    exact v_iret (x := nI 1) X dX3_hasBridge_20 rfl rfl (Nat.le_refl _) (Nat.le_refl _) ⟨bt (bridge_t c12), rfl⟩

set_option maxHeartbeats 4000000 in
set_option maxRecDepth 100000 in
theorem t3_quality {l : Launch} {G : GT} {bb : Nat} {s0 : State} (E0 : EN l G bb s0) (h : HF) {hx : HF} {M : Nat} {ad : Nat → Nat} {w4 w6 w7 w8 w9 w10 w11 w13 w19 w20 w21 w22 w24 : Int32} {m0 m1 m2 m3 m5 m12 m14 m15 m16 m17 m18 m23 : FA} (hT : TW G hx h M ad w4 w6 w7 w8 w9 w10 w11 w13 w19 w20 w21 w22 w24 m0 m1 m2 m3 m5 m12 m14 m15 m16 m17 m18 m23) (hg : Gn (m0)) (j : Nat) (hj : j < nR (m0)) : HM l G s0 yX3_quality [Cond.code yX3_quality cX3_quality 3 (some .int)] { frames := 1, cells := 0, slots := 0, locals := 20 } [.ref M, .int (nI j)] h (fun v h9 => v = some (.int (quality (m0) j)) ∧ h = h9) nox 0 0 := by
  refine HM.of (cc := cX3_quality) (nL := 3) (own := RX3) (nm := "quality") (lv := [(0, .ref M), (1, .int (nI j))]) (by decide) rfl rfl E0 (Nat.le_of_ble_eq_true rfl) rfl (fun p e s m args below meth c X => ?_)
  have hgr := hg.rb
  have hgo := hg.ob
  have hgv := hg.vb
  have hgn := hg.nb
  refine v_iconst (v := nI 2) X dX3_quality_0 rfl ?_
  refine v_aload_n X dX3_quality_1 rfl ?_
  refine v_get (v := .ref (ad 0)) X dX3_quality_2 fr_X3_9 hT.o rfl ?_
  refine v_iload_n X dX3_quality_5 rfl ?_
  refine v_callS (st := [.ref (ad 0), .int (nI 2)]) X dX3_quality_6 (t3_at E0 h j) mr_X3_86 rfl rfl (Nat.le_of_ble_eq_true rfl) ⟨rfl, rfl⟩ ⟨Nat.le_of_ble_eq_true rfl, Nat.le_of_ble_eq_true rfl⟩ ⟨Nat.le_refl _, Nat.le_refl _⟩ (fun _ _ _ hx => v_nox hx) (fun v9 h9 hp => ?_)
  obtain ⟨rfl, rfl⟩ := hp
  refine v_iconst (v := nI 0) X dX3_quality_9 rfl ?_
  refine v_iaddN (a := 12 + 9 * j) (b := 0) X dX3_quality_10 rfl rfl ?_
  refine v_iald (f := m0) (j := 12 + 9 * j) X dX3_quality_11 hT.a0 rfl (by omega) (by decide) ?_
  refine v_imul X dX3_quality_12 ?_
  refine v_istore_n (lv' := [(2, .int ((nI 2) * (m0 (12 + 9 * j)))), (0, .ref M), (1, .int (nI j))]) X dX3_quality_13 (by decide) rfl ?_
  refine v_iload_n X dX3_quality_14 rfl ?_
  refine v_iload_n X dX3_quality_15 rfl ?_
  refine v_if_leN (tgt := 35) (a := j) X dX3_quality_16 (by decide) rfl (by omega) (fun c16 => ?_) (fun c16 => ?_)
  · refine v_iconst (v := nI 0) X dX3_quality_35 rfl ?_
    refine v_iadd X dX3_quality_36 ?_
    refine v_istore_n (lv' := [(2, .int (((nI 2) * (m0 (12 + 9 * j))) + (nI 0))), (0, .ref M), (1, .int (nI j))]) X dX3_quality_37 (by decide) rfl ?_
    refine v_iload_n X dX3_quality_38 rfl ?_
    refine v_iload_n X dX3_quality_39 rfl ?_
    refine v_aload_n X dX3_quality_40 rfl ?_
    refine v_get (v := .ref (ad 0)) X dX3_quality_41 fr_X3_9 hT.o rfl ?_
    refine v_iconst (v := nI 0) X dX3_quality_44 rfl ?_
    refine v_iald (f := m0) (j := 0) X dX3_quality_45 hT.a0 rfl (by omega) (by decide) ?_
    refine v_eqi hg.r ?_
    refine v_iconst (v := nI 1) X dX3_quality_46 rfl ?_
    refine v_isubN (a := nR (m0)) (b := 1) X dX3_quality_47 rfl rfl (by omega) ?_
    refine v_icmp_geN (tgt := 67) (a := j) (b := nR (m0) - 1) X dX3_quality_48 (by decide) rfl rfl (by omega) (by omega) (fun c48 => ?_) (fun c48 => ?_)
    · refine v_iconst (v := nI 0) X dX3_quality_67 rfl ?_
      refine v_iadd X dX3_quality_68 ?_
      exact v_iret (x := (((nI 2) * (m0 (12 + 9 * j))) + (nI 0)) + (nI 0)) X dX3_quality_69 rfl rfl (Nat.le_refl _) (Nat.le_refl _) ⟨by unfold quality; rw [if_neg (by omega), if_neg (by omega)], rfl⟩
    · refine v_aload_n X dX3_quality_51 rfl ?_
      refine v_get (v := .ref (ad 0)) X dX3_quality_52 fr_X3_9 hT.o rfl ?_
      refine v_iload_n X dX3_quality_55 rfl ?_
      refine v_iconst (v := nI 1) X dX3_quality_56 rfl ?_
      refine v_iaddN (a := j) (b := 1) X dX3_quality_57 rfl rfl ?_
      refine v_callS (st := [.ref (ad 0), .int (((nI 2) * (m0 (12 + 9 * j))) + (nI 0))]) X dX3_quality_58 (t3_at E0 h (j + 1)) mr_X3_86 rfl rfl (Nat.le_of_ble_eq_true rfl) ⟨rfl, rfl⟩ ⟨Nat.le_of_ble_eq_true rfl, Nat.le_of_ble_eq_true rfl⟩ ⟨Nat.le_refl _, Nat.le_refl _⟩ (fun _ _ _ hx => v_nox hx) (fun v9 h9 hp => ?_)
      obtain ⟨rfl, rfl⟩ := hp
      refine v_iconst (v := nI 0) X dX3_quality_61 rfl ?_
      refine v_iaddN (a := 12 + 9 * (j + 1)) (b := 0) X dX3_quality_62 rfl rfl ?_
      refine v_iald (f := m0) (j := 12 + 9 * (j + 1)) X dX3_quality_63 hT.a0 rfl (by omega) (by decide) ?_
      refine v_goto (tgt := 68) X dX3_quality_64 (by decide) ?_
      refine v_iadd X dX3_quality_68 ?_
      exact v_iret (x := (((nI 2) * (m0 (12 + 9 * j))) + (nI 0)) + (m0 (12 + 9 * (j + 1)))) X dX3_quality_69 rfl rfl (Nat.le_refl _) (Nat.le_refl _) ⟨by unfold quality; rw [if_neg (by omega), if_pos c48], rfl⟩
  · refine v_aload_n X dX3_quality_19 rfl ?_
    refine v_get (v := .ref (ad 0)) X dX3_quality_20 fr_X3_9 hT.o rfl ?_
    refine v_iload_n X dX3_quality_23 rfl ?_
    refine v_iconst (v := nI 1) X dX3_quality_24 rfl ?_
    refine v_isubN (a := j) (b := 1) X dX3_quality_25 rfl rfl (by omega) ?_
    refine v_callS (st := [.ref (ad 0), .int ((nI 2) * (m0 (12 + 9 * j)))]) X dX3_quality_26 (t3_at E0 h (j - 1)) mr_X3_86 rfl rfl (Nat.le_of_ble_eq_true rfl) ⟨rfl, rfl⟩ ⟨Nat.le_of_ble_eq_true rfl, Nat.le_of_ble_eq_true rfl⟩ ⟨Nat.le_refl _, Nat.le_refl _⟩ (fun _ _ _ hx => v_nox hx) (fun v9 h9 hp => ?_)
    obtain ⟨rfl, rfl⟩ := hp
    refine v_iconst (v := nI 0) X dX3_quality_29 rfl ?_
    refine v_iaddN (a := 12 + 9 * (j - 1)) (b := 0) X dX3_quality_30 rfl rfl ?_
    refine v_iald (f := m0) (j := 12 + 9 * (j - 1)) X dX3_quality_31 hT.a0 rfl (by omega) (by decide) ?_
    refine v_goto (tgt := 36) X dX3_quality_32 (by decide) ?_
    refine v_iadd X dX3_quality_36 ?_
    refine v_istore_n (lv' := [(2, .int (((nI 2) * (m0 (12 + 9 * j))) + (m0 (12 + 9 * (j - 1))))), (0, .ref M), (1, .int (nI j))]) X dX3_quality_37 (by decide) rfl ?_
    refine v_iload_n X dX3_quality_38 rfl ?_
    refine v_iload_n X dX3_quality_39 rfl ?_
    refine v_aload_n X dX3_quality_40 rfl ?_
    refine v_get (v := .ref (ad 0)) X dX3_quality_41 fr_X3_9 hT.o rfl ?_
    refine v_iconst (v := nI 0) X dX3_quality_44 rfl ?_
    refine v_iald (f := m0) (j := 0) X dX3_quality_45 hT.a0 rfl (by omega) (by decide) ?_
    refine v_eqi hg.r ?_
    refine v_iconst (v := nI 1) X dX3_quality_46 rfl ?_
    refine v_isubN (a := nR (m0)) (b := 1) X dX3_quality_47 rfl rfl (by omega) ?_
    refine v_icmp_geN (tgt := 67) (a := j) (b := nR (m0) - 1) X dX3_quality_48 (by decide) rfl rfl (by omega) (by omega) (fun c48 => ?_) (fun c48 => ?_)
    · refine v_iconst (v := nI 0) X dX3_quality_67 rfl ?_
      refine v_iadd X dX3_quality_68 ?_
      exact v_iret (x := (((nI 2) * (m0 (12 + 9 * j))) + (m0 (12 + 9 * (j - 1)))) + (nI 0)) X dX3_quality_69 rfl rfl (Nat.le_refl _) (Nat.le_refl _) ⟨by unfold quality; rw [if_pos c16, if_neg (by omega)], rfl⟩
    · refine v_aload_n X dX3_quality_51 rfl ?_
      refine v_get (v := .ref (ad 0)) X dX3_quality_52 fr_X3_9 hT.o rfl ?_
      refine v_iload_n X dX3_quality_55 rfl ?_
      refine v_iconst (v := nI 1) X dX3_quality_56 rfl ?_
      refine v_iaddN (a := j) (b := 1) X dX3_quality_57 rfl rfl ?_
      refine v_callS (st := [.ref (ad 0), .int (((nI 2) * (m0 (12 + 9 * j))) + (m0 (12 + 9 * (j - 1))))]) X dX3_quality_58 (t3_at E0 h (j + 1)) mr_X3_86 rfl rfl (Nat.le_of_ble_eq_true rfl) ⟨rfl, rfl⟩ ⟨Nat.le_of_ble_eq_true rfl, Nat.le_of_ble_eq_true rfl⟩ ⟨Nat.le_refl _, Nat.le_refl _⟩ (fun _ _ _ hx => v_nox hx) (fun v9 h9 hp => ?_)
      obtain ⟨rfl, rfl⟩ := hp
      refine v_iconst (v := nI 0) X dX3_quality_61 rfl ?_
      refine v_iaddN (a := 12 + 9 * (j + 1)) (b := 0) X dX3_quality_62 rfl rfl ?_
      refine v_iald (f := m0) (j := 12 + 9 * (j + 1)) X dX3_quality_63 hT.a0 rfl (by omega) (by decide) ?_
      refine v_goto (tgt := 68) X dX3_quality_64 (by decide) ?_
      refine v_iadd X dX3_quality_68 ?_
      exact v_iret (x := (((nI 2) * (m0 (12 + 9 * j))) + (m0 (12 + 9 * (j - 1)))) + (m0 (12 + 9 * (j + 1)))) X dX3_quality_69 rfl rfl (Nat.le_refl _) (Nat.le_refl _) ⟨by unfold quality; rw [if_pos c16, if_pos c48], rfl⟩

set_option maxHeartbeats 4000000 in
set_option maxRecDepth 100000 in
theorem t3_lowestAt {l : Launch} {G : GT} {bb : Nat} {s0 : State} (E0 : EN l G bb s0) (h : HF) {hx : HF} {M : Nat} {ad : Nat → Nat} {w4 w6 w7 w8 w9 w10 w11 w13 w19 w20 w21 w22 w24 : Int32} {m0 m1 m2 m3 m5 m12 m14 m15 m16 m17 m18 m23 : FA} (hT : TW G hx h M ad w4 w6 w7 w8 w9 w10 w11 w13 w19 w20 w21 w22 w24 m0 m1 m2 m3 m5 m12 m14 m15 m16 m17 m18 m23) (hg : Gn (m0)) (x : Int32) (hc : 0 < otters (m0) x) : HM l G s0 yX3_lowestAt [Cond.code yX3_lowestAt cX3_lowestAt 3 (some .int)] { frames := 3, cells := 0, slots := 0, locals := 63 } [.ref M, .int x] h (fun v h9 => v = some (.int (nI (lowest (m0) x))) ∧ h = h9) nox 0 0 := by
  refine HM.of (cc := cX3_lowestAt) (nL := 3) (own := RX3) (nm := "lowestAt") (lv := [(0, .ref M), (1, .int x)]) (by decide) rfl rfl E0 (Nat.le_of_ble_eq_true rfl) rfl (fun p e s m args below meth c X => ?_)
  have hgr := hg.rb
  have hgo := hg.ob
  have hgv := hg.vb
  have hgn := hg.nb
  have hlo := lowest_lt hc
  refine v_iconst (v := nI 0) X dX3_lowestAt_0 rfl ?_
  refine v_istore_n (lv' := [(2, .int (nI 0)), (0, .ref M), (1, .int x)]) X dX3_lowestAt_1 (by decide) rfl ?_
  have L2 : ∀ (N2 : Nat) (j : Nat) (hm2 : nO (m0) - j < N2) (hj : j ≤ lowest (m0) x), V p l e { frames := 3, cells := 0, slots := 0, locals := 63 } s m args below meth c (VQ below args s G s0 (fun v h9 => v = some (.int (nI (lowest (m0) x))) ∧ h = h9) nox 0 0) G s0.heap.size 3 2 [(2, .int (nI j)), (0, .ref M), (1, .int x)] [] h 0 0 := by
    intro N2
    induction N2 with
    | zero =>
      intro j hm2
      exact absurd hm2 (Nat.not_lt_zero _)
    | succ N2 ih2 =>
      intro j hm2 hj
      refine v_aload_n X dX3_lowestAt_2 rfl ?_
      refine v_iload_n X dX3_lowestAt_3 rfl ?_
      refine v_iload_n X dX3_lowestAt_4 rfl ?_
      refine v_callV (st := []) X dX3_lowestAt_5 (t3_livesAt E0 h hT j (by omega) x) mr_X3_82 hT.o rfl rfl rfl (Nat.le_of_ble_eq_true rfl) ⟨rfl, rfl⟩ ⟨Nat.le_of_ble_eq_true rfl, Nat.le_of_ble_eq_true rfl⟩ ⟨Nat.le_refl _, Nat.le_refl _⟩ (fun _ _ _ hx => v_nox hx) (fun v9 h9 hp => ?_)
      obtain ⟨rfl, rfl⟩ := hp
      refine v_if_neB (tgt := 17) (b := (livesAt m0 j x)) X dX3_lowestAt_8 (by decide) rfl (fun c8 => ?_) (fun c8 => ?_)
      · refine v_iload_n X dX3_lowestAt_17 rfl ?_
        exact v_iret (x := nI j) X dX3_lowestAt_18 rfl rfl (Nat.le_refl _) (Nat.le_refl _) ⟨by rw [lowest_eq hlo hj c8], rfl⟩
      · refine v_iinc (kx := 0) (v := nI (j + 1)) (lv' := [(2, .int (nI (j + 1))), (0, .ref M), (1, .int x)]) X dX3_lowestAt_11 rfl (nI_1 _) (by decide) rfl ?_
        refine v_goto (tgt := 2) X dX3_lowestAt_14 (by decide) ?_
        exact ih2 (j + 1) (by omega) (lowest_up hj hlo c8)
  exact L2 _ 0 (Nat.lt_succ_self _) (Nat.zero_le _)

set_option maxHeartbeats 4000000 in
set_option maxRecDepth 100000 in
theorem t3_openDips {l : Launch} {G : GT} {bb : Nat} {s0 : State} (E0 : EN l G bb s0) (h : HF) {hx : HF} {M : Nat} {ad : Nat → Nat} {w4 w6 w7 w8 w9 w10 w11 w13 w19 w20 w21 w22 w24 : Int32} {m0 m1 m2 m3 m5 m12 m14 m15 m16 m17 m18 m23 : FA} (hT : TW G hx h M ad w4 w6 w7 w8 w9 w10 w11 w13 w19 w20 w21 w22 w24 m0 m1 m2 m3 m5 m12 m14 m15 m16 m17 m18 m23) (hg : Gn (m0)) : HM l G s0 yX3_openDips [Cond.code yX3_openDips cX3_openDips 3 (some .int)] { frames := 1, cells := 0, slots := 0, locals := 20 } [.ref M] h (fun v h9 => v = some (.int (openDips (m0))) ∧ h = h9) nox 0 0 := by
  refine HM.of (cc := cX3_openDips) (nL := 3) (own := RX3) (nm := "openDips") (lv := [(0, .ref M)]) (by decide) rfl rfl E0 (Nat.le_of_ble_eq_true rfl) rfl (fun p e s m args below meth c X => ?_)
  have hgr := hg.rb
  have hgo := hg.ob
  have hgv := hg.vb
  have hgn := hg.nb
  refine v_iconst (v := nI 0) X dX3_openDips_0 rfl ?_
  refine v_istore_n (lv' := [(1, .int (nI 0)), (0, .ref M)]) X dX3_openDips_1 (by decide) rfl ?_
  refine v_iconst (v := nI 0) X dX3_openDips_2 rfl ?_
  refine v_istore_n (lv' := [(2, .int (nI 0)), (1, .int (nI 0)), (0, .ref M)]) X dX3_openDips_3 (by decide) rfl ?_
  have L4 : ∀ (N4 : Nat) (j : Nat) (a : Int32) (hm4 : nR (m0) - j < N4) (hj : j ≤ nR (m0)) (ha : a = sumI (fun r => m0 (12 + 9 * r + 4)) j), V p l e { frames := 1, cells := 0, slots := 0, locals := 20 } s m args below meth c (VQ below args s G s0 (fun v h9 => v = some (.int (openDips (m0))) ∧ h = h9) nox 0 0) G s0.heap.size 3 4 [(2, .int (nI j)), (1, .int a), (0, .ref M)] [] h 0 0 := by
    intro N4
    induction N4 with
    | zero =>
      intro j a hm4
      exact absurd hm4 (Nat.not_lt_zero _)
    | succ N4 ih4 =>
      intro j a hm4 hj ha
      refine v_iload_n X dX3_openDips_4 rfl ?_
      refine v_aload_n X dX3_openDips_5 rfl ?_
      refine v_get (v := .ref (ad 0)) X dX3_openDips_6 fr_X3_9 hT.o rfl ?_
      refine v_iconst (v := nI 0) X dX3_openDips_9 rfl ?_
      refine v_iald (f := m0) (j := 0) X dX3_openDips_10 hT.a0 rfl (by omega) (by decide) ?_
      refine v_eqi hg.r ?_
      refine v_icmp_geN (tgt := 34) (a := j) (b := nR (m0)) X dX3_openDips_11 (by decide) rfl rfl (by omega) (by omega) (fun c11 => ?_) (fun c11 => ?_)
      · refine v_iload_n X dX3_openDips_34 rfl ?_
        exact v_iret (x := a) X dX3_openDips_35 rfl rfl (Nat.le_refl _) (Nat.le_refl _) ⟨by rw [ha, show j = nR (m0) by omega]; rfl, rfl⟩
      · refine v_iload_n X dX3_openDips_14 rfl ?_
        refine v_aload_n X dX3_openDips_15 rfl ?_
        refine v_get (v := .ref (ad 0)) X dX3_openDips_16 fr_X3_9 hT.o rfl ?_
        refine v_iload_n X dX3_openDips_19 rfl ?_
        refine v_callS (st := [.ref (ad 0), .int a]) X dX3_openDips_20 (t3_at E0 h j) mr_X3_86 rfl rfl (Nat.le_of_ble_eq_true rfl) ⟨rfl, rfl⟩ ⟨Nat.le_of_ble_eq_true rfl, Nat.le_of_ble_eq_true rfl⟩ ⟨Nat.le_refl _, Nat.le_refl _⟩ (fun _ _ _ hx => v_nox hx) (fun v9 h9 hp => ?_)
        obtain ⟨rfl, rfl⟩ := hp
        refine v_iconst (v := nI 4) X dX3_openDips_23 rfl ?_
        refine v_iaddN (a := 12 + 9 * j) (b := 4) X dX3_openDips_24 rfl rfl ?_
        refine v_iald (f := m0) (j := 12 + 9 * j + 4) X dX3_openDips_25 hT.a0 rfl (by omega) (by decide) ?_
        refine v_iadd X dX3_openDips_26 ?_
        refine v_istore_n (lv' := [(1, .int (a + (m0 (12 + 9 * j + 4)))), (2, .int (nI j)), (0, .ref M)]) X dX3_openDips_27 (by decide) rfl ?_
        refine v_iinc (kx := 1) (v := nI (j + 1)) (lv' := [(2, .int (nI (j + 1))), (1, .int (a + (m0 (12 + 9 * j + 4)))), (0, .ref M)]) X dX3_openDips_28 rfl (nI_1 _) (by decide) rfl ?_
        refine v_goto (tgt := 4) X dX3_openDips_31 (by decide) ?_
        exact ih4 (j + 1) (a + (m0 (12 + 9 * j + 4))) (by omega) (by omega) (by rw [ha]; rfl)
  exact L4 _ 0 (nI 0) (Nat.lt_succ_self _) (Nat.zero_le _) rfl

set_option maxHeartbeats 4000000 in
set_option maxRecDepth 100000 in
theorem t3_ofReaches {l : Launch} {G : GT} {bb : Nat} {s0 : State} (E0 : EN l G bb s0) (h : HF) {hx : HF} {M : Nat} {ad : Nat → Nat} {w4 w6 w7 w8 w9 w10 w11 w13 w19 w20 w21 w22 w24 : Int32} {m0 m1 m2 m3 m5 m12 m14 m15 m16 m17 m18 m23 : FA} (hT : TW G hx h M ad w4 w6 w7 w8 w9 w10 w11 w13 w19 w20 w21 w22 w24 m0 m1 m2 m3 m5 m12 m14 m15 m16 m17 m18 m23) (hg : Gn (m0)) (t : Nat) (ht : t < 9) : HM l G s0 yX3_ofReaches [Cond.code yX3_ofReaches cX3_ofReaches 4 (some .int)] { frames := 1, cells := 0, slots := 0, locals := 20 } [.ref M, .int (nI t)] h (fun v h9 => v = some (.int (sumI (fun r => m0 (12 + 9 * r + t)) (nR (m0)))) ∧ h = h9) nox 0 0 := by
  refine HM.of (cc := cX3_ofReaches) (nL := 4) (own := RX3) (nm := "ofReaches") (lv := [(0, .ref M), (1, .int (nI t))]) (by decide) rfl rfl E0 (Nat.le_of_ble_eq_true rfl) rfl (fun p e s m args below meth c X => ?_)
  have hgr := hg.rb
  have hgo := hg.ob
  have hgv := hg.vb
  have hgn := hg.nb
  refine v_iconst (v := nI 0) X dX3_ofReaches_0 rfl ?_
  refine v_istore_n (lv' := [(2, .int (nI 0)), (0, .ref M), (1, .int (nI t))]) X dX3_ofReaches_1 (by decide) rfl ?_
  refine v_iconst (v := nI 0) X dX3_ofReaches_2 rfl ?_
  refine v_istore_n (lv' := [(3, .int (nI 0)), (2, .int (nI 0)), (0, .ref M), (1, .int (nI t))]) X dX3_ofReaches_3 (by decide) rfl ?_
  have L4 : ∀ (N4 : Nat) (j : Nat) (a : Int32) (hm4 : nR (m0) - j < N4) (hj : j ≤ nR (m0)) (ha : a = sumI (fun r => m0 (12 + 9 * r + t)) j), V p l e { frames := 1, cells := 0, slots := 0, locals := 20 } s m args below meth c (VQ below args s G s0 (fun v h9 => v = some (.int (sumI (fun r => m0 (12 + 9 * r + t)) (nR (m0)))) ∧ h = h9) nox 0 0) G s0.heap.size 4 4 [(3, .int (nI j)), (2, .int a), (0, .ref M), (1, .int (nI t))] [] h 0 0 := by
    intro N4
    induction N4 with
    | zero =>
      intro j a hm4
      exact absurd hm4 (Nat.not_lt_zero _)
    | succ N4 ih4 =>
      intro j a hm4 hj ha
      refine v_iload_n X dX3_ofReaches_4 rfl ?_
      refine v_aload_n X dX3_ofReaches_5 rfl ?_
      refine v_get (v := .ref (ad 0)) X dX3_ofReaches_6 fr_X3_9 hT.o rfl ?_
      refine v_iconst (v := nI 0) X dX3_ofReaches_9 rfl ?_
      refine v_iald (f := m0) (j := 0) X dX3_ofReaches_10 hT.a0 rfl (by omega) (by decide) ?_
      refine v_eqi hg.r ?_
      refine v_icmp_geN (tgt := 34) (a := j) (b := nR (m0)) X dX3_ofReaches_11 (by decide) rfl rfl (by omega) (by omega) (fun c11 => ?_) (fun c11 => ?_)
      · refine v_iload_n X dX3_ofReaches_34 rfl ?_
        exact v_iret (x := a) X dX3_ofReaches_35 rfl rfl (Nat.le_refl _) (Nat.le_refl _) ⟨by rw [ha, show j = nR (m0) by omega], rfl⟩
      · refine v_iload_n X dX3_ofReaches_14 rfl ?_
        refine v_aload_n X dX3_ofReaches_15 rfl ?_
        refine v_get (v := .ref (ad 0)) X dX3_ofReaches_16 fr_X3_9 hT.o rfl ?_
        refine v_iload_n X dX3_ofReaches_19 rfl ?_
        refine v_callS (st := [.ref (ad 0), .int a]) X dX3_ofReaches_20 (t3_at E0 h j) mr_X3_86 rfl rfl (Nat.le_of_ble_eq_true rfl) ⟨rfl, rfl⟩ ⟨Nat.le_of_ble_eq_true rfl, Nat.le_of_ble_eq_true rfl⟩ ⟨Nat.le_refl _, Nat.le_refl _⟩ (fun _ _ _ hx => v_nox hx) (fun v9 h9 hp => ?_)
        obtain ⟨rfl, rfl⟩ := hp
        refine v_iload_n X dX3_ofReaches_23 rfl ?_
        refine v_iaddN (a := 12 + 9 * j) (b := t) X dX3_ofReaches_24 rfl rfl ?_
        refine v_iald (f := m0) (j := 12 + 9 * j + t) X dX3_ofReaches_25 hT.a0 rfl (by omega) (by decide) ?_
        refine v_iadd X dX3_ofReaches_26 ?_
        refine v_istore_n (lv' := [(2, .int (a + (m0 (12 + 9 * j + t)))), (3, .int (nI j)), (0, .ref M), (1, .int (nI t))]) X dX3_ofReaches_27 (by decide) rfl ?_
        refine v_iinc (kx := 1) (v := nI (j + 1)) (lv' := [(3, .int (nI (j + 1))), (2, .int (a + (m0 (12 + 9 * j + t)))), (0, .ref M), (1, .int (nI t))]) X dX3_ofReaches_28 rfl (nI_1 _) (by decide) rfl ?_
        refine v_goto (tgt := 4) X dX3_ofReaches_31 (by decide) ?_
        exact ih4 (j + 1) (a + (m0 (12 + 9 * j + t))) (by omega) (by omega) (by rw [ha]; rfl)
  exact L4 _ 0 (nI 0) (Nat.lt_succ_self _) (Nat.zero_le _) rfl

set_option maxHeartbeats 4000000 in
set_option maxRecDepth 100000 in
theorem t3_marks {l : Launch} {G : GT} {bb : Nat} {s0 : State} (E0 : EN l G bb s0) (h : HF) {hx : HF} {M : Nat} {ad : Nat → Nat} {w4 w6 w7 w8 w9 w10 w11 w13 w19 w20 w21 w22 w24 : Int32} {m0 m1 m2 m3 m5 m12 m14 m15 m16 m17 m18 m23 : FA} (hT : TW G hx h M ad w4 w6 w7 w8 w9 w10 w11 w13 w19 w20 w21 w22 w24 m0 m1 m2 m3 m5 m12 m14 m15 m16 m17 m18 m23) (hg : Gn (m0)) : HM l G s0 yX3_marks [Cond.code yX3_marks cX3_marks 3 (some .int)] { frames := 1, cells := 0, slots := 0, locals := 20 } [.ref M] h (fun v h9 => v = some (.int (sumI (fun o => m0 (120 + 5 * o + 2)) (nO (m0)))) ∧ h = h9) nox 0 0 := by
  refine HM.of (cc := cX3_marks) (nL := 3) (own := RX3) (nm := "marks") (lv := [(0, .ref M)]) (by decide) rfl rfl E0 (Nat.le_of_ble_eq_true rfl) rfl (fun p e s m args below meth c X => ?_)
  have hgr := hg.rb
  have hgo := hg.ob
  have hgv := hg.vb
  have hgn := hg.nb
  refine v_iconst (v := nI 0) X dX3_marks_0 rfl ?_
  refine v_istore_n (lv' := [(1, .int (nI 0)), (0, .ref M)]) X dX3_marks_1 (by decide) rfl ?_
  refine v_iconst (v := nI 0) X dX3_marks_2 rfl ?_
  refine v_istore_n (lv' := [(2, .int (nI 0)), (1, .int (nI 0)), (0, .ref M)]) X dX3_marks_3 (by decide) rfl ?_
  have L4 : ∀ (N4 : Nat) (j : Nat) (a : Int32) (hm4 : nO (m0) - j < N4) (hj : j ≤ nO (m0)) (ha : a = sumI (fun o => m0 (120 + 5 * o + 2)) j), V p l e { frames := 1, cells := 0, slots := 0, locals := 20 } s m args below meth c (VQ below args s G s0 (fun v h9 => v = some (.int (sumI (fun o => m0 (120 + 5 * o + 2)) (nO (m0)))) ∧ h = h9) nox 0 0) G s0.heap.size 3 4 [(2, .int (nI j)), (1, .int a), (0, .ref M)] [] h 0 0 := by
    intro N4
    induction N4 with
    | zero =>
      intro j a hm4
      exact absurd hm4 (Nat.not_lt_zero _)
    | succ N4 ih4 =>
      intro j a hm4 hj ha
      refine v_iload_n X dX3_marks_4 rfl ?_
      refine v_aload_n X dX3_marks_5 rfl ?_
      refine v_get (v := .ref (ad 0)) X dX3_marks_6 fr_X3_9 hT.o rfl ?_
      refine v_iconst (v := nI 1) X dX3_marks_9 rfl ?_
      refine v_iald (f := m0) (j := 1) X dX3_marks_10 hT.a0 rfl (by omega) (by decide) ?_
      refine v_eqi hg.o ?_
      refine v_icmp_geN (tgt := 34) (a := j) (b := nO (m0)) X dX3_marks_11 (by decide) rfl rfl (by omega) (by omega) (fun c11 => ?_) (fun c11 => ?_)
      · refine v_iload_n X dX3_marks_34 rfl ?_
        exact v_iret (x := a) X dX3_marks_35 rfl rfl (Nat.le_refl _) (Nat.le_refl _) ⟨by rw [ha, show j = nO (m0) by omega], rfl⟩
      · refine v_iload_n X dX3_marks_14 rfl ?_
        refine v_aload_n X dX3_marks_15 rfl ?_
        refine v_get (v := .ref (ad 0)) X dX3_marks_16 fr_X3_9 hT.o rfl ?_
        refine v_iload_n X dX3_marks_19 rfl ?_
        refine v_callS (st := [.ref (ad 0), .int a]) X dX3_marks_20 (t3_of E0 h j) mr_X3_75 rfl rfl (Nat.le_of_ble_eq_true rfl) ⟨rfl, rfl⟩ ⟨Nat.le_of_ble_eq_true rfl, Nat.le_of_ble_eq_true rfl⟩ ⟨Nat.le_refl _, Nat.le_refl _⟩ (fun _ _ _ hx => v_nox hx) (fun v9 h9 hp => ?_)
        obtain ⟨rfl, rfl⟩ := hp
        refine v_iconst (v := nI 2) X dX3_marks_23 rfl ?_
        refine v_iaddN (a := 120 + 5 * j) (b := 2) X dX3_marks_24 rfl rfl ?_
        refine v_iald (f := m0) (j := 120 + 5 * j + 2) X dX3_marks_25 hT.a0 rfl (by omega) (by decide) ?_
        refine v_iadd X dX3_marks_26 ?_
        refine v_istore_n (lv' := [(1, .int (a + (m0 (120 + 5 * j + 2)))), (2, .int (nI j)), (0, .ref M)]) X dX3_marks_27 (by decide) rfl ?_
        refine v_iinc (kx := 1) (v := nI (j + 1)) (lv' := [(2, .int (nI (j + 1))), (1, .int (a + (m0 (120 + 5 * j + 2)))), (0, .ref M)]) X dX3_marks_28 rfl (nI_1 _) (by decide) rfl ?_
        refine v_goto (tgt := 4) X dX3_marks_31 (by decide) ?_
        exact ih4 (j + 1) (a + (m0 (120 + 5 * j + 2))) (by omega) (by omega) (by rw [ha]; rfl)
  exact L4 _ 0 (nI 0) (Nat.lt_succ_self _) (Nat.zero_le _) rfl

set_option maxHeartbeats 4000000 in
set_option maxRecDepth 100000 in
theorem t3_inState {l : Launch} {G : GT} {bb : Nat} {s0 : State} (E0 : EN l G bb s0) (h : HF) {hx : HF} {M : Nat} {ad : Nat → Nat} {w4 w6 w7 w8 w9 w10 w11 w13 w19 w20 w21 w22 w24 : Int32} {m0 m1 m2 m3 m5 m12 m14 m15 m16 m17 m18 m23 : FA} (hT : TW G hx h M ad w4 w6 w7 w8 w9 w10 w11 w13 w19 w20 w21 w22 w24 m0 m1 m2 m3 m5 m12 m14 m15 m16 m17 m18 m23) (hg : Gn (m0)) (x : Int32) : HM l G s0 yX3_inState [Cond.code yX3_inState cX3_inState 4 (some .int)] { frames := 1, cells := 0, slots := 0, locals := 20 } [.ref M, .int x] h (fun v h9 => v = some (.int (nI (inState (m0) x))) ∧ h = h9) nox 0 0 := by
  refine HM.of (cc := cX3_inState) (nL := 4) (own := RX3) (nm := "inState") (lv := [(0, .ref M), (1, .int x)]) (by decide) rfl rfl E0 (Nat.le_of_ble_eq_true rfl) rfl (fun p e s m args below meth c X => ?_)
  have hgr := hg.rb
  have hgo := hg.ob
  have hgv := hg.vb
  have hgn := hg.nb
  refine v_iconst (v := nI 0) X dX3_inState_0 rfl ?_
  refine v_istore_n (lv' := [(2, .int (nI 0)), (0, .ref M), (1, .int x)]) X dX3_inState_1 (by decide) rfl ?_
  refine v_iconst (v := nI 0) X dX3_inState_2 rfl ?_
  refine v_istore_n (lv' := [(3, .int (nI 0)), (2, .int (nI 0)), (0, .ref M), (1, .int x)]) X dX3_inState_3 (by decide) rfl ?_
  have L4 : ∀ (N4 : Nat) (j : Nat) (a : Nat) (hm4 : nO (m0) - j < N4) (hj : j ≤ nO (m0)) (ha : a = ct (fun o => decide (m0 (120 + 5 * o) = x)) j), V p l e { frames := 1, cells := 0, slots := 0, locals := 20 } s m args below meth c (VQ below args s G s0 (fun v h9 => v = some (.int (nI (inState (m0) x))) ∧ h = h9) nox 0 0) G s0.heap.size 4 4 [(3, .int (nI j)), (2, .int (nI a)), (0, .ref M), (1, .int x)] [] h 0 0 := by
    intro N4
    induction N4 with
    | zero =>
      intro j a hm4
      exact absurd hm4 (Nat.not_lt_zero _)
    | succ N4 ih4 =>
      intro j a hm4 hj ha
      refine v_iload_n X dX3_inState_4 rfl ?_
      refine v_aload_n X dX3_inState_5 rfl ?_
      refine v_get (v := .ref (ad 0)) X dX3_inState_6 fr_X3_9 hT.o rfl ?_
      refine v_iconst (v := nI 1) X dX3_inState_9 rfl ?_
      refine v_iald (f := m0) (j := 1) X dX3_inState_10 hT.a0 rfl (by omega) (by decide) ?_
      refine v_eqi hg.o ?_
      refine v_icmp_geN (tgt := 43) (a := j) (b := nO (m0)) X dX3_inState_11 (by decide) rfl rfl (by omega) (by omega) (fun c11 => ?_) (fun c11 => ?_)
      · refine v_iload_n X dX3_inState_43 rfl ?_
        exact v_iret (x := nI a) X dX3_inState_44 rfl rfl (Nat.le_refl _) (Nat.le_refl _) ⟨by rw [ha, show j = nO (m0) by omega]; rfl, rfl⟩
      · refine v_iload_n X dX3_inState_14 rfl ?_
        refine v_aload_n X dX3_inState_15 rfl ?_
        refine v_get (v := .ref (ad 0)) X dX3_inState_16 fr_X3_9 hT.o rfl ?_
        refine v_iload_n X dX3_inState_19 rfl ?_
        refine v_callS (st := [.ref (ad 0), .int (nI a)]) X dX3_inState_20 (t3_of E0 h j) mr_X3_75 rfl rfl (Nat.le_of_ble_eq_true rfl) ⟨rfl, rfl⟩ ⟨Nat.le_of_ble_eq_true rfl, Nat.le_of_ble_eq_true rfl⟩ ⟨Nat.le_refl _, Nat.le_refl _⟩ (fun _ _ _ hx => v_nox hx) (fun v9 h9 hp => ?_)
        obtain ⟨rfl, rfl⟩ := hp
        refine v_iconst (v := nI 0) X dX3_inState_23 rfl ?_
        refine v_iaddN (a := 120 + 5 * j) (b := 0) X dX3_inState_24 rfl rfl ?_
        refine v_iald (f := m0) (j := 120 + 5 * j) X dX3_inState_25 hT.a0 rfl (by omega) (by decide) ?_
        refine v_iload_n X dX3_inState_26 rfl ?_
        refine v_icmp_ne (tgt := 34) X dX3_inState_27 (by decide) (fun c27 => ?_) (fun c27 => ?_)
        · refine v_iconst (v := nI 0) X dX3_inState_34 rfl ?_
          refine v_iaddN (a := a) (b := 0) X dX3_inState_35 rfl rfl ?_
          refine v_istore_n (lv' := [(2, .int (nI a)), (3, .int (nI j)), (0, .ref M), (1, .int x)]) X dX3_inState_36 (by decide) rfl ?_
          refine v_iinc (kx := 1) (v := nI (j + 1)) (lv' := [(3, .int (nI (j + 1))), (2, .int (nI a)), (0, .ref M), (1, .int x)]) X dX3_inState_37 rfl (nI_1 _) (by decide) rfl ?_
          refine v_goto (tgt := 4) X dX3_inState_40 (by decide) ?_
          exact ih4 (j + 1) a (by omega) (by omega) (by rw [ha]; exact ct_f (decide_eq_false c27))
        · refine v_iconst (v := nI 1) X dX3_inState_30 rfl ?_
          refine v_goto (tgt := 35) X dX3_inState_31 (by decide) ?_
          refine v_iaddN (a := a) (b := 1) X dX3_inState_35 rfl rfl ?_
          refine v_istore_n (lv' := [(2, .int (nI (a + 1))), (3, .int (nI j)), (0, .ref M), (1, .int x)]) X dX3_inState_36 (by decide) rfl ?_
          refine v_iinc (kx := 1) (v := nI (j + 1)) (lv' := [(3, .int (nI (j + 1))), (2, .int (nI (a + 1))), (0, .ref M), (1, .int x)]) X dX3_inState_37 rfl (nI_1 _) (by decide) rfl ?_
          refine v_goto (tgt := 4) X dX3_inState_40 (by decide) ?_
          exact ih4 (j + 1) (a + 1) (by omega) (by omega) (by rw [ha]; exact ct_t (decide_eq_true c27))
  exact L4 _ 0 0 (Nat.lt_succ_self _) (Nat.zero_le _) rfl

set_option maxHeartbeats 4000000 in
set_option maxRecDepth 100000 in
theorem t3_sideOf {l : Launch} {G : GT} {bb : Nat} {s0 : State} (E0 : EN l G bb s0) (h : HF) (t : Nat) (ht : t < 2 ^ 30) : HM l G s0 yX3_sideOf [Cond.code yX3_sideOf cX3_sideOf 1 (some .int)] { frames := 0, cells := 0, slots := 0, locals := 0 } [.int (nI t)] h (fun v h9 => v = some (.int (if t % 2 = 0 then nI 1 else (-1))) ∧ h = h9) nox 0 0 := by
  refine HM.of (cc := cX3_sideOf) (nL := 1) (own := RX3) (nm := "sideOf") (lv := [(0, .int (nI t))]) (by decide) rfl rfl E0 (Nat.le_of_ble_eq_true rfl) rfl (fun p e s m args below meth c X => ?_)
  refine v_iload_n X dX3_sideOf_0 rfl ?_
  refine v_iconst (v := nI 2) X dX3_sideOf_1 rfl ?_
  refine v_iremN (a := t) (b := 2) X dX3_sideOf_2 rfl rfl (by omega) (by omega) (by omega) ?_
  refine v_if_neN (tgt := 10) (a := t % 2) X dX3_sideOf_3 (by decide) rfl (by omega) (fun c3 => ?_) (fun c3 => ?_)
  · refine v_iconst (v := (-1)) X dX3_sideOf_10 rfl ?_
    exact v_iret (x := (-1)) X dX3_sideOf_11 rfl rfl (Nat.le_refl _) (Nat.le_refl _) ⟨by rw [if_neg (by omega)], rfl⟩
  · refine v_iconst (v := nI 1) X dX3_sideOf_6 rfl ?_
    refine v_goto (tgt := 11) X dX3_sideOf_7 (by decide) ?_
    exact v_iret (x := nI 1) X dX3_sideOf_11 rfl rfl (Nat.le_refl _) (Nat.le_refl _) ⟨by rw [if_pos c3], rfl⟩

set_option maxHeartbeats 4000000 in
set_option maxRecDepth 100000 in
theorem t3_waysOf {l : Launch} {G : GT} {bb : Nat} {s0 : State} (E0 : EN l G bb s0) (h : HF) (t : Nat) (ht : t < 2 ^ 30) : HM l G s0 yX3_waysOf [Cond.code yX3_waysOf cX3_waysOf 1 (some .int)] { frames := 0, cells := 0, slots := 0, locals := 0 } [.int (nI t)] h (fun v h9 => v = some (.int (nI (ways t))) ∧ h = h9) nox 0 0 := by
  refine HM.of (cc := cX3_waysOf) (nL := 1) (own := RX3) (nm := "waysOf") (lv := [(0, .int (nI t))]) (by decide) rfl rfl E0 (Nat.le_of_ble_eq_true rfl) rfl (fun p e s m args below meth c X => ?_)
  refine v_iconst (v := nI 1) X dX3_waysOf_0 rfl ?_
  refine v_iload_n X dX3_waysOf_1 rfl ?_
  refine v_iconst (v := nI 2) X dX3_waysOf_2 rfl ?_
  refine v_idivN (a := t) (b := 2) X dX3_waysOf_3 rfl rfl (by omega) (by omega) (by omega) ?_
  refine v_iconst (v := nI 3) X dX3_waysOf_4 rfl ?_
  refine v_iremN (a := t / 2) (b := 3) X dX3_waysOf_5 rfl rfl (by omega) (by omega) (by omega) ?_
  refine v_iaddN (a := 1) (b := (t / 2) % 3) X dX3_waysOf_6 rfl rfl ?_
  exact v_iret (x := nI (1 + (t / 2) % 3)) X dX3_waysOf_7 rfl rfl (Nat.le_refl _) (Nat.le_refl _) ⟨rfl, rfl⟩

set_option maxHeartbeats 4000000 in
set_option maxRecDepth 100000 in
theorem t3_month {l : Launch} {G : GT} {bb : Nat} {s0 : State} (E0 : EN l G bb s0) (h : HF) {hx : HF} {M : Nat} {ad : Nat → Nat} {w4 w6 w7 w8 w9 w10 w11 w13 w19 w20 w21 w22 w24 : Int32} {m0 m1 m2 m3 m5 m12 m14 m15 m16 m17 m18 m23 : FA} (hT : TW G hx h M ad w4 w6 w7 w8 w9 w10 w11 w13 w19 w20 w21 w22 w24 m0 m1 m2 m3 m5 m12 m14 m15 m16 m17 m18 m23) (hg : Gn (m0)) : HM l G s0 yX3_month [Cond.code yX3_month cX3_month 1 (some .int)] { frames := 0, cells := 0, slots := 0, locals := 0 } [.ref M] h (fun v h9 => v = some (.int (nI (nN (m0) / 30 % 12))) ∧ h = h9) nox 0 0 := by
  refine HM.of (cc := cX3_month) (nL := 1) (own := RX3) (nm := "month") (lv := [(0, .ref M)]) (by decide) rfl rfl E0 (Nat.le_of_ble_eq_true rfl) rfl (fun p e s m args below meth c X => ?_)
  have hgr := hg.rb
  have hgo := hg.ob
  have hgv := hg.vb
  have hgn := hg.nb
  refine v_aload_n X dX3_month_0 rfl ?_
  refine v_get (v := .ref (ad 0)) X dX3_month_1 fr_X3_9 hT.o rfl ?_
  refine v_iconst (v := nI 5) X dX3_month_4 rfl ?_
  refine v_iald (f := m0) (j := 5) X dX3_month_5 hT.a0 rfl (by omega) (by decide) ?_
  refine v_eqi hg.n ?_
  refine v_bipush (v := nI 30) X dX3_month_6 rfl ?_
  refine v_idivN (a := nN (m0)) (b := 30) X dX3_month_8 rfl rfl (by omega) (by omega) (by omega) ?_
  refine v_bipush (v := nI 12) X dX3_month_9 rfl ?_
  refine v_iremN (a := (nN (m0)) / 30) (b := 12) X dX3_month_11 rfl rfl (by omega) (by omega) (by omega) ?_
  exact v_iret (x := nI (((nN (m0)) / 30) % 12)) X dX3_month_12 rfl rfl (Nat.le_refl _) (Nat.le_refl _) ⟨rfl, rfl⟩

set_option maxHeartbeats 4000000 in
set_option maxRecDepth 100000 in
theorem t3_isInRound {l : Launch} {G : GT} {bb : Nat} {s0 : State} (E0 : EN l G bb s0) (h : HF) {hx : HF} {M : Nat} {ad : Nat → Nat} {w4 w6 w7 w8 w9 w10 w11 w13 w19 w20 w21 w22 w24 : Int32} {m0 m1 m2 m3 m5 m12 m14 m15 m16 m17 m18 m23 : FA} (hT : TW G hx h M ad w4 w6 w7 w8 w9 w10 w11 w13 w19 w20 w21 w22 w24 m0 m1 m2 m3 m5 m12 m14 m15 m16 m17 m18 m23) (v9 : Nat) (hv : v9 < 5) (x : Int32) : HM l G s0 yX3_isInRound [Cond.code yX3_isInRound cX3_isInRound 3 (some .boolean)] { frames := 1, cells := 0, slots := 0, locals := 25 } [.ref M, .int (nI v9), .int x] h (fun v h9 => v = some (.int (bI (inRound (m0) v9 x))) ∧ h = h9) nox 0 0 := by
  refine HM.of (cc := cX3_isInRound) (nL := 3) (own := RX3) (nm := "isInRound") (lv := [(0, .ref M), (1, .int (nI v9)), (2, .int x)]) (by decide) rfl rfl E0 (Nat.le_of_ble_eq_true rfl) rfl (fun p e s m args below meth c X => ?_)
  refine v_iload_n X dX3_isInRound_0 rfl ?_
  refine v_i2l (v := x.toInt64) X dX3_isInRound_1 rfl ?_
  refine v_aload_n X dX3_isInRound_2 rfl ?_
  refine v_get (v := .ref (ad 0)) X dX3_isInRound_3 fr_X3_9 hT.o rfl ?_
  refine v_iload_n X dX3_isInRound_6 rfl ?_
  refine v_callS (st := [.ref (ad 0), .long x.toInt64]) X dX3_isInRound_7 (t3_by E0 h v9) mr_X3_121 rfl rfl (Nat.le_of_ble_eq_true rfl) ⟨rfl, rfl⟩ ⟨Nat.le_of_ble_eq_true rfl, Nat.le_of_ble_eq_true rfl⟩ ⟨Nat.le_refl _, Nat.le_refl _⟩ (fun _ _ _ hx => v_nox hx) (fun v9 h9 hp => ?_)
  obtain ⟨rfl, rfl⟩ := hp
  refine v_iald (f := m0) (j := 270 + 5 * v9) X dX3_isInRound_10 hT.a0 rfl (by omega) (by decide) ?_
  refine v_i2l (v := (m0 (270 + 5 * v9)).toInt64) X dX3_isInRound_11 rfl ?_
  refine v_aload_n X dX3_isInRound_12 rfl ?_
  refine v_get (v := .ref (ad 0)) X dX3_isInRound_13 fr_X3_9 hT.o rfl ?_
  refine v_iload_n X dX3_isInRound_16 rfl ?_
  refine v_callS (st := [.ref (ad 0), .long ((m0 (270 + 5 * v9)).toInt64), .long x.toInt64]) X dX3_isInRound_17 (t3_by E0 h v9) mr_X3_121 rfl rfl (Nat.le_of_ble_eq_true rfl) ⟨rfl, rfl⟩ ⟨Nat.le_of_ble_eq_true rfl, Nat.le_of_ble_eq_true rfl⟩ ⟨Nat.le_refl _, Nat.le_refl _⟩ (fun _ _ _ hx => v_nox hx) (fun v9 h9 hp => ?_)
  obtain ⟨rfl, rfl⟩ := hp
  refine v_iconst (v := nI 1) X dX3_isInRound_20 rfl ?_
  refine v_iaddN (a := 270 + 5 * v9) (b := 1) X dX3_isInRound_21 rfl rfl ?_
  refine v_iald (f := m0) (j := 270 + 5 * v9 + 1) X dX3_isInRound_22 hT.a0 rfl (by omega) (by decide) ?_
  refine v_i2l (v := (m0 (270 + 5 * v9 + 1)).toInt64) X dX3_isInRound_23 rfl ?_
  refine v_callS (st := []) X dX3_isInRound_24 (t3_in E0 h x (m0 (270 + 5 * v9)) (m0 (270 + 5 * v9 + 1))) mr_X3_71 rfl rfl (Nat.le_of_ble_eq_true rfl) ⟨rfl, rfl⟩ ⟨Nat.le_of_ble_eq_true rfl, Nat.le_of_ble_eq_true rfl⟩ ⟨Nat.le_refl _, Nat.le_refl _⟩ (fun _ _ _ hx => v_nox hx) (fun v9 h9 hp => ?_)
  obtain ⟨rfl, rfl⟩ := hp
  exact v_iret (x := bI (t_in x (m0 (270 + 5 * v9)) (m0 (270 + 5 * v9 + 1)))) X dX3_isInRound_27 rfl (bI_nar _) (Nat.le_refl _) (Nat.le_refl _) ⟨rfl, rfl⟩

set_option maxHeartbeats 4000000 in
set_option maxRecDepth 100000 in
theorem t3_seerOf {l : Launch} {G : GT} {bb : Nat} {s0 : State} (E0 : EN l G bb s0) (h : HF) {hx : HF} {M : Nat} {ad : Nat → Nat} {w4 w6 w7 w8 w9 w10 w11 w13 w19 w20 w21 w22 w24 : Int32} {m0 m1 m2 m3 m5 m12 m14 m15 m16 m17 m18 m23 : FA} (hT : TW G hx h M ad w4 w6 w7 w8 w9 w10 w11 w13 w19 w20 w21 w22 w24 m0 m1 m2 m3 m5 m12 m14 m15 m16 m17 m18 m23) (hg : Gn (m0)) (o : Nat) (ho : o < 35) : HM l G s0 yX3_seerOf [Cond.code yX3_seerOf cX3_seerOf 3 (some .int)] { frames := 2, cells := 0, slots := 0, locals := 47 } [.ref M, .int (nI o)] h (fun v h9 => v = some (.int (oI (seer (m0) o))) ∧ h = h9) nox 0 0 := by
  refine HM.of (cc := cX3_seerOf) (nL := 3) (own := RX3) (nm := "seerOf") (lv := [(0, .ref M), (1, .int (nI o))]) (by decide) rfl rfl E0 (Nat.le_of_ble_eq_true rfl) rfl (fun p e s m args below meth c X => ?_)
  have hgr := hg.rb
  have hgo := hg.ob
  have hgv := hg.vb
  have hgn := hg.nb
  refine v_iconst (v := nI 0) X dX3_seerOf_0 rfl ?_
  refine v_istore_n (lv' := [(2, .int (nI 0)), (0, .ref M), (1, .int (nI o))]) X dX3_seerOf_1 (by decide) rfl ?_
  have L2 : ∀ (N2 : Nat) (j : Nat) (hm2 : nV (m0) - j < N2) (hj : j ≤ nV (m0)) (hs : ∀ i, i < j → inRound (m0) i (m0 (120 + 5 * o + 1)) = false), V p l e { frames := 2, cells := 0, slots := 0, locals := 47 } s m args below meth c (VQ below args s G s0 (fun v h9 => v = some (.int (oI (seer (m0) o))) ∧ h = h9) nox 0 0) G s0.heap.size 3 2 [(2, .int (nI j)), (0, .ref M), (1, .int (nI o))] [] h 0 0 := by
    intro N2
    induction N2 with
    | zero =>
      intro j hm2
      exact absurd hm2 (Nat.not_lt_zero _)
    | succ N2 ih2 =>
      intro j hm2 hj hs
      refine v_iload_n X dX3_seerOf_2 rfl ?_
      refine v_aload_n X dX3_seerOf_3 rfl ?_
      refine v_get (v := .ref (ad 0)) X dX3_seerOf_4 fr_X3_9 hT.o rfl ?_
      refine v_iconst (v := nI 2) X dX3_seerOf_7 rfl ?_
      refine v_iald (f := m0) (j := 2) X dX3_seerOf_8 hT.a0 rfl (by omega) (by decide) ?_
      refine v_eqi hg.v ?_
      refine v_icmp_geN (tgt := 39) (a := j) (b := nV (m0)) X dX3_seerOf_9 (by decide) rfl rfl (by omega) (by omega) (fun c9 => ?_) (fun c9 => ?_)
      · refine v_iconst (v := (-1)) X dX3_seerOf_39 rfl ?_
        exact v_iret (x := (-1)) X dX3_seerOf_40 rfl rfl (Nat.le_refl _) (Nat.le_refl _) ⟨by rw [seer_none (fun i hi => hs i (by omega))]; rfl, rfl⟩
      · refine v_aload_n X dX3_seerOf_12 rfl ?_
        refine v_iload_n X dX3_seerOf_13 rfl ?_
        refine v_aload_n X dX3_seerOf_14 rfl ?_
        refine v_get (v := .ref (ad 0)) X dX3_seerOf_15 fr_X3_9 hT.o rfl ?_
        refine v_iload_n X dX3_seerOf_18 rfl ?_
        refine v_callS (st := [.ref (ad 0), .int (nI j), .ref M]) X dX3_seerOf_19 (t3_of E0 h o) mr_X3_75 rfl rfl (Nat.le_of_ble_eq_true rfl) ⟨rfl, rfl⟩ ⟨Nat.le_of_ble_eq_true rfl, Nat.le_of_ble_eq_true rfl⟩ ⟨Nat.le_refl _, Nat.le_refl _⟩ (fun _ _ _ hx => v_nox hx) (fun v9 h9 hp => ?_)
        obtain ⟨rfl, rfl⟩ := hp
        refine v_iconst (v := nI 1) X dX3_seerOf_22 rfl ?_
        refine v_iaddN (a := 120 + 5 * o) (b := 1) X dX3_seerOf_23 rfl rfl ?_
        refine v_iald (f := m0) (j := 120 + 5 * o + 1) X dX3_seerOf_24 hT.a0 rfl (by omega) (by decide) ?_
        refine v_callV (st := []) X dX3_seerOf_25 (t3_isInRound E0 h hT j (by omega) (m0 (120 + 5 * o + 1))) mr_X3_198 hT.o rfl rfl rfl (Nat.le_of_ble_eq_true rfl) ⟨rfl, rfl⟩ ⟨Nat.le_of_ble_eq_true rfl, Nat.le_of_ble_eq_true rfl⟩ ⟨Nat.le_refl _, Nat.le_refl _⟩ (fun _ _ _ hx => v_nox hx) (fun v9 h9 hp => ?_)
        obtain ⟨rfl, rfl⟩ := hp
        refine v_if_eqB (tgt := 33) (b := (inRound m0 j (m0 (120 + 5 * o + 1)))) X dX3_seerOf_28 (by decide) rfl (fun c28 => ?_) (fun c28 => ?_)
        · refine v_iinc (kx := 0) (v := nI (j + 1)) (lv' := [(2, .int (nI (j + 1))), (0, .ref M), (1, .int (nI o))]) X dX3_seerOf_33 rfl (nI_1 _) (by decide) rfl ?_
          refine v_goto (tgt := 2) X dX3_seerOf_36 (by decide) ?_
          exact ih2 (j + 1) (by omega) (by omega) (lt_s hs c28)
        · refine v_iload_n X dX3_seerOf_31 rfl ?_
          exact v_iret (x := nI j) X dX3_seerOf_32 rfl rfl (Nat.le_refl _) (Nat.le_refl _) ⟨by rw [seer_some c9 hs c28]; rfl, rfl⟩
  exact L2 _ 0 (Nat.lt_succ_self _) (Nat.zero_le _) (fun i hi => absurd hi (Nat.not_lt_zero i))
