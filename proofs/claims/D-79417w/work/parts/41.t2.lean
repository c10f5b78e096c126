/-! the twin: what it writes -/
set_option maxRecDepth 100000
set_option maxHeartbeats 4000000 in
set_option maxRecDepth 100000 in
theorem t3_throwing {l : Launch} {G : GT} {bb : Nat} {s0 : State} (E0 : EN l G bb s0) (h : HF) {hx : HF} {M : Nat} {ad : Nat → Nat} {w4 w6 w7 w8 w9 w10 w11 w13 w19 w20 w21 w22 w24 : Int32} {m0 m1 m2 m3 m5 m12 m14 m15 m16 m17 m18 m23 : FA} (hT : TW G hx h M ad w4 w6 w7 w8 w9 w10 w11 w13 w19 w20 w21 w22 w24 m0 m1 m2 m3 m5 m12 m14 m15 m16 m17 m18 m23) (x : Int32) : HM l G s0 yX3_throwing [Cond.code yX3_throwing cX3_throwing 2 (some .int)] { frames := 0, cells := 0, slots := 0, locals := 0 } [.ref M, .int x] h (fun v h9 => v = some (.int (nI 0)) ∧ TW G hx h9 M ad w4 w6 x w8 w9 w10 w11 w13 w19 w20 w21 w22 w24 m0 m1 m2 m3 m5 m12 m14 m15 m16 m17 m18 m23) nox 0 0 := by
  refine HM.of (cc := cX3_throwing) (nL := 2) (own := RX3) (nm := "throwing") (lv := [(0, .ref M), (1, .int x)]) (by decide) rfl rfl E0 (Nat.le_of_ble_eq_true rfl) rfl (fun p e s m args below meth c X => ?_)
  refine v_aload_n X dX3_throwing_0 rfl ?_
  refine v_iload_n X dX3_throwing_1 rfl ?_
  refine tw_put7 X hT dX3_throwing_2 fr_X3_52 (fun h1 hT1 => ?_)
  refine v_iconst (v := nI 0) X dX3_throwing_5 rfl ?_
  exact v_iret (x := nI 0) X dX3_throwing_6 rfl rfl (Nat.le_refl _) (Nat.le_refl _) ⟨rfl, hT1⟩

set_option maxHeartbeats 4000000 in
set_option maxRecDepth 100000 in
theorem t3_refuse {l : Launch} {G : GT} {bb : Nat} {s0 : State} (E0 : EN l G bb s0) (h : HF) {hx : HF} {M : Nat} {ad : Nat → Nat} {w4 w6 w7 w8 w9 w10 w11 w13 w19 w20 w21 w22 w24 : Int32} {m0 m1 m2 m3 m5 m12 m14 m15 m16 m17 m18 m23 : FA} (hT : TW G hx h M ad w4 w6 w7 w8 w9 w10 w11 w13 w19 w20 w21 w22 w24 m0 m1 m2 m3 m5 m12 m14 m15 m16 m17 m18 m23) (a b : Int32) : HM l G s0 yX3_refuse [Cond.code yX3_refuse cX3_refuse 3 (some .int)] { frames := 1, cells := 0, slots := 0, locals := 21 } [.ref M, .int a, .int b] h (fun v h9 => v = some (.int (nI 0)) ∧ TW G hx h9 M ad w4 w6 (nI 1) a b (nI 0) w11 w13 w19 w20 w21 w22 w24 m0 m1 m2 m3 m5 m12 m14 m15 m16 m17 m18 m23) nox 0 0 := by
  refine HM.of (cc := cX3_refuse) (nL := 3) (own := RX3) (nm := "refuse") (lv := [(0, .ref M), (1, .int a), (2, .int b)]) (by decide) rfl rfl E0 (Nat.le_of_ble_eq_true rfl) rfl (fun p e s m args below meth c X => ?_)
  refine v_aload_n X dX3_refuse_0 rfl ?_
  refine v_iload_n X dX3_refuse_1 rfl ?_
  refine tw_put8 X hT dX3_refuse_2 fr_X3_55 (fun h1 hT1 => ?_)
  refine v_aload_n X dX3_refuse_5 rfl ?_
  refine v_iload_n X dX3_refuse_6 rfl ?_
  refine tw_put9 X hT1 dX3_refuse_7 fr_X3_58 (fun h2 hT2 => ?_)
  refine v_aload_n X dX3_refuse_10 rfl ?_
  refine v_iconst (v := nI 0) X dX3_refuse_11 rfl ?_
  refine tw_put10 X hT2 dX3_refuse_12 fr_X3_61 (fun h3 hT3 => ?_)
  refine v_aload_n X dX3_refuse_15 rfl ?_
  refine v_iconst (v := nI 1) X dX3_refuse_16 rfl ?_
  refine v_callV (st := []) X dX3_refuse_17 (t3_throwing E0 h3 hT3 (nI 1)) mr_X3_64 hT3.o rfl rfl rfl (Nat.le_of_ble_eq_true rfl) ⟨rfl, rfl⟩ ⟨Nat.le_of_ble_eq_true rfl, Nat.le_of_ble_eq_true rfl⟩ ⟨Nat.le_refl _, Nat.le_refl _⟩ (fun _ _ _ hx => v_nox hx) (fun v9 h4 hp => ?_)
  obtain ⟨rfl, hT4⟩ := hp
  have hT4 : TW G hx h4 M ad w4 w6 (nI 1) a b (nI 0) w11 w13 w19 w20 w21 w22 w24 m0 m1 m2 m3 m5 m12 m14 m15 m16 m17 m18 m23 := hT4
  exact v_iret (x := nI 0) X dX3_refuse_20 rfl rfl (Nat.le_refl _) (Nat.le_refl _) ⟨rfl, hT4⟩

set_option maxHeartbeats 4000000 in
set_option maxRecDepth 100000 in
theorem t3_layAside {l : Launch} {G : GT} {bb : Nat} {s0 : State} (E0 : EN l G bb s0) (h : HF) {hx : HF} {M : Nat} {ad : Nat → Nat} {w4 w6 w7 w8 w9 w10 w11 w13 w19 w20 w21 w22 w24 : Int32} {m0 m1 m2 m3 m5 m12 m14 m15 m16 m17 m18 m23 : FA} (hT : TW G hx h M ad w4 w6 w7 w8 w9 w10 w11 w13 w19 w20 w21 w22 w24 m0 m1 m2 m3 m5 m12 m14 m15 m16 m17 m18 m23)  : HM l G s0 yX3_layAside [Cond.code yX3_layAside cX3_layAside 2 none] { frames := 0, cells := 0, slots := 0, locals := 0 } [.ref M] h (fun v h9 => v = none ∧ TW G hx h9 M ad w4 w6 (nI 0) w8 w9 w10 w11 w13 w19 w20 w21 w22 w24 m0 (cpy 295 m0 m1) m2 m3 m5 m12 m14 m15 m16 m17 m18 m23) nox 0 0 := by
  refine HM.of (cc := cX3_layAside) (nL := 2) (own := RX3) (nm := "layAside") (lv := [(0, .ref M)]) (by decide) rfl rfl E0 (Nat.le_of_ble_eq_true rfl) rfl (fun p e s m args below meth c X => ?_)
  refine v_aload_n X dX3_layAside_0 rfl ?_
  refine v_iconst (v := nI 0) X dX3_layAside_1 rfl ?_
  refine tw_put7 X hT dX3_layAside_2 fr_X3_52 (fun h1 hT1 => ?_)
  refine v_iconst (v := nI 0) X dX3_layAside_5 rfl ?_
  refine v_istore_n (lv' := [(1, .int (nI 0)), (0, .ref M)]) X dX3_layAside_6 (by decide) rfl ?_
  have L7 : ∀ (N7 : Nat) (j : Nat) (h1 : HF) (hm7 : 295 - j < N7) (hj : j ≤ 295) (hTl : TW G hx h1 M ad w4 w6 (nI 0) w8 w9 w10 w11 w13 w19 w20 w21 w22 w24 m0 (cpy j m0 m1) m2 m3 m5 m12 m14 m15 m16 m17 m18 m23), V p l e { frames := 0, cells := 0, slots := 0, locals := 0 } s m args below meth c (VQ below args s G s0 (fun v h9 => v = none ∧ TW G hx h9 M ad w4 w6 (nI 0) w8 w9 w10 w11 w13 w19 w20 w21 w22 w24 m0 (cpy 295 m0 m1) m2 m3 m5 m12 m14 m15 m16 m17 m18 m23) nox 0 0) G s0.heap.size 2 7 [(1, .int (nI j)), (0, .ref M)] [] h1 0 0 := by
    intro N7
    induction N7 with
    | zero =>
      intro j h1 hm7
      exact absurd hm7 (Nat.not_lt_zero _)
    | succ N7 ih7 =>
      intro j h1 hm7 hj hTl
      refine v_iload_n X dX3_layAside_7 rfl ?_
      refine v_sipush (v := nI 295) X dX3_layAside_8 rfl ?_
      refine v_icmp_geN (tgt := 32) (a := j) (b := 295) X dX3_layAside_11 (by decide) rfl rfl (by omega) (by omega) (fun c11 => ?_) (fun c11 => ?_)
      · exact v_vret X dX3_layAside_32 rfl (Nat.le_refl _) (Nat.le_refl _) ⟨rfl, (hTl.eq1 (by show cpy j m0 m1 = cpy 295 m0 m1; rw [show j = 295 by omega]))⟩
      · refine v_aload_n X dX3_layAside_14 rfl ?_
        refine v_get (v := .ref (ad 1)) X dX3_layAside_15 fr_X3_13 hTl.o rfl ?_
        refine v_iload_n X dX3_layAside_18 rfl ?_
        refine v_aload_n X dX3_layAside_19 rfl ?_
        refine v_get (v := .ref (ad 0)) X dX3_layAside_20 fr_X3_9 hTl.o rfl ?_
        refine v_iload_n X dX3_layAside_23 rfl ?_
        refine v_iald (f := m0) (j := j) X dX3_layAside_24 hTl.a0 rfl (by omega) (by decide) ?_
        refine tw_ast1 (j := j) X hTl dX3_layAside_25 rfl (by omega) (fun h2 hT2 => ?_)
        refine v_iinc (kx := 0) (v := nI (j + 1)) (lv' := [(1, .int (nI (j + 1))), (0, .ref M)]) X dX3_layAside_26 rfl (nI_1 _) (by decide) rfl ?_
        refine v_goto (tgt := 7) X dX3_layAside_29 (by decide) ?_
        exact ih7 (j + 1) h2 (by omega) (by omega) (hT2.eq1 (cpy_s j m0 m1))
  exact L7 _ 0 h1 (Nat.lt_succ_self _) (Nat.zero_le _) (hT1.eq1 (cpy_0 m0 m1))

set_option maxHeartbeats 4000000 in
set_option maxRecDepth 100000 in
theorem t3_thinks {l : Launch} {G : GT} {bb : Nat} {s0 : State} (E0 : EN l G bb s0) (h : HF) {hx : HF} {M : Nat} {ad : Nat → Nat} {w4 w6 w7 w8 w9 w10 w11 w13 w19 w20 w21 w22 w24 : Int32} {m0 m1 m2 m3 m5 m12 m14 m15 m16 m17 m18 m23 : FA} (hT : TW G hx h M ad w4 w6 w7 w8 w9 w10 w11 w13 w19 w20 w21 w22 w24 m0 m1 m2 m3 m5 m12 m14 m15 m16 m17 m18 m23)  : HM l G s0 yX3_thinks [Cond.code yX3_thinks cX3_thinks 2 none] { frames := 0, cells := 0, slots := 0, locals := 0 } [.ref M] h (fun v h9 => v = none ∧ TW G hx h9 M ad w4 w6 w7 w8 w9 w10 w11 w13 w19 w20 w21 w22 w24 m0 m1 (cpy 295 m0 m2) m3 m5 m12 m14 m15 m16 m17 m18 m23) nox 0 0 := by
  refine HM.of (cc := cX3_thinks) (nL := 2) (own := RX3) (nm := "thinks") (lv := [(0, .ref M)]) (by decide) rfl rfl E0 (Nat.le_of_ble_eq_true rfl) rfl (fun p e s m args below meth c X => ?_)
  refine v_iconst (v := nI 0) X dX3_thinks_0 rfl ?_
  refine v_istore_n (lv' := [(1, .int (nI 0)), (0, .ref M)]) X dX3_thinks_1 (by decide) rfl ?_
  have L2 : ∀ (N2 : Nat) (j : Nat) (h1 : HF) (hm2 : 295 - j < N2) (hj : j ≤ 295) (hTl : TW G hx h1 M ad w4 w6 w7 w8 w9 w10 w11 w13 w19 w20 w21 w22 w24 m0 m1 (cpy j m0 m2) m3 m5 m12 m14 m15 m16 m17 m18 m23), V p l e { frames := 0, cells := 0, slots := 0, locals := 0 } s m args below meth c (VQ below args s G s0 (fun v h9 => v = none ∧ TW G hx h9 M ad w4 w6 w7 w8 w9 w10 w11 w13 w19 w20 w21 w22 w24 m0 m1 (cpy 295 m0 m2) m3 m5 m12 m14 m15 m16 m17 m18 m23) nox 0 0) G s0.heap.size 2 2 [(1, .int (nI j)), (0, .ref M)] [] h1 0 0 := by
    intro N2
    induction N2 with
    | zero =>
      intro j h1 hm2
      exact absurd hm2 (Nat.not_lt_zero _)
    | succ N2 ih2 =>
      intro j h1 hm2 hj hTl
      refine v_iload_n X dX3_thinks_2 rfl ?_
      refine v_sipush (v := nI 295) X dX3_thinks_3 rfl ?_
      refine v_icmp_geN (tgt := 27) (a := j) (b := 295) X dX3_thinks_6 (by decide) rfl rfl (by omega) (by omega) (fun c6 => ?_) (fun c6 => ?_)
      · exact v_vret X dX3_thinks_27 rfl (Nat.le_refl _) (Nat.le_refl _) ⟨rfl, (hTl.eq2 (by show cpy j m0 m2 = cpy 295 m0 m2; rw [show j = 295 by omega]))⟩
      · refine v_aload_n X dX3_thinks_9 rfl ?_
        refine v_get (v := .ref (ad 2)) X dX3_thinks_10 fr_X3_16 hTl.o rfl ?_
        refine v_iload_n X dX3_thinks_13 rfl ?_
        refine v_aload_n X dX3_thinks_14 rfl ?_
        refine v_get (v := .ref (ad 0)) X dX3_thinks_15 fr_X3_9 hTl.o rfl ?_
        refine v_iload_n X dX3_thinks_18 rfl ?_
        refine v_iald (f := m0) (j := j) X dX3_thinks_19 hTl.a0 rfl (by omega) (by decide) ?_
        refine tw_ast2 (j := j) X hTl dX3_thinks_20 rfl (by omega) (fun h1 hT1 => ?_)
        refine v_iinc (kx := 0) (v := nI (j + 1)) (lv' := [(1, .int (nI (j + 1))), (0, .ref M)]) X dX3_thinks_21 rfl (nI_1 _) (by decide) rfl ?_
        refine v_goto (tgt := 2) X dX3_thinks_24 (by decide) ?_
        exact ih2 (j + 1) h1 (by omega) (by omega) (hT1.eq2 (cpy_s j m0 m2))
  exact L2 _ 0 h (Nat.lt_succ_self _) (Nat.zero_le _) (hT.eq2 (cpy_0 m0 m2))

set_option maxHeartbeats 4000000 in
set_option maxRecDepth 100000 in
theorem t3_wakes {l : Launch} {G : GT} {bb : Nat} {s0 : State} (E0 : EN l G bb s0) (h : HF) {hx : HF} {M : Nat} {ad : Nat → Nat} {w4 w6 w7 w8 w9 w10 w11 w13 w19 w20 w21 w22 w24 : Int32} {m0 m1 m2 m3 m5 m12 m14 m15 m16 m17 m18 m23 : FA} (hT : TW G hx h M ad w4 w6 w7 w8 w9 w10 w11 w13 w19 w20 w21 w22 w24 m0 m1 m2 m3 m5 m12 m14 m15 m16 m17 m18 m23)  : HM l G s0 yX3_wakes [Cond.code yX3_wakes cX3_wakes 2 none] { frames := 0, cells := 0, slots := 0, locals := 0 } [.ref M] h (fun v h9 => v = none ∧ TW G hx h9 M ad w4 w6 w7 w8 w9 w10 w11 w13 w19 w20 w21 w22 w24 (cpy 295 m2 m0) m1 m2 m3 m5 m12 m14 m15 m16 m17 m18 m23) nox 0 0 := by
  refine HM.of (cc := cX3_wakes) (nL := 2) (own := RX3) (nm := "wakes") (lv := [(0, .ref M)]) (by decide) rfl rfl E0 (Nat.le_of_ble_eq_true rfl) rfl (fun p e s m args below meth c X => ?_)
  refine v_iconst (v := nI 0) X dX3_wakes_0 rfl ?_
  refine v_istore_n (lv' := [(1, .int (nI 0)), (0, .ref M)]) X dX3_wakes_1 (by decide) rfl ?_
  have L2 : ∀ (N2 : Nat) (j : Nat) (h1 : HF) (hm2 : 295 - j < N2) (hj : j ≤ 295) (hTl : TW G hx h1 M ad w4 w6 w7 w8 w9 w10 w11 w13 w19 w20 w21 w22 w24 (cpy j m2 m0) m1 m2 m3 m5 m12 m14 m15 m16 m17 m18 m23), V p l e { frames := 0, cells := 0, slots := 0, locals := 0 } s m args below meth c (VQ below args s G s0 (fun v h9 => v = none ∧ TW G hx h9 M ad w4 w6 w7 w8 w9 w10 w11 w13 w19 w20 w21 w22 w24 (cpy 295 m2 m0) m1 m2 m3 m5 m12 m14 m15 m16 m17 m18 m23) nox 0 0) G s0.heap.size 2 2 [(1, .int (nI j)), (0, .ref M)] [] h1 0 0 := by
    intro N2
    induction N2 with
    | zero =>
      intro j h1 hm2
      exact absurd hm2 (Nat.not_lt_zero _)
    | succ N2 ih2 =>
      intro j h1 hm2 hj hTl
      refine v_iload_n X dX3_wakes_2 rfl ?_
      refine v_sipush (v := nI 295) X dX3_wakes_3 rfl ?_
      refine v_icmp_geN (tgt := 27) (a := j) (b := 295) X dX3_wakes_6 (by decide) rfl rfl (by omega) (by omega) (fun c6 => ?_) (fun c6 => ?_)
      · exact v_vret X dX3_wakes_27 rfl (Nat.le_refl _) (Nat.le_refl _) ⟨rfl, (hTl.eq0 (by show cpy j m2 m0 = cpy 295 m2 m0; rw [show j = 295 by omega]))⟩
      · refine v_aload_n X dX3_wakes_9 rfl ?_
        refine v_get (v := .ref (ad 0)) X dX3_wakes_10 fr_X3_9 hTl.o rfl ?_
        refine v_iload_n X dX3_wakes_13 rfl ?_
        refine v_aload_n X dX3_wakes_14 rfl ?_
        refine v_get (v := .ref (ad 2)) X dX3_wakes_15 fr_X3_16 hTl.o rfl ?_
        refine v_iload_n X dX3_wakes_18 rfl ?_
        refine v_iald (f := m2) (j := j) X dX3_wakes_19 hTl.a2 rfl (by omega) (by decide) ?_
        refine tw_ast0 (j := j) X hTl dX3_wakes_20 rfl (by omega) (fun h1 hT1 => ?_)
        refine v_iinc (kx := 0) (v := nI (j + 1)) (lv' := [(1, .int (nI (j + 1))), (0, .ref M)]) X dX3_wakes_21 rfl (nI_1 _) (by decide) rfl ?_
        refine v_goto (tgt := 2) X dX3_wakes_24 (by decide) ?_
        exact ih2 (j + 1) h1 (by omega) (by omega) (hT1.eq0 (cpy_s j m2 m0))
  exact L2 _ 0 h (Nat.lt_succ_self _) (Nat.zero_le _) (hT.eq0 (cpy_0 m2 m0))

set_option maxHeartbeats 4000000 in
set_option maxRecDepth 100000 in
theorem t3_changed1 {l : Launch} {G : GT} {bb : Nat} {s0 : State} (E0 : EN l G bb s0) (h : HF) {hx : HF} {M : Nat} {ad : Nat → Nat} {w4 w6 w7 w8 w9 w10 w11 w13 w19 w20 w21 w22 w24 : Int32} {m0 m1 m2 m3 m5 m12 m14 m15 m16 m17 m18 m23 : FA} (hT : TW G hx h M ad w4 w6 w7 w8 w9 w10 w11 w13 w19 w20 w21 w22 w24 m0 m1 m2 m3 m5 m12 m14 m15 m16 m17 m18 m23) (x : Int32) (h7 : w7 = nI 1) : HM l G s0 yX3_changed [Cond.code yX3_changed cX3_changed 3 (some .int)] { frames := 0, cells := 0, slots := 0, locals := 0 } [.ref M, .int x] h (fun v h9 => v = some (.int x) ∧ h = h9) nox 0 0 := by
  refine HM.of (cc := cX3_changed) (nL := 3) (own := RX3) (nm := "changed") (lv := [(0, .ref M), (1, .int x)]) (by decide) rfl rfl E0 (Nat.le_of_ble_eq_true rfl) rfl (fun p e s m args below meth c X => ?_)
  refine v_aload_n X dX3_changed_0 rfl ?_
  refine v_get (v := .int w7) X dX3_changed_1 fr_X3_52 hT.o rfl ?_
  refine v_eqi h7 ?_
  refine v_if_leN (tgt := 9) (a := 1) X dX3_changed_4 (by decide) rfl (by omega) (fun c4 => ?_) (fun c4 => ?_)
  · exact absurd c4 (by decide)
  · refine v_iload_n X dX3_changed_7 rfl ?_
    exact v_iret (x := x) X dX3_changed_8 rfl rfl (Nat.le_refl _) (Nat.le_refl _) ⟨rfl, rfl⟩

set_option maxHeartbeats 4000000 in
set_option maxRecDepth 100000 in
theorem t3_changed0 {l : Launch} {G : GT} {bb : Nat} {s0 : State} (E0 : EN l G bb s0) (h : HF) {hx : HF} {M : Nat} {ad : Nat → Nat} {w4 w6 w7 w8 w9 w10 w11 w13 w19 w20 w21 w22 w24 : Int32} {m0 m1 m2 m3 m5 m12 m14 m15 m16 m17 m18 m23 : FA} (hT : TW G hx h M ad w4 w6 w7 w8 w9 w10 w11 w13 w19 w20 w21 w22 w24 m0 m1 m2 m3 m5 m12 m14 m15 m16 m17 m18 m23) (x : Int32) (h7 : w7 = nI 0) (c9 : Nat) (hc9 : w6 = nI c9) (hc8 : c9 ≤ 8) : HM l G s0 yX3_changed [Cond.code yX3_changed cX3_changed 3 (some .int)] { frames := 0, cells := 0, slots := 0, locals := 0 } [.ref M, .int x] h (fun v h9 => v = some (.int x) ∧ TW G hx h9 M ad w4 (nI (pushN c9)) w7 w8 w9 w10 w11 w13 w19 w20 w21 w22 w24 m0 m1 m2 m3 (pushP m5 m1 c9) m12 m14 m15 m16 m17 m18 m23) nox 0 0 := by
  refine HM.of (cc := cX3_changed) (nL := 3) (own := RX3) (nm := "changed") (lv := [(0, .ref M), (1, .int x)]) (by decide) rfl rfl E0 (Nat.le_of_ble_eq_true rfl) rfl (fun p e s m args below meth c X => ?_)
  refine v_aload_n X dX3_changed_0 rfl ?_
  refine v_get (v := .int w7) X dX3_changed_1 fr_X3_52 hT.o rfl ?_
  refine v_eqi h7 ?_
  refine v_if_leN (tgt := 9) (a := 0) X dX3_changed_4 (by decide) rfl (by omega) (fun c4 => ?_) (fun c4 => ?_)
  · refine v_aload_n X dX3_changed_9 rfl ?_
    refine v_get (v := .int w6) X dX3_changed_10 fr_X3_68 hT.o rfl ?_
    refine v_eqi hc9 ?_
    refine v_bipush (v := nI 8) X dX3_changed_13 rfl ?_
    refine v_icmp_neN (tgt := 59) (a := c9) (b := 8) X dX3_changed_15 (by decide) rfl rfl (by omega) (by omega) (fun c15 => ?_) (fun c15 => ?_)
    · refine v_iconst (v := nI 0) X dX3_changed_59 rfl ?_
      refine v_istore_n (lv' := [(2, .int (nI 0)), (0, .ref M), (1, .int x)]) X dX3_changed_60 (by decide) rfl ?_
      have L61 : ∀ (N61 : Nat) (i : Nat) (h2 : HF) (hm61 : 295 - i < N61) (hi : i ≤ 295) (hTm : TW G hx h2 M ad w4 w6 w7 w8 w9 w10 w11 w13 w19 w20 w21 w22 w24 m0 m1 m2 m3 (pputJ (m5) (m1) c9 i) m12 m14 m15 m16 m17 m18 m23), V p l e { frames := 0, cells := 0, slots := 0, locals := 0 } s m args below meth c (VQ below args s G s0 (fun v h9 => v = some (.int x) ∧ TW G hx h9 M ad w4 (nI (pushN c9)) w7 w8 w9 w10 w11 w13 w19 w20 w21 w22 w24 m0 m1 m2 m3 (pushP m5 m1 c9) m12 m14 m15 m16 m17 m18 m23) nox 0 0) G s0.heap.size 3 61 [(2, .int (nI i)), (0, .ref M), (1, .int x)] [] h2 0 0 := by
        intro N61
        induction N61 with
        | zero =>
          intro i h2 hm61
          exact absurd hm61 (Nat.not_lt_zero _)
        | succ N61 ih61 =>
          intro i h2 hm61 hi hTm
          refine v_iload_n X dX3_changed_61 rfl ?_
          refine v_sipush (v := nI 295) X dX3_changed_62 rfl ?_
          refine v_icmp_geN (tgt := 95) (a := i) (b := 295) X dX3_changed_65 (by decide) rfl rfl (by omega) (by omega) (fun c65 => ?_) (fun c65 => ?_)
          · refine v_aload_n X dX3_changed_95 rfl ?_
            refine v_dup X dX3_changed_96 rfl ?_
            refine v_get (v := .int w6) X dX3_changed_97 fr_X3_68 hTm.o rfl ?_
            refine v_eqi hc9 ?_
            refine v_iconst (v := nI 1) X dX3_changed_100 rfl ?_
            refine v_iaddN (a := c9) (b := 1) X dX3_changed_101 rfl rfl ?_
            refine tw_put6 X hTm dX3_changed_102 fr_X3_68 (fun h1 hT1 => ?_)
            refine v_iload_n X dX3_changed_105 rfl ?_
            exact v_iret (x := x) X dX3_changed_106 rfl rfl (Nat.le_refl _) (Nat.le_refl _) ⟨rfl, (by rw [show pushN c9 = c9 + 1 from if_neg c15]; exact (hT1.eq5 (by show pputJ (m5) (m1) c9 i = pushP (m5) (m1) c9; unfold pushP; rw [if_neg c15, show i = 295 by omega])))⟩
          · refine v_aload_n X dX3_changed_68 rfl ?_
            refine v_get (v := .ref (ad 5)) X dX3_changed_69 fr_X3_22 hTm.o rfl ?_
            refine v_sipush (v := nI 295) X dX3_changed_72 rfl ?_
            refine v_aload_n X dX3_changed_75 rfl ?_
            refine v_get (v := .int w6) X dX3_changed_76 fr_X3_68 hTm.o rfl ?_
            refine v_eqi hc9 ?_
            refine v_imulN (a := 295) (b := c9) X dX3_changed_79 rfl rfl ?_
            refine v_iload_n X dX3_changed_80 rfl ?_
            refine v_iaddN (a := 295 * c9) (b := i) X dX3_changed_81 rfl rfl ?_
            refine v_aload_n X dX3_changed_82 rfl ?_
            refine v_get (v := .ref (ad 1)) X dX3_changed_83 fr_X3_13 hTm.o rfl ?_
            refine v_iload_n X dX3_changed_86 rfl ?_
            refine v_iald (f := m1) (j := i) X dX3_changed_87 hTm.a1 rfl (by omega) (by decide) ?_
            refine tw_ast5 (j := 295 * c9 + i) X hTm dX3_changed_88 rfl (by omega) (fun h2 hT2 => ?_)
            refine v_iinc (kx := 0) (v := nI (i + 1)) (lv' := [(2, .int (nI (i + 1))), (0, .ref M), (1, .int x)]) X dX3_changed_89 rfl (nI_1 _) (by decide) rfl ?_
            refine v_goto (tgt := 61) X dX3_changed_92 (by decide) ?_
            exact ih61 (i + 1) h2 (by omega) (by omega) (hT2.eq5 (pput_s (m5) (m1) c9 i))
      exact L61 _ 0 h (Nat.lt_succ_self _) (Nat.zero_le _) (hT.eq5 (pput_0 (m5) (m1) c9))
    · refine v_iconst (v := nI 0) X dX3_changed_18 rfl ?_
      refine v_istore_n (lv' := [(2, .int (nI 0)), (0, .ref M), (1, .int x)]) X dX3_changed_19 (by decide) rfl ?_
      have L20 : ∀ (N20 : Nat) (j : Nat) (h1 : HF) (hm20 : 2065 - j < N20) (hj : j ≤ 2065) (hTl : TW G hx h1 M ad w4 w6 w7 w8 w9 w10 w11 w13 w19 w20 w21 w22 w24 m0 m1 m2 m3 (pshJ (m5) j) m12 m14 m15 m16 m17 m18 m23), V p l e { frames := 0, cells := 0, slots := 0, locals := 0 } s m args below meth c (VQ below args s G s0 (fun v h9 => v = some (.int x) ∧ TW G hx h9 M ad w4 (nI (pushN c9)) w7 w8 w9 w10 w11 w13 w19 w20 w21 w22 w24 m0 m1 m2 m3 (pushP m5 m1 c9) m12 m14 m15 m16 m17 m18 m23) nox 0 0) G s0.heap.size 3 20 [(2, .int (nI j)), (0, .ref M), (1, .int x)] [] h1 0 0 := by
        intro N20
        induction N20 with
        | zero =>
          intro j h1 hm20
          exact absurd hm20 (Nat.not_lt_zero _)
        | succ N20 ih20 =>
          intro j h1 hm20 hj hTl
          refine v_iload_n X dX3_changed_20 rfl ?_
          refine v_sipush (v := nI 2065) X dX3_changed_21 rfl ?_
          refine v_icmp_geN (tgt := 49) (a := j) (b := 2065) X dX3_changed_24 (by decide) rfl rfl (by omega) (by omega) (fun c24 => ?_) (fun c24 => ?_)
          · refine v_aload_n X dX3_changed_49 rfl ?_
            refine v_dup X dX3_changed_50 rfl ?_
            refine v_get (v := .int w6) X dX3_changed_51 fr_X3_68 hTl.o rfl ?_
            refine v_eqi (by rw [hc9, c15]) ?_
            refine v_iconst (v := nI 1) X dX3_changed_54 rfl ?_
            refine v_isubN (a := 8) (b := 1) X dX3_changed_55 rfl rfl (by omega) ?_
            refine tw_put6 X hTl dX3_changed_56 fr_X3_68 (fun h3 hT3 => ?_)
            refine v_iconst (v := nI 0) X dX3_changed_59 rfl ?_
            refine v_istore_n (lv' := [(2, .int (nI 0)), (0, .ref M), (1, .int x)]) X dX3_changed_60 (by decide) rfl ?_
            have L61 : ∀ (N61 : Nat) (i : Nat) (h2 : HF) (hm61 : 295 - i < N61) (hi : i ≤ 295) (hTm : TW G hx h2 M ad w4 (nI 7) w7 w8 w9 w10 w11 w13 w19 w20 w21 w22 w24 m0 m1 m2 m3 (pputJ (pshJ (m5) 2065) (m1) 7 i) m12 m14 m15 m16 m17 m18 m23), V p l e { frames := 0, cells := 0, slots := 0, locals := 0 } s m args below meth c (VQ below args s G s0 (fun v h9 => v = some (.int x) ∧ TW G hx h9 M ad w4 (nI (pushN c9)) w7 w8 w9 w10 w11 w13 w19 w20 w21 w22 w24 m0 m1 m2 m3 (pushP m5 m1 c9) m12 m14 m15 m16 m17 m18 m23) nox 0 0) G s0.heap.size 3 61 [(2, .int (nI i)), (0, .ref M), (1, .int x)] [] h2 0 0 := by
              intro N61
              induction N61 with
              | zero =>
                intro i h2 hm61
                exact absurd hm61 (Nat.not_lt_zero _)
              | succ N61 ih61 =>
                intro i h2 hm61 hi hTm
                refine v_iload_n X dX3_changed_61 rfl ?_
                refine v_sipush (v := nI 295) X dX3_changed_62 rfl ?_
                refine v_icmp_geN (tgt := 95) (a := i) (b := 295) X dX3_changed_65 (by decide) rfl rfl (by omega) (by omega) (fun c65 => ?_) (fun c65 => ?_)
                · refine v_aload_n X dX3_changed_95 rfl ?_
                  refine v_dup X dX3_changed_96 rfl ?_
                  refine v_get (v := .int (nI 7)) X dX3_changed_97 fr_X3_68 hTm.o rfl ?_
                  refine v_eqi rfl ?_
                  refine v_iconst (v := nI 1) X dX3_changed_100 rfl ?_
                  refine v_iaddN (a := 7) (b := 1) X dX3_changed_101 rfl rfl ?_
                  refine tw_put6 X hTm dX3_changed_102 fr_X3_68 (fun h4 hT4 => ?_)
                  refine v_iload_n X dX3_changed_105 rfl ?_
                  exact v_iret (x := x) X dX3_changed_106 rfl rfl (Nat.le_refl _) (Nat.le_refl _) ⟨rfl, (by rw [show pushN c9 = 8 from if_pos c15]; exact (hT4.eq5 (by show pputJ (pshJ (m5) 2065) (m1) 7 i = pushP (m5) (m1) c9; unfold pushP; rw [if_pos c15, show i = 295 by omega])))⟩
                · refine v_aload_n X dX3_changed_68 rfl ?_
                  refine v_get (v := .ref (ad 5)) X dX3_changed_69 fr_X3_22 hTm.o rfl ?_
                  refine v_sipush (v := nI 295) X dX3_changed_72 rfl ?_
                  refine v_aload_n X dX3_changed_75 rfl ?_
                  refine v_get (v := .int (nI 7)) X dX3_changed_76 fr_X3_68 hTm.o rfl ?_
                  refine v_eqi rfl ?_
                  refine v_imulN (a := 295) (b := 7) X dX3_changed_79 rfl rfl ?_
                  refine v_iload_n X dX3_changed_80 rfl ?_
                  refine v_iaddN (a := 2065) (b := i) X dX3_changed_81 rfl rfl ?_
                  refine v_aload_n X dX3_changed_82 rfl ?_
                  refine v_get (v := .ref (ad 1)) X dX3_changed_83 fr_X3_13 hTm.o rfl ?_
                  refine v_iload_n X dX3_changed_86 rfl ?_
                  refine v_iald (f := m1) (j := i) X dX3_changed_87 hTm.a1 rfl (by omega) (by decide) ?_
                  refine tw_ast5 (j := 2065 + i) X hTm dX3_changed_88 rfl (by omega) (fun h5 hT5 => ?_)
                  refine v_iinc (kx := 0) (v := nI (i + 1)) (lv' := [(2, .int (nI (i + 1))), (0, .ref M), (1, .int x)]) X dX3_changed_89 rfl (nI_1 _) (by decide) rfl ?_
                  refine v_goto (tgt := 61) X dX3_changed_92 (by decide) ?_
                  exact ih61 (i + 1) h5 (by omega) (by omega) (hT5.eq5 (pput_s (pshJ (m5) 2065) (m1) 7 i))
            exact L61 _ 0 h3 (Nat.lt_succ_self _) (Nat.zero_le _) (hT3.eq5 (by show pshJ (m5) j = pputJ (pshJ (m5) 2065) (m1) 7 0; rw [show j = 2065 by omega]; exact pput_0 _ _ _))
          · refine v_aload_n X dX3_changed_27 rfl ?_
            refine v_get (v := .ref (ad 5)) X dX3_changed_28 fr_X3_22 hTl.o rfl ?_
            refine v_iload_n X dX3_changed_31 rfl ?_
            refine v_aload_n X dX3_changed_32 rfl ?_
            refine v_get (v := .ref (ad 5)) X dX3_changed_33 fr_X3_22 hTl.o rfl ?_
            refine v_iload_n X dX3_changed_36 rfl ?_
            refine v_sipush (v := nI 295) X dX3_changed_37 rfl ?_
            refine v_iaddN (a := j) (b := 295) X dX3_changed_40 rfl rfl ?_
            refine v_iald (f := pshJ (m5) j) (j := j + 295) X dX3_changed_41 hTl.a5 rfl (by omega) (by decide) ?_
            refine tw_ast5 (j := j) X hTl dX3_changed_42 rfl (by omega) (fun h6 hT6 => ?_)
            refine v_iinc (kx := 0) (v := nI (j + 1)) (lv' := [(2, .int (nI (j + 1))), (0, .ref M), (1, .int x)]) X dX3_changed_43 rfl (nI_1 _) (by decide) rfl ?_
            refine v_goto (tgt := 20) X dX3_changed_46 (by decide) ?_
            exact ih20 (j + 1) h6 (by omega) (by omega) (hT6.eq5 ((congrArg (upd _ _) (psh_at (m5) j)).trans (psh_s (m5) j)))
      exact L20 _ 0 h (Nat.lt_succ_self _) (Nat.zero_le _) (hT.eq5 (psh_0 (m5)))
  · exact absurd c4 (by decide)
