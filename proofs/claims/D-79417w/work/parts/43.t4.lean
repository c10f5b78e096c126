/-! the twin: nights -/
set_option maxRecDepth 100000
set_option maxHeartbeats 4000000 in
set_option maxRecDepth 100000 in
theorem t3_isKilledAt {l : Launch} {G : GT} {bb : Nat} {s0 : State} (E0 : EN l G bb s0) (h : HF) {hx : HF} {M : Nat} {ad : Nat → Nat} {w4 w6 w7 w8 w9 w10 w11 w13 w19 w20 w21 w22 w24 : Int32} {m0 m1 m2 m3 m5 m12 m14 m15 m16 m17 m18 m23 : FA} (hT : TW G hx h M ad w4 w6 w7 w8 w9 w10 w11 w13 w19 w20 w21 w22 w24 m0 m1 m2 m3 m5 m12 m14 m15 m16 m17 m18 m23) (x : Nat) (hx9 : x < 12) : HM l G s0 yX3_isKilledAt [Cond.code yX3_isKilledAt cX3_isKilledAt 3 (some .boolean)] { frames := 1, cells := 0, slots := 0, locals := 20 } [.ref M, .int (nI x)] h (fun v h9 => v = some (.int (bI (kills m0 x))) ∧ TW G hx h9 M ad w4 w6 w7 w8 w9 w10 w11 w13 w19 w20 w21 w22 w24 (crsF m0 x) m1 m2 m3 m5 m12 m14 m15 m16 m17 m18 m23) nox 0 0 := by
  refine HM.of (cc := cX3_isKilledAt) (nL := 3) (own := RX3) (nm := "isKilledAt") (lv := [(0, .ref M), (1, .int (nI x))]) (by decide) rfl rfl E0 (Nat.le_of_ble_eq_true rfl) rfl (fun p e s m args below meth c X => ?_)
  refine v_iload_n X dX3_isKilledAt_0 rfl ?_
  refine v_callS (st := []) X dX3_isKilledAt_1 (t3_at E0 h x) mr_X3_86 rfl rfl (Nat.le_of_ble_eq_true rfl) ⟨rfl, rfl⟩ ⟨Nat.le_of_ble_eq_true rfl, Nat.le_of_ble_eq_true rfl⟩ ⟨Nat.le_refl _, Nat.le_refl _⟩ (fun _ _ _ hx => v_nox hx) (fun v9 h9 hp => ?_)
  obtain ⟨rfl, rfl⟩ := hp
  refine v_istore_n (lv' := [(2, .int (nI (12 + 9 * x))), (0, .ref M), (1, .int (nI x))]) X dX3_isKilledAt_4 (by decide) rfl ?_
  refine v_aload_n X dX3_isKilledAt_5 rfl ?_
  refine v_get (v := .ref (ad 0)) X dX3_isKilledAt_6 fr_X3_9 hT.o rfl ?_
  refine v_iconst (v := nI 3) X dX3_isKilledAt_9 rfl ?_
  refine v_iald (f := m0) (j := 3) X dX3_isKilledAt_10 hT.a0 rfl (by omega) (by decide) ?_
  refine v_aload_n X dX3_isKilledAt_11 rfl ?_
  refine v_get (v := .ref (ad 0)) X dX3_isKilledAt_12 fr_X3_9 hT.o rfl ?_
  refine v_iload_n X dX3_isKilledAt_15 rfl ?_
  refine v_iconst (v := nI 1) X dX3_isKilledAt_16 rfl ?_
  refine v_iaddN (a := 12 + 9 * x) (b := 1) X dX3_isKilledAt_17 rfl rfl ?_
  refine v_iald (f := m0) (j := 12 + 9 * x + 1) X dX3_isKilledAt_18 hT.a0 rfl (by omega) (by decide) ?_
  refine v_icmp_ge (tgt := 24) X dX3_isKilledAt_19 (by decide) (fun c19 => ?_) (fun c19 => ?_)
  · refine v_aload_n X dX3_isKilledAt_24 rfl ?_
    refine v_get (v := .ref (ad 0)) X dX3_isKilledAt_25 fr_X3_9 hT.o rfl ?_
    refine v_iload_n X dX3_isKilledAt_28 rfl ?_
    refine v_iconst (v := nI 3) X dX3_isKilledAt_29 rfl ?_
    refine v_iaddN (a := 12 + 9 * x) (b := 3) X dX3_isKilledAt_30 rfl rfl ?_
    refine v_dup2 X dX3_isKilledAt_31 rfl rfl ?_
    refine v_iald (f := m0) (j := 12 + 9 * x + 3) X dX3_isKilledAt_32 hT.a0 rfl (by omega) (by decide) ?_
    refine v_iconst (v := nI 1) X dX3_isKilledAt_33 rfl ?_
    refine v_iadd X dX3_isKilledAt_34 ?_
    refine tw_ast0 (j := 12 + 9 * x + 3) X hT dX3_isKilledAt_35 rfl (by omega) (fun h1 hT1 => ?_)
    refine v_aload_n X dX3_isKilledAt_36 rfl ?_
    refine v_get (v := .ref (ad 0)) X dX3_isKilledAt_37 fr_X3_9 hT1.o rfl ?_
    refine v_iload_n X dX3_isKilledAt_40 rfl ?_
    refine v_iconst (v := nI 4) X dX3_isKilledAt_41 rfl ?_
    refine v_iaddN (a := 12 + 9 * x) (b := 4) X dX3_isKilledAt_42 rfl rfl ?_
    refine v_iald (f := upd m0 (12 + 9 * x + 3) ((m0 (12 + 9 * x + 3)) + (nI 1))) (j := 12 + 9 * x + 4) X dX3_isKilledAt_43 hT1.a0 rfl (by omega) (by decide) ?_
    refine v_eqi (y := m0 (12 + 9 * x + 4)) (by rw [pk_un (by omega)]) ?_
    refine v_iconst (v := nI 1) X dX3_isKilledAt_44 rfl ?_
    refine v_icmp_ne (tgt := 65) X dX3_isKilledAt_45 (by decide) (fun c45 => ?_) (fun c45 => ?_)
    · refine v_iconst (v := nI 0) X dX3_isKilledAt_65 rfl ?_
      exact v_iret (x := nI 0) X dX3_isKilledAt_66 rfl rfl (Nat.le_refl _) (Nat.le_refl _) ⟨bf (kills_f2 c45), (hT1.eq0 (by show (upd m0 (12 + 9 * x + 3) (m0 (12 + 9 * x + 3) + nI 1)) = crsF m0 x; unfold crsF; rw [if_neg (Int32.not_lt.mpr c19)]))⟩
    · refine v_aload_n X dX3_isKilledAt_48 rfl ?_
      refine v_get (v := .ref (ad 0)) X dX3_isKilledAt_49 fr_X3_9 hT1.o rfl ?_
      refine v_iload_n X dX3_isKilledAt_52 rfl ?_
      refine v_iconst (v := nI 3) X dX3_isKilledAt_53 rfl ?_
      refine v_iaddN (a := 12 + 9 * x) (b := 3) X dX3_isKilledAt_54 rfl rfl ?_
      refine v_iald (f := upd m0 (12 + 9 * x + 3) ((m0 (12 + 9 * x + 3)) + (nI 1))) (j := 12 + 9 * x + 3) X dX3_isKilledAt_55 hT1.a0 rfl (by omega) (by decide) ?_
      refine v_eqi (y := (m0 (12 + 9 * x + 3)) + (nI 1)) (by rw [pk_us]) ?_
      refine v_iconst (v := nI 3) X dX3_isKilledAt_56 rfl ?_
      refine v_irem X dX3_isKilledAt_57 (by decide) ?_
      refine v_if_ne (tgt := 65) X dX3_isKilledAt_58 (by decide) (fun c58 => ?_) (fun c58 => ?_)
      · refine v_iconst (v := nI 0) X dX3_isKilledAt_65 rfl ?_
        exact v_iret (x := nI 0) X dX3_isKilledAt_66 rfl rfl (Nat.le_refl _) (Nat.le_refl _) ⟨bf (kills_f3 c58), (hT1.eq0 (by show (upd m0 (12 + 9 * x + 3) (m0 (12 + 9 * x + 3) + nI 1)) = crsF m0 x; unfold crsF; rw [if_neg (Int32.not_lt.mpr c19)]))⟩
      · refine v_iconst (v := nI 1) X dX3_isKilledAt_61 rfl ?_
        refine v_goto (tgt := 66) X dX3_isKilledAt_62 (by decide) ?_
        exact v_iret (x := nI 1) X dX3_isKilledAt_66 rfl rfl (Nat.le_refl _) (Nat.le_refl _) ⟨bt (kills_t (Int32.not_lt.mpr c19) c45 c58), (hT1.eq0 (by show (upd m0 (12 + 9 * x + 3) (m0 (12 + 9 * x + 3) + nI 1)) = crsF m0 x; unfold crsF; rw [if_neg (Int32.not_lt.mpr c19)]))⟩
  · refine v_iconst (v := nI 0) X dX3_isKilledAt_22 rfl ?_
    exact v_iret (x := nI 0) X dX3_isKilledAt_23 rfl rfl (Nat.le_refl _) (Nat.le_refl _) ⟨bf (kills_f1 (Int32.not_le.mp c19)), (hT.eq0 (by show m0 = crsF m0 x; unfold crsF; rw [if_pos (Int32.not_le.mp c19)]))⟩

set_option maxHeartbeats 4000000 in
set_option maxRecDepth 100000 in
theorem t3_leavesSpraint {l : Launch} {G : GT} {bb : Nat} {s0 : State} (E0 : EN l G bb s0) (h : HF) {hx : HF} {M : Nat} {ad : Nat → Nat} {w4 w6 w7 w8 w9 w10 w11 w13 w19 w20 w21 w22 w24 : Int32} {m0 m1 m2 m3 m5 m12 m14 m15 m16 m17 m18 m23 : FA} (hT : TW G hx h M ad w4 w6 w7 w8 w9 w10 w11 w13 w19 w20 w21 w22 w24 m0 m1 m2 m3 m5 m12 m14 m15 m16 m17 m18 m23) (o x : Nat) (ho : o < 35) (hx9 : x < 12) : HM l G s0 yX3_leavesSpraint [Cond.code yX3_leavesSpraint cX3_leavesSpraint 3 none] { frames := 1, cells := 0, slots := 0, locals := 20 } [.ref M, .int (nI o), .int (nI x)] h (fun v h9 => v = none ∧ TW G hx h9 M ad w4 w6 w7 w8 w9 w10 w11 w13 w19 w20 w21 w22 w24 (sprF m0 o x) m1 m2 m3 m5 m12 m14 m15 m16 m17 m18 m23) nox 0 0 := by
  refine HM.of (cc := cX3_leavesSpraint) (nL := 3) (own := RX3) (nm := "leavesSpraint") (lv := [(0, .ref M), (1, .int (nI o)), (2, .int (nI x))]) (by decide) rfl rfl E0 (Nat.le_of_ble_eq_true rfl) rfl (fun p e s m args below meth c X => ?_)
  refine v_aload_n X dX3_leavesSpraint_0 rfl ?_
  refine v_get (v := .ref (ad 0)) X dX3_leavesSpraint_1 fr_X3_9 hT.o rfl ?_
  refine v_iload_n X dX3_leavesSpraint_4 rfl ?_
  refine v_callS (st := [.ref (ad 0)]) X dX3_leavesSpraint_5 (t3_at E0 h x) mr_X3_86 rfl rfl (Nat.le_of_ble_eq_true rfl) ⟨rfl, rfl⟩ ⟨Nat.le_of_ble_eq_true rfl, Nat.le_of_ble_eq_true rfl⟩ ⟨Nat.le_refl _, Nat.le_refl _⟩ (fun _ _ _ hx => v_nox hx) (fun v9 h9 hp => ?_)
  obtain ⟨rfl, rfl⟩ := hp
  refine v_iconst (v := nI 2) X dX3_leavesSpraint_8 rfl ?_
  refine v_iaddN (a := 12 + 9 * x) (b := 2) X dX3_leavesSpraint_9 rfl rfl ?_
  refine v_iald (f := m0) (j := 12 + 9 * x + 2) X dX3_leavesSpraint_10 hT.a0 rfl (by omega) (by decide) ?_
  refine v_bipush (v := nI 99) X dX3_leavesSpraint_11 rfl ?_
  refine v_icmp_ge (tgt := 57) X dX3_leavesSpraint_13 (by decide) (fun c13 => ?_) (fun c13 => ?_)
  · exact v_vret X dX3_leavesSpraint_57 rfl (Nat.le_refl _) (Nat.le_refl _) ⟨rfl, (hT.eq0 (by show m0 = sprF m0 o x; unfold sprF; rw [if_neg (Int32.not_lt.mpr c13)]))⟩
  · refine v_aload_n X dX3_leavesSpraint_16 rfl ?_
    refine v_get (v := .ref (ad 0)) X dX3_leavesSpraint_17 fr_X3_9 hT.o rfl ?_
    refine v_iload_n X dX3_leavesSpraint_20 rfl ?_
    refine v_callS (st := [.ref (ad 0)]) X dX3_leavesSpraint_21 (t3_at E0 h x) mr_X3_86 rfl rfl (Nat.le_of_ble_eq_true rfl) ⟨rfl, rfl⟩ ⟨Nat.le_of_ble_eq_true rfl, Nat.le_of_ble_eq_true rfl⟩ ⟨Nat.le_refl _, Nat.le_refl _⟩ (fun _ _ _ hx => v_nox hx) (fun v9 h9 hp => ?_)
    obtain ⟨rfl, rfl⟩ := hp
    refine v_iconst (v := nI 2) X dX3_leavesSpraint_24 rfl ?_
    refine v_iaddN (a := 12 + 9 * x) (b := 2) X dX3_leavesSpraint_25 rfl rfl ?_
    refine v_dup2 X dX3_leavesSpraint_26 rfl rfl ?_
    refine v_iald (f := m0) (j := 12 + 9 * x + 2) X dX3_leavesSpraint_27 hT.a0 rfl (by omega) (by decide) ?_
    refine v_iconst (v := nI 1) X dX3_leavesSpraint_28 rfl ?_
    refine v_iadd X dX3_leavesSpraint_29 ?_
    refine tw_ast0 (j := 12 + 9 * x + 2) X hT dX3_leavesSpraint_30 rfl (by omega) (fun h1 hT1 => ?_)
    refine v_aload_n X dX3_leavesSpraint_31 rfl ?_
    refine v_get (v := .ref (ad 0)) X dX3_leavesSpraint_32 fr_X3_9 hT1.o rfl ?_
    refine v_iload_n X dX3_leavesSpraint_35 rfl ?_
    refine v_callS (st := [.ref (ad 0)]) X dX3_leavesSpraint_36 (t3_of E0 h1 o) mr_X3_75 rfl rfl (Nat.le_of_ble_eq_true rfl) ⟨rfl, rfl⟩ ⟨Nat.le_of_ble_eq_true rfl, Nat.le_of_ble_eq_true rfl⟩ ⟨Nat.le_refl _, Nat.le_refl _⟩ (fun _ _ _ hx => v_nox hx) (fun v9 h9 hp => ?_)
    obtain ⟨rfl, rfl⟩ := hp
    refine v_iconst (v := nI 3) X dX3_leavesSpraint_39 rfl ?_
    refine v_iaddN (a := 120 + 5 * o) (b := 3) X dX3_leavesSpraint_40 rfl rfl ?_
    refine v_dup2 X dX3_leavesSpraint_41 rfl rfl ?_
    refine v_iald (f := upd m0 (12 + 9 * x + 2) ((m0 (12 + 9 * x + 2)) + (nI 1))) (j := 120 + 5 * o + 3) X dX3_leavesSpraint_42 hT1.a0 rfl (by omega) (by decide) ?_
    refine v_eqi (y := m0 (120 + 5 * o + 3)) (by rw [pk_un (by omega)]) ?_
    refine v_iconst (v := nI 1) X dX3_leavesSpraint_43 rfl ?_
    refine v_iadd X dX3_leavesSpraint_44 ?_
    refine tw_ast0 (j := 120 + 5 * o + 3) X hT1 dX3_leavesSpraint_45 rfl (by omega) (fun h2 hT2 => ?_)
    refine v_aload_n X dX3_leavesSpraint_46 rfl ?_
    refine v_get (v := .ref (ad 0)) X dX3_leavesSpraint_47 fr_X3_9 hT2.o rfl ?_
    refine v_bipush (v := nI 8) X dX3_leavesSpraint_50 rfl ?_
    refine v_dup2 X dX3_leavesSpraint_52 rfl rfl ?_
    refine v_iald (f := upd (upd m0 (12 + 9 * x + 2) ((m0 (12 + 9 * x + 2)) + (nI 1))) (120 + 5 * o + 3) ((m0 (120 + 5 * o + 3)) + (nI 1))) (j := 8) X dX3_leavesSpraint_53 hT2.a0 rfl (by omega) (by decide) ?_
    refine v_eqi (y := m0 8) (by rw [pk_un (by omega), pk_un (by omega)]) ?_
    refine v_iconst (v := nI 1) X dX3_leavesSpraint_54 rfl ?_
    refine v_iadd X dX3_leavesSpraint_55 ?_
    refine tw_ast0 (j := 8) X hT2 dX3_leavesSpraint_56 rfl (by omega) (fun h3 hT3 => ?_)
    exact v_vret X dX3_leavesSpraint_57 rfl (Nat.le_refl _) (Nat.le_refl _) ⟨rfl, (hT3.eq0 (by show (upd (upd (upd m0 (12 + 9 * x + 2) (m0 (12 + 9 * x + 2) + nI 1)) (120 + 5 * o + 3) (m0 (120 + 5 * o + 3) + nI 1)) 8 (m0 8 + nI 1)) = sprF m0 o x; unfold sprF; rw [if_pos (Int32.not_le.mp c13)]))⟩

set_option maxHeartbeats 4000000 in
set_option maxRecDepth 100000 in
theorem t3_goesOut {l : Launch} {G : GT} {bb : Nat} {s0 : State} (E0 : EN l G bb s0) (h : HF) {hx : HF} {M : Nat} {ad : Nat → Nat} {w4 w6 w7 w8 w9 w10 w11 w13 w19 w20 w21 w22 w24 : Int32} {m0 m1 m2 m3 m5 m12 m14 m15 m16 m17 m18 m23 : FA} (hT : TW G hx h M ad w4 w6 w7 w8 w9 w10 w11 w13 w19 w20 w21 w22 w24 m0 m1 m2 m3 m5 m12 m14 m15 m16 m17 m18 m23) (hw : Wf m0) (o : Nat) (ho : o < nO m0) (hl : lives m0 o = true) : HM l G s0 yX3_goesOut [Cond.code yX3_goesOut cX3_goesOut 5 none] { frames := 2, cells := 0, slots := 0, locals := 46 } [.ref M, .int (nI o)] h (fun v h9 => v = none ∧ TW G hx h9 M ad w4 w6 w7 w8 w9 w10 w11 w13 w19 w20 w21 w22 w24 ((goesOut m0 o).1) m1 m2 m3 m5 m12 (addK m14 (goesOut m0 o).2) m15 m16 m17 m18 m23) nox 0 0 := by
  refine HM.of (cc := cX3_goesOut) (nL := 5) (own := RX3) (nm := "goesOut") (lv := [(0, .ref M), (1, .int (nI o))]) (by decide) rfl rfl E0 (Nat.le_of_ble_eq_true rfl) rfl (fun p e s m args below meth c X => ?_)
  have hg := hw.1
  have hgr := hg.rb
  have hgo := hg.ob
  have hgv := hg.vb
  have hgn := hg.nb
  obtain ⟨x0, hx0, ex0⟩ := hw.2.1 o ho hl
  have hwb := ways_b (nN m0 + o)
  refine v_aload_n X dX3_goesOut_0 rfl ?_
  refine v_get (v := .ref (ad 0)) X dX3_goesOut_1 fr_X3_9 hT.o rfl ?_
  refine v_iconst (v := nI 5) X dX3_goesOut_4 rfl ?_
  refine v_iald (f := m0) (j := 5) X dX3_goesOut_5 hT.a0 rfl (by omega) (by decide) ?_
  refine v_eqi hg.n ?_
  refine v_iload_n X dX3_goesOut_6 rfl ?_
  refine v_iaddN (a := nN (m0)) (b := o) X dX3_goesOut_7 rfl rfl ?_
  refine v_istore_n (lv' := [(2, .int (nI (nN (m0) + o))), (0, .ref M), (1, .int (nI o))]) X dX3_goesOut_8 (by decide) rfl ?_
  refine v_aload_n X dX3_goesOut_9 rfl ?_
  refine v_get (v := .ref (ad 0)) X dX3_goesOut_10 fr_X3_9 hT.o rfl ?_
  refine v_iload_n X dX3_goesOut_13 rfl ?_
  refine v_callS (st := [.ref (ad 0)]) X dX3_goesOut_14 (t3_of E0 h o) mr_X3_75 rfl rfl (Nat.le_of_ble_eq_true rfl) ⟨rfl, rfl⟩ ⟨Nat.le_of_ble_eq_true rfl, Nat.le_of_ble_eq_true rfl⟩ ⟨Nat.le_refl _, Nat.le_refl _⟩ (fun _ _ _ hx => v_nox hx) (fun v9 h9 hp => ?_)
  obtain ⟨rfl, rfl⟩ := hp
  refine v_iconst (v := nI 1) X dX3_goesOut_17 rfl ?_
  refine v_iaddN (a := 120 + 5 * o) (b := 1) X dX3_goesOut_18 rfl rfl ?_
  refine v_iald (f := m0) (j := 120 + 5 * o + 1) X dX3_goesOut_19 hT.a0 rfl (by omega) (by decide) ?_
  refine v_eqi ex0 ?_
  refine v_istore_n (lv' := [(3, .int (nI x0)), (2, .int (nI (nN (m0) + o))), (0, .ref M), (1, .int (nI o))]) X dX3_goesOut_20 (by decide) rfl ?_
  refine v_iconst (v := nI 0) X dX3_goesOut_21 rfl ?_
  refine v_istore (lv' := [(4, .int (nI 0)), (3, .int (nI x0)), (2, .int (nI (nN (m0) + o))), (0, .ref M), (1, .int (nI o))]) X dX3_goesOut_22 (by decide) rfl ?_
  have L24 : ∀ (N24 : Nat) (k : Nat) (x1 : Nat) (f1 : FA) (ks : List Nat) (h1 : HF) (hm24 : ways (nN m0 + o) - k < N24) (hk : k ≤ ways (nN m0 + o)) (hw1 : Wf f1) (hf1 : Hd m0 f1) (hR : Rest o (nN m0 + o) (ways (nN m0 + o)) m0 x0 (ways (nN m0 + o) - k) f1 x1 ks) (hTl : TW G hx h1 M ad w4 w6 w7 w8 w9 w10 w11 w13 w19 w20 w21 w22 w24 f1 m1 m2 m3 m5 m12 (addK m14 ks) m15 m16 m17 m18 m23), V p l e { frames := 2, cells := 0, slots := 0, locals := 46 } s m args below meth c (VQ below args s G s0 (fun v h9 => v = none ∧ TW G hx h9 M ad w4 w6 w7 w8 w9 w10 w11 w13 w19 w20 w21 w22 w24 ((goesOut m0 o).1) m1 m2 m3 m5 m12 (addK m14 (goesOut m0 o).2) m15 m16 m17 m18 m23) nox 0 0) G s0.heap.size 5 24 [(4, .int (nI k)), (3, .int (nI x1)), (2, .int (nI (nN (m0) + o))), (0, .ref M), (1, .int (nI o))] [] h1 0 0 := by
    intro N24
    induction N24 with
    | zero =>
      intro k x1 f1 ks h1 hm24
      exact absurd hm24 (Nat.not_lt_zero _)
    | succ N24 ih24 =>
      intro k x1 f1 ks h1 hm24 hk hw1 hf1 hR hTl
      have hr1 := hf1.R
      refine v_iload X dX3_goesOut_24 rfl ?_
      refine v_iload_n X dX3_goesOut_26 rfl ?_
      refine v_callS (st := [.int (nI k)]) X dX3_goesOut_27 (t3_waysOf E0 h1 (nN (m0) + o) (by omega)) mr_X3_142 rfl rfl (Nat.le_of_ble_eq_true rfl) ⟨rfl, rfl⟩ ⟨Nat.le_of_ble_eq_true rfl, Nat.le_of_ble_eq_true rfl⟩ ⟨Nat.le_refl _, Nat.le_refl _⟩ (fun _ _ _ hx => v_nox hx) (fun v9 h9 hp => ?_)
      obtain ⟨rfl, rfl⟩ := hp
      refine v_icmp_geN (tgt := 126) (a := k) (b := ways (nN (m0) + o)) X dX3_goesOut_30 (by decide) rfl rfl (by omega) (by omega) (fun c30 => ?_) (fun c30 => ?_)
      · exact v_vret X dX3_goesOut_126 rfl (Nat.le_refl _) (Nat.le_refl _) ⟨rfl, ((hTl.eq0 (by show f1 = (goesOut m0 o).1; unfold goesOut; rw [ex0, nI_clamp (by omega), hR.stop (by rw [show ways (nN m0 + o) - k = 0 by omega]; rfl)])).eq14 (by show addK m14 ks = addK m14 (goesOut m0 o).2; unfold goesOut; rw [ex0, nI_clamp (by omega), hR.stop (by rw [show ways (nN m0 + o) - k = 0 by omega]; rfl)]))⟩
      · refine v_aload_n X dX3_goesOut_33 rfl ?_
        refine v_iload_n X dX3_goesOut_34 rfl ?_
        refine v_callV (st := []) X dX3_goesOut_35 (t3_lives E0 h1 hTl o (by omega)) mr_X3_78 hTl.o rfl rfl rfl (Nat.le_of_ble_eq_true rfl) ⟨rfl, rfl⟩ ⟨Nat.le_of_ble_eq_true rfl, Nat.le_of_ble_eq_true rfl⟩ ⟨Nat.le_refl _, Nat.le_refl _⟩ (fun _ _ _ hx => v_nox hx) (fun v9 h9 hp => ?_)
        obtain ⟨rfl, rfl⟩ := hp
        refine v_if_eqB (tgt := 126) (b := (lives f1 o)) X dX3_goesOut_38 (by decide) rfl (fun c38 => ?_) (fun c38 => ?_)
        · exact v_vret X dX3_goesOut_126 rfl (Nat.le_refl _) (Nat.le_refl _) ⟨rfl, ((hTl.eq0 (by show f1 = (goesOut m0 o).1; unfold goesOut; rw [ex0, nI_clamp (by omega), hR.stop (goes_stop (Or.inl c38))])).eq14 (by show addK m14 ks = addK m14 (goesOut m0 o).2; unfold goesOut; rw [ex0, nI_clamp (by omega), hR.stop (goes_stop (Or.inl c38))]))⟩
        · refine v_aload_n X dX3_goesOut_41 rfl ?_
          refine v_iload_n X dX3_goesOut_42 rfl ?_
          refine v_iload_n X dX3_goesOut_43 rfl ?_
          refine v_callS (st := [.int (nI x1), .ref M]) X dX3_goesOut_44 (t3_sideOf E0 h1 (nN (m0) + o) (by omega)) mr_X3_145 rfl rfl (Nat.le_of_ble_eq_true rfl) ⟨rfl, rfl⟩ ⟨Nat.le_of_ble_eq_true rfl, Nat.le_of_ble_eq_true rfl⟩ ⟨Nat.le_refl _, Nat.le_refl _⟩ (fun _ _ _ hx => v_nox hx) (fun v9 h9 hp => ?_)
          obtain ⟨rfl, rfl⟩ := hp
          refine v_iadd X dX3_goesOut_47 ?_
          refine v_callV (st := []) X dX3_goesOut_48 (t3_isReach E0 h1 hTl hw1.1 ((nI x1) + (if (nN (m0) + o) % 2 = 0 then nI 1 else (-1)))) mr_X3_103 hTl.o rfl rfl rfl (Nat.le_of_ble_eq_true rfl) ⟨rfl, rfl⟩ ⟨Nat.le_of_ble_eq_true rfl, Nat.le_of_ble_eq_true rfl⟩ ⟨Nat.le_refl _, Nat.le_refl _⟩ (fun _ _ _ hx => v_nox hx) (fun v9 h9 hp => ?_)
          obtain ⟨rfl, rfl⟩ := hp
          refine v_if_eqB (tgt := 126) (b := (isR f1 ((nI x1) + (if (nN (m0) + o) % 2 = 0 then nI 1 else (-1))))) X dX3_goesOut_51 (by decide) rfl (fun c51 => ?_) (fun c51 => ?_)
          · exact v_vret X dX3_goesOut_126 rfl (Nat.le_refl _) (Nat.le_refl _) ⟨rfl, ((hTl.eq0 (by show f1 = (goesOut m0 o).1; unfold goesOut; rw [ex0, nI_clamp (by omega), hR.stop (goes_stop (Or.inr c51))])).eq14 (by show addK m14 ks = addK m14 (goesOut m0 o).2; unfold goesOut; rw [ex0, nI_clamp (by omega), hR.stop (goes_stop (Or.inr c51))]))⟩
          · obtain ⟨y, hy, ey⟩ := (isR_iff hw1.1).mp c51
            refine v_iload_n X dX3_goesOut_54 rfl ?_
            refine v_iload_n X dX3_goesOut_55 rfl ?_
            refine v_callS (st := [.int (nI x1)]) X dX3_goesOut_56 (t3_sideOf E0 h1 (nN (m0) + o) (by omega)) mr_X3_145 rfl rfl (Nat.le_of_ble_eq_true rfl) ⟨rfl, rfl⟩ ⟨Nat.le_of_ble_eq_true rfl, Nat.le_of_ble_eq_true rfl⟩ ⟨Nat.le_refl _, Nat.le_refl _⟩ (fun _ _ _ hx => v_nox hx) (fun v9 h9 hp => ?_)
            obtain ⟨rfl, rfl⟩ := hp
            refine v_iadd X dX3_goesOut_59 ?_
            refine v_istore_n (lv' := [(3, .int ((nI x1) + (if (nN (m0) + o) % 2 = 0 then nI 1 else (-1)))), (4, .int (nI k)), (2, .int (nI (nN (m0) + o))), (0, .ref M), (1, .int (nI o))]) X dX3_goesOut_60 (by decide) rfl ?_
            refine v_lveq (lv' := [(3, .int (nI y)), (4, .int (nI k)), (2, .int (nI (nN (m0) + o))), (0, .ref M), (1, .int (nI o))]) (by rw [ey]) ?_
            refine v_aload_n X dX3_goesOut_61 rfl ?_
            refine v_iload_n X dX3_goesOut_62 rfl ?_
            refine v_callV (st := []) X dX3_goesOut_63 (t3_hasBridge E0 h1 hTl y (by omega)) mr_X3_132 hTl.o rfl rfl rfl (Nat.le_of_ble_eq_true rfl) ⟨rfl, rfl⟩ ⟨Nat.le_of_ble_eq_true rfl, Nat.le_of_ble_eq_true rfl⟩ ⟨Nat.le_refl _, Nat.le_refl _⟩ (fun _ _ _ hx => v_nox hx) (fun v9 h9 hp => ?_)
            obtain ⟨rfl, rfl⟩ := hp
            refine v_if_eqB (tgt := 120) (b := (bridge f1 y)) X dX3_goesOut_66 (by decide) rfl (fun c66 => ?_) (fun c66 => ?_)
            · refine v_iinc (kx := 1) (v := nI (k + 1)) (lv' := [(4, .int (nI (k + 1))), (3, .int (nI y)), (2, .int (nI (nN (m0) + o))), (0, .ref M), (1, .int (nI o))]) X dX3_goesOut_120 rfl (nI_1 _) (by decide) rfl ?_
              refine v_goto (tgt := 24) X dX3_goesOut_123 (by decide) ?_
              exact ih24 (k + 1) y f1 (ks ++ []) h1 (by omega) (by omega) (by have h0 := hw1.step (o := o) hy; rw [(step_no c66)] at h0; exact h0) (by have h0 := hf1.tr (Hd.step (o := o) (x := y)); rw [(step_no c66)] at h0; exact h0) ((show Rest o (nN m0 + o) (ways (nN m0 + o)) m0 x0 (ways (nN m0 + o) - (k + 1) + 1) f1 x1 ks by rw [show ways (nN m0 + o) - (k + 1) + 1 = ways (nN m0 + o) - k by omega]; exact hR).go c38 c51 (by show (nI x1 + (if (nN m0 + o) % 2 = 0 then nI 1 else (-1))).toNatClampNeg = y; rw [ey]; exact nI_clamp (by omega)) (step_no c66)) (hTl.eq14 (by show addK m14 ks = addK m14 (ks ++ []); rw [List.append_nil]))
            · refine v_aload_n X dX3_goesOut_69 rfl ?_
              refine v_iload_n X dX3_goesOut_70 rfl ?_
              refine v_callV (st := []) X dX3_goesOut_71 (t3_isKilledAt E0 h1 hTl y (by omega)) mr_X3_148 hTl.o rfl rfl rfl (Nat.le_of_ble_eq_true rfl) ⟨rfl, rfl⟩ ⟨Nat.le_of_ble_eq_true rfl, Nat.le_of_ble_eq_true rfl⟩ ⟨Nat.le_refl _, Nat.le_refl _⟩ (fun _ _ _ hx => v_nox hx) (fun v9 h1 hp => ?_)
              obtain ⟨rfl, hT1⟩ := hp
              have hT1 : TW G hx h1 M ad w4 w6 w7 w8 w9 w10 w11 w13 w19 w20 w21 w22 w24 (crsF f1 y) m1 m2 m3 m5 m12 (addK m14 ks) m15 m16 m17 m18 m23 := hT1
              refine v_if_eqB (tgt := 114) (b := (kills f1 y)) X dX3_goesOut_74 (by decide) rfl (fun c74 => ?_) (fun c74 => ?_)
              · refine v_aload_n X dX3_goesOut_114 rfl ?_
                refine v_iload_n X dX3_goesOut_115 rfl ?_
                refine v_iload_n X dX3_goesOut_116 rfl ?_
                refine v_callV (st := []) X dX3_goesOut_117 (t3_leavesSpraint E0 h1 hT1 o y (by omega) (by omega)) mr_X3_151 hT1.o rfl rfl rfl (Nat.le_of_ble_eq_true rfl) ⟨rfl, rfl⟩ ⟨Nat.le_of_ble_eq_true rfl, Nat.le_of_ble_eq_true rfl⟩ ⟨Nat.le_refl _, Nat.le_refl _⟩ (fun _ _ _ hx => v_nox hx) (fun v9 h2 hp => ?_)
                obtain ⟨rfl, hT2⟩ := hp
                have hT2 : TW G hx h2 M ad w4 w6 w7 w8 w9 w10 w11 w13 w19 w20 w21 w22 w24 (sprF (crsF f1 y) o y) m1 m2 m3 m5 m12 (addK m14 ks) m15 m16 m17 m18 m23 := hT2
                refine v_iinc (kx := 1) (v := nI (k + 1)) (lv' := [(4, .int (nI (k + 1))), (3, .int (nI y)), (2, .int (nI (nN (m0) + o))), (0, .ref M), (1, .int (nI o))]) X dX3_goesOut_120 rfl (nI_1 _) (by decide) rfl ?_
                refine v_goto (tgt := 24) X dX3_goesOut_123 (by decide) ?_
                exact ih24 (k + 1) y (sprF (crsF f1 y) o y) (ks ++ []) h2 (by omega) (by omega) (by have h0 := hw1.step (o := o) hy; rw [(step_go c66 c74)] at h0; exact h0) (by have h0 := hf1.tr (Hd.step (o := o) (x := y)); rw [(step_go c66 c74)] at h0; exact h0) ((show Rest o (nN m0 + o) (ways (nN m0 + o)) m0 x0 (ways (nN m0 + o) - (k + 1) + 1) f1 x1 ks by rw [show ways (nN m0 + o) - (k + 1) + 1 = ways (nN m0 + o) - k by omega]; exact hR).go c38 c51 (by show (nI x1 + (if (nN m0 + o) % 2 = 0 then nI 1 else (-1))).toNatClampNeg = y; rw [ey]; exact nI_clamp (by omega)) (step_go c66 c74)) (hT2.eq14 (by show addK m14 ks = addK m14 (ks ++ []); rw [List.append_nil]))
              · refine v_aload_n X dX3_goesOut_77 rfl ?_
                refine v_get (v := .ref (ad 0)) X dX3_goesOut_78 fr_X3_9 hT1.o rfl ?_
                refine v_iload_n X dX3_goesOut_81 rfl ?_
                refine v_callS (st := [.ref (ad 0)]) X dX3_goesOut_82 (t3_of E0 h1 o) mr_X3_75 rfl rfl (Nat.le_of_ble_eq_true rfl) ⟨rfl, rfl⟩ ⟨Nat.le_of_ble_eq_true rfl, Nat.le_of_ble_eq_true rfl⟩ ⟨Nat.le_refl _, Nat.le_refl _⟩ (fun _ _ _ hx => v_nox hx) (fun v9 h9 hp => ?_)
                obtain ⟨rfl, rfl⟩ := hp
                refine v_iconst (v := nI 0) X dX3_goesOut_85 rfl ?_
                refine v_iaddN (a := 120 + 5 * o) (b := 0) X dX3_goesOut_86 rfl rfl ?_
                refine v_iconst (v := nI 1) X dX3_goesOut_87 rfl ?_
                refine tw_ast0 (j := 120 + 5 * o) X hT1 dX3_goesOut_88 rfl (by omega) (fun h3 hT3 => ?_)
                refine v_aload_n X dX3_goesOut_89 rfl ?_
                refine v_get (v := .ref (ad 0)) X dX3_goesOut_90 fr_X3_9 hT3.o rfl ?_
                refine v_iload_n X dX3_goesOut_93 rfl ?_
                refine v_callS (st := [.ref (ad 0)]) X dX3_goesOut_94 (t3_of E0 h3 o) mr_X3_75 rfl rfl (Nat.le_of_ble_eq_true rfl) ⟨rfl, rfl⟩ ⟨Nat.le_of_ble_eq_true rfl, Nat.le_of_ble_eq_true rfl⟩ ⟨Nat.le_refl _, Nat.le_refl _⟩ (fun _ _ _ hx => v_nox hx) (fun v9 h9 hp => ?_)
                obtain ⟨rfl, rfl⟩ := hp
                refine v_iconst (v := nI 1) X dX3_goesOut_97 rfl ?_
                refine v_iaddN (a := 120 + 5 * o) (b := 1) X dX3_goesOut_98 rfl rfl ?_
                refine v_iload_n X dX3_goesOut_99 rfl ?_
                refine tw_ast0 (j := 120 + 5 * o + 1) X hT3 dX3_goesOut_100 rfl (by omega) (fun h4 hT4 => ?_)
                refine v_aload_n X dX3_goesOut_101 rfl ?_
                refine v_get (v := .ref (ad 14)) X dX3_goesOut_102 fr_X3_32 hT4.o rfl ?_
                refine v_iload_n X dX3_goesOut_105 rfl ?_
                refine v_dup2 X dX3_goesOut_106 rfl rfl ?_
                refine v_iald (f := addK m14 ks) (j := y) X dX3_goesOut_107 hT4.a14 rfl (by omega) (by decide) ?_
                refine v_iconst (v := nI 1) X dX3_goesOut_108 rfl ?_
                refine v_iadd X dX3_goesOut_109 ?_
                refine tw_ast14 (j := y) X hT4 dX3_goesOut_110 rfl (by omega) (fun h5 hT5 => ?_)
                refine v_goto (tgt := 120) X dX3_goesOut_111 (by decide) ?_
                refine v_iinc (kx := 1) (v := nI (k + 1)) (lv' := [(4, .int (nI (k + 1))), (3, .int (nI y)), (2, .int (nI (nN (m0) + o))), (0, .ref M), (1, .int (nI o))]) X dX3_goesOut_120 rfl (nI_1 _) (by decide) rfl ?_
                refine v_goto (tgt := 24) X dX3_goesOut_123 (by decide) ?_
                exact ih24 (k + 1) y (upd (upd (crsF f1 y) (120 + 5 * o) (nI 1)) (120 + 5 * o + 1) (nI y)) (ks ++ [y]) h5 (by omega) (by omega) (by have h0 := hw1.step (o := o) hy; rw [(step_kill c66 c74)] at h0; exact h0) (by have h0 := hf1.tr (Hd.step (o := o) (x := y)); rw [(step_kill c66 c74)] at h0; exact h0) ((show Rest o (nN m0 + o) (ways (nN m0 + o)) m0 x0 (ways (nN m0 + o) - (k + 1) + 1) f1 x1 ks by rw [show ways (nN m0 + o) - (k + 1) + 1 = ways (nN m0 + o) - k by omega]; exact hR).go c38 c51 (by show (nI x1 + (if (nN m0 + o) % 2 = 0 then nI 1 else (-1))).toNatClampNeg = y; rw [ey]; exact nI_clamp (by omega)) (step_kill c66 c74)) (hT5.eq14 (addK_1 m14 ks y))
  exact L24 _ 0 x0 m0 [] h (Nat.lt_succ_self _) (Nat.zero_le _) hw Hd.rf Rest.ini hT

set_option maxHeartbeats 4000000 in
set_option maxRecDepth 100000 in
theorem t3_washes {l : Launch} {G : GT} {bb : Nat} {s0 : State} (E0 : EN l G bb s0) (h : HF) {hx : HF} {M : Nat} {ad : Nat → Nat} {w4 w6 w7 w8 w9 w10 w11 w13 w19 w20 w21 w22 w24 : Int32} {m0 m1 m2 m3 m5 m12 m14 m15 m16 m17 m18 m23 : FA} (hT : TW G hx h M ad w4 w6 w7 w8 w9 w10 w11 w13 w19 w20 w21 w22 w24 m0 m1 m2 m3 m5 m12 m14 m15 m16 m17 m18 m23) (hw : Wf m0) : HM l G s0 yX3_washes [Cond.code yX3_washes cX3_washes 3 none] { frames := 1, cells := 0, slots := 0, locals := 20 } [.ref M] h (fun v h9 => v = none ∧ TW G hx h9 M ad w4 w6 w7 w8 w9 w10 w11 w13 w19 w20 w21 w22 w24 (washes m0) m1 m2 m3 m5 m12 m14 m15 m16 m17 m18 m23) nox 0 0 := by
  refine HM.of (cc := cX3_washes) (nL := 3) (own := RX3) (nm := "washes") (lv := [(0, .ref M)]) (by decide) rfl rfl E0 (Nat.le_of_ble_eq_true rfl) rfl (fun p e s m args below meth c X => ?_)
  have hg := hw.1
  have hgr := hg.rb
  have hgo := hg.ob
  have hgv := hg.vb
  have hgn := hg.nb
  refine v_iconst (v := nI 0) X dX3_washes_0 rfl ?_
  refine v_istore_n (lv' := [(1, .int (nI 0)), (0, .ref M)]) X dX3_washes_1 (by decide) rfl ?_
  have L2 : ∀ (N2 : Nat) (j : Nat) (h1 : HF) (hm2 : nR m0 - j < N2) (hj : j ≤ nR m0) (hTl : TW G hx h1 M ad w4 w6 w7 w8 w9 w10 w11 w13 w19 w20 w21 w22 w24 (itr (fun r g => washF g r) j m0) m1 m2 m3 m5 m12 m14 m15 m16 m17 m18 m23), V p l e { frames := 1, cells := 0, slots := 0, locals := 20 } s m args below meth c (VQ below args s G s0 (fun v h9 => v = none ∧ TW G hx h9 M ad w4 w6 w7 w8 w9 w10 w11 w13 w19 w20 w21 w22 w24 (washes m0) m1 m2 m3 m5 m12 m14 m15 m16 m17 m18 m23) nox 0 0) G s0.heap.size 3 2 [(1, .int (nI j)), (0, .ref M)] [] h1 0 0 := by
    intro N2
    induction N2 with
    | zero =>
      intro j h1 hm2
      exact absurd hm2 (Nat.not_lt_zero _)
    | succ N2 ih2 =>
      intro j h1 hm2 hj hTl
      refine v_iload_n X dX3_washes_2 rfl ?_
      refine v_aload_n X dX3_washes_3 rfl ?_
      refine v_get (v := .ref (ad 0)) X dX3_washes_4 fr_X3_9 hTl.o rfl ?_
      refine v_iconst (v := nI 0) X dX3_washes_7 rfl ?_
      refine v_iald (f := itr (fun r g => washF g r) j m0) (j := 0) X dX3_washes_8 hTl.a0 rfl (by omega) (by decide) ?_
      refine v_eqi ((wf_washes hw j hj).1.1.trans hg.r) ?_
      refine v_icmp_geN (tgt := 59) (a := j) (b := nR m0) X dX3_washes_9 (by decide) rfl rfl (by omega) (by omega) (fun c9 => ?_) (fun c9 => ?_)
      · exact v_vret X dX3_washes_59 rfl (Nat.le_refl _) (Nat.le_refl _) ⟨rfl, (hTl.eq0 (by show itr (fun r g => washF g r) j m0 = washes m0; unfold washes; rw [show j = nR m0 by omega]))⟩
      · refine v_aload_n X dX3_washes_12 rfl ?_
        refine v_get (v := .ref (ad 0)) X dX3_washes_13 fr_X3_9 hTl.o rfl ?_
        refine v_iload_n X dX3_washes_16 rfl ?_
        refine v_callS (st := [.ref (ad 0)]) X dX3_washes_17 (t3_at E0 h1 j) mr_X3_86 rfl rfl (Nat.le_of_ble_eq_true rfl) ⟨rfl, rfl⟩ ⟨Nat.le_of_ble_eq_true rfl, Nat.le_of_ble_eq_true rfl⟩ ⟨Nat.le_refl _, Nat.le_refl _⟩ (fun _ _ _ hx => v_nox hx) (fun v9 h9 hp => ?_)
        obtain ⟨rfl, rfl⟩ := hp
        refine v_iconst (v := nI 2) X dX3_washes_20 rfl ?_
        refine v_iaddN (a := 12 + 9 * j) (b := 2) X dX3_washes_21 rfl rfl ?_
        refine v_iald (f := itr (fun r g => washF g r) j m0) (j := 12 + 9 * j + 2) X dX3_washes_22 hTl.a0 rfl (by omega) (by decide) ?_
        refine v_istore_n (lv' := [(2, .int ((itr (fun r g => washF g r) j m0) (12 + 9 * j + 2))), (1, .int (nI j)), (0, .ref M)]) X dX3_washes_23 (by decide) rfl ?_
        refine v_aload_n X dX3_washes_24 rfl ?_
        refine v_get (v := .ref (ad 0)) X dX3_washes_25 fr_X3_9 hTl.o rfl ?_
        refine v_iload_n X dX3_washes_28 rfl ?_
        refine v_callS (st := [.ref (ad 0)]) X dX3_washes_29 (t3_at E0 h1 j) mr_X3_86 rfl rfl (Nat.le_of_ble_eq_true rfl) ⟨rfl, rfl⟩ ⟨Nat.le_of_ble_eq_true rfl, Nat.le_of_ble_eq_true rfl⟩ ⟨Nat.le_refl _, Nat.le_refl _⟩ (fun _ _ _ hx => v_nox hx) (fun v9 h9 hp => ?_)
        obtain ⟨rfl, rfl⟩ := hp
        refine v_iconst (v := nI 2) X dX3_washes_32 rfl ?_
        refine v_iaddN (a := 12 + 9 * j) (b := 2) X dX3_washes_33 rfl rfl ?_
        refine v_iload_n X dX3_washes_34 rfl ?_
        refine v_iconst (v := nI 2) X dX3_washes_35 rfl ?_
        refine v_idiv X dX3_washes_36 (by decide) ?_
        refine tw_ast0 (j := 12 + 9 * j + 2) X hTl dX3_washes_37 rfl (by omega) (fun h1 hT1 => ?_)
        refine v_aload_n X dX3_washes_38 rfl ?_
        refine v_get (v := .ref (ad 0)) X dX3_washes_39 fr_X3_9 hT1.o rfl ?_
        refine v_bipush (v := nI 10) X dX3_washes_42 rfl ?_
        refine v_dup2 X dX3_washes_44 rfl rfl ?_
        refine v_iald (f := upd (itr (fun r g => washF g r) j m0) (12 + 9 * j + 2) (((itr (fun r g => washF g r) j m0) (12 + 9 * j + 2)) / (nI 2))) (j := 10) X dX3_washes_45 hT1.a0 rfl (by omega) (by decide) ?_
        refine v_eqi (y := (itr (fun r g => washF g r) j m0) 10) (by rw [pk_un (by omega)]) ?_
        refine v_iload_n X dX3_washes_46 rfl ?_
        refine v_iload_n X dX3_washes_47 rfl ?_
        refine v_iconst (v := nI 2) X dX3_washes_48 rfl ?_
        refine v_idiv X dX3_washes_49 (by decide) ?_
        refine v_isub X dX3_washes_50 ?_
        refine v_iadd X dX3_washes_51 ?_
        refine tw_ast0 (j := 10) X hT1 dX3_washes_52 rfl (by omega) (fun h2 hT2 => ?_)
        refine v_iinc (kx := 1) (v := nI (j + 1)) (lv' := [(1, .int (nI (j + 1))), (2, .int ((itr (fun r g => washF g r) j m0) (12 + 9 * j + 2))), (0, .ref M)]) X dX3_washes_53 rfl (nI_1 _) (by decide) rfl ?_
        refine v_goto (tgt := 2) X dX3_washes_56 (by decide) ?_
        refine v_sub [0, 2] rfl ?_
        exact ih2 (j + 1) h2 (by omega) (by omega) hT2
  exact L2 _ 0 h (Nat.lt_succ_self _) (Nat.zero_le _) hT

set_option maxHeartbeats 4000000 in
set_option maxRecDepth 100000 in
theorem t3_nearest {l : Launch} {G : GT} {bb : Nat} {s0 : State} (E0 : EN l G bb s0) (h : HF) {hx : HF} {M : Nat} {ad : Nat → Nat} {w4 w6 w7 w8 w9 w10 w11 w13 w19 w20 w21 w22 w24 : Int32} {m0 m1 m2 m3 m5 m12 m14 m15 m16 m17 m18 m23 : FA} (hT : TW G hx h M ad w4 w6 w7 w8 w9 w10 w11 w13 w19 w20 w21 w22 w24 m0 m1 m2 m3 m5 m12 m14 m15 m16 m17 m18 m23) (hg : Gn (m0)) (x : Nat) (hx9 : x < 12) (many : Nat) (hm : many < 31) : HM l G s0 yX3_nearest [Cond.code yX3_nearest cX3_nearest 6 (some .int)] { frames := 4, cells := 0, slots := 0, locals := 86 } [.ref M, .int (nI x), .int (nI many)] h (fun v h9 => v = some (.int (oI (near m0 x many))) ∧ h = h9) nox 0 0 := by
  refine HM.of (cc := cX3_nearest) (nL := 6) (own := RX3) (nm := "nearest") (lv := [(0, .ref M), (1, .int (nI x)), (2, .int (nI many))]) (by decide) rfl rfl E0 (Nat.le_of_ble_eq_true rfl) rfl (fun p e s m args below meth c X => ?_)
  have hgr := hg.rb
  have hgo := hg.ob
  have hgv := hg.vb
  have hgn := hg.nb
  refine v_iconst (v := (-1)) X dX3_nearest_0 rfl ?_
  refine v_istore_n (lv' := [(3, .int (-1)), (0, .ref M), (1, .int (nI x)), (2, .int (nI many))]) X dX3_nearest_1 (by decide) rfl ?_
  refine v_iconst (v := nI 0) X dX3_nearest_2 rfl ?_
  refine v_istore (lv' := [(4, .int (nI 0)), (3, .int (-1)), (0, .ref M), (1, .int (nI x)), (2, .int (nI many))]) X dX3_nearest_3 (by decide) rfl ?_
  have L5 : ∀ (N5 : Nat) (j : Nat) (fo : Int32) (hm5 : nR m0 - j < N5) (hj : j ≤ nR m0) (hfo : fo = oI (nearB m0 x many j)), V p l e { frames := 4, cells := 0, slots := 0, locals := 86 } s m args below meth c (VQ below args s G s0 (fun v h9 => v = some (.int (oI (near m0 x many))) ∧ h = h9) nox 0 0) G s0.heap.size 6 5 [(4, .int (nI j)), (0, .ref M), (1, .int (nI x)), (2, .int (nI many)), (3, .int fo)] [] h 0 0 := by
    intro N5
    induction N5 with
    | zero =>
      intro j fo hm5
      exact absurd hm5 (Nat.not_lt_zero _)
    | succ N5 ih5 =>
      intro j fo hm5 hj hfo
      refine v_iload X dX3_nearest_5 rfl ?_
      refine v_aload_n X dX3_nearest_7 rfl ?_
      refine v_get (v := .ref (ad 0)) X dX3_nearest_8 fr_X3_9 hT.o rfl ?_
      refine v_iconst (v := nI 0) X dX3_nearest_11 rfl ?_
      refine v_iald (f := m0) (j := 0) X dX3_nearest_12 hT.a0 rfl (by omega) (by decide) ?_
      refine v_eqi hg.r ?_
      refine v_icmp_geN (tgt := 101) (a := j) (b := nR (m0)) X dX3_nearest_13 (by decide) rfl rfl (by omega) (by omega) (fun c13 => ?_) (fun c13 => ?_)
      · refine v_iload_n X dX3_nearest_101 rfl ?_
        exact v_iret (x := fo) X dX3_nearest_102 rfl rfl (Nat.le_refl _) (Nat.le_refl _) ⟨by rw [hfo, show j = nR m0 by omega]; rfl, rfl⟩
      · refine v_aload_n X dX3_nearest_16 rfl ?_
        refine v_iload X dX3_nearest_17 rfl ?_
        refine v_callV (st := []) X dX3_nearest_19 (t3_hasHolt E0 h hT j (by omega)) mr_X3_106 hT.o rfl rfl rfl (Nat.le_of_ble_eq_true rfl) ⟨rfl, rfl⟩ ⟨Nat.le_of_ble_eq_true rfl, Nat.le_of_ble_eq_true rfl⟩ ⟨Nat.le_refl _, Nat.le_refl _⟩ (fun _ _ _ hx => v_nox hx) (fun v9 h9 hp => ?_)
        obtain ⟨rfl, rfl⟩ := hp
        refine v_if_eqB (tgt := 59) (b := (holt m0 j)) X dX3_nearest_22 (by decide) rfl (fun c22 => ?_) (fun c22 => ?_)
        · refine v_iconst (v := nI 0) X dX3_nearest_59 rfl ?_
          refine v_istore (lv' := [(5, .int (nI 0)), (4, .int (nI j)), (0, .ref M), (1, .int (nI x)), (2, .int (nI many)), (3, .int fo)]) X dX3_nearest_60 (by decide) rfl ?_
          refine v_iload X dX3_nearest_62 rfl ?_
          refine v_if_eqN (tgt := 93) (a := 0) X dX3_nearest_64 (by decide) rfl (by omega) (fun c64 => ?_) (fun c64 => ?_)
          · refine v_iload_n X dX3_nearest_93 rfl ?_
            refine v_istore_n (lv' := [(3, .int fo), (5, .int (nI 0)), (4, .int (nI j)), (0, .ref M), (1, .int (nI x)), (2, .int (nI many))]) X dX3_nearest_94 (by decide) rfl ?_
            refine v_iinc (kx := 2) (v := nI (j + 1)) (lv' := [(4, .int (nI (j + 1))), (3, .int fo), (5, .int (nI 0)), (0, .ref M), (1, .int (nI x)), (2, .int (nI many))]) X dX3_nearest_95 rfl (nI_1 _) (by decide) rfl ?_
            refine v_goto (tgt := 5) X dX3_nearest_98 (by decide) ?_
            refine v_sub [0, 3, 4, 5, 1] rfl ?_
            exact ih5 (j + 1) fo (by omega) (by omega) (hfo.trans (congrArg oI (nearB_no (may_f1 c22)).symm))
          · exact absurd c64 (by decide)
        · refine v_aload_n X dX3_nearest_25 rfl ?_
          refine v_iload X dX3_nearest_26 rfl ?_
          refine v_callV (st := []) X dX3_nearest_28 (t3_otters E0 h hT hg (nI j)) mr_X3_109 hT.o rfl rfl rfl (Nat.le_of_ble_eq_true rfl) ⟨rfl, rfl⟩ ⟨Nat.le_of_ble_eq_true rfl, Nat.le_of_ble_eq_true rfl⟩ ⟨Nat.le_refl _, Nat.le_refl _⟩ (fun _ _ _ hx => v_nox hx) (fun v9 h9 hp => ?_)
          obtain ⟨rfl, rfl⟩ := hp
          have hb28 := otters_b hg (nI j)
          refine v_iload_n X dX3_nearest_31 rfl ?_
          refine v_icmp_neN (tgt := 59) (a := otters m0 (nI j)) (b := many) X dX3_nearest_32 (by decide) rfl rfl (by omega) (by omega) (fun c32 => ?_) (fun c32 => ?_)
          · refine v_iconst (v := nI 0) X dX3_nearest_59 rfl ?_
            refine v_istore (lv' := [(5, .int (nI 0)), (4, .int (nI j)), (0, .ref M), (1, .int (nI x)), (2, .int (nI many)), (3, .int fo)]) X dX3_nearest_60 (by decide) rfl ?_
            refine v_iload X dX3_nearest_62 rfl ?_
            refine v_if_eqN (tgt := 93) (a := 0) X dX3_nearest_64 (by decide) rfl (by omega) (fun c64 => ?_) (fun c64 => ?_)
            · refine v_iload_n X dX3_nearest_93 rfl ?_
              refine v_istore_n (lv' := [(3, .int fo), (5, .int (nI 0)), (4, .int (nI j)), (0, .ref M), (1, .int (nI x)), (2, .int (nI many))]) X dX3_nearest_94 (by decide) rfl ?_
              refine v_iinc (kx := 2) (v := nI (j + 1)) (lv' := [(4, .int (nI (j + 1))), (3, .int fo), (5, .int (nI 0)), (0, .ref M), (1, .int (nI x)), (2, .int (nI many))]) X dX3_nearest_95 rfl (nI_1 _) (by decide) rfl ?_
              refine v_goto (tgt := 5) X dX3_nearest_98 (by decide) ?_
              refine v_sub [0, 3, 4, 5, 1] rfl ?_
              exact ih5 (j + 1) fo (by omega) (by omega) (hfo.trans (congrArg oI (nearB_no (may_f2 c32)).symm))
            · exact absurd c64 (by decide)
          · refine v_iload_n X dX3_nearest_35 rfl ?_
            refine v_if_gtN (tgt := 55) (a := many) X dX3_nearest_36 (by decide) rfl (by omega) (fun c36 => ?_) (fun c36 => ?_)
            · refine v_iconst (v := nI 1) X dX3_nearest_55 rfl ?_
              refine v_goto (tgt := 60) X dX3_nearest_56 (by decide) ?_
              refine v_istore (lv' := [(5, .int (nI 1)), (4, .int (nI j)), (0, .ref M), (1, .int (nI x)), (2, .int (nI many)), (3, .int fo)]) X dX3_nearest_60 (by decide) rfl ?_
              refine v_iload X dX3_nearest_62 rfl ?_
              refine v_if_eqN (tgt := 93) (a := 1) X dX3_nearest_64 (by decide) rfl (by omega) (fun c64 => ?_) (fun c64 => ?_)
              · exact absurd c64 (by decide)
              · rcases hb : nearB m0 x many j with _ | b
                · have hfo2 : fo = (-1) := by rw [hfo, hb]; rfl
                  refine v_lveq (lv' := [(5, .int (nI 1)), (4, .int (nI j)), (0, .ref M), (1, .int (nI x)), (2, .int (nI many)), (3, .int (-1))]) (by rw [hfo2]) ?_
                  refine v_iload_n X dX3_nearest_67 rfl ?_
                  refine v_iconst (v := (-1)) X dX3_nearest_68 rfl ?_
                  refine v_icmp_eq (tgt := 88) X dX3_nearest_69 (by decide) (fun c69 => ?_) (fun c69 => ?_)
                  · refine v_iload X dX3_nearest_88 rfl ?_
                    refine v_goto (tgt := 94) X dX3_nearest_90 (by decide) ?_
                    refine v_istore_n (lv' := [(3, .int (nI j)), (5, .int (nI 1)), (4, .int (nI j)), (0, .ref M), (1, .int (nI x)), (2, .int (nI many))]) X dX3_nearest_94 (by decide) rfl ?_
                    refine v_iinc (kx := 2) (v := nI (j + 1)) (lv' := [(4, .int (nI (j + 1))), (3, .int (nI j)), (5, .int (nI 1)), (0, .ref M), (1, .int (nI x)), (2, .int (nI many))]) X dX3_nearest_95 rfl (nI_1 _) (by decide) rfl ?_
                    refine v_goto (tgt := 5) X dX3_nearest_98 (by decide) ?_
                    refine v_sub [0, 3, 4, 5, 1] rfl ?_
                    exact ih5 (j + 1) (nI j) (by omega) (by omega) ((congrArg oI (nearB_1 (may_t1 c22 c32 c36) hb)).symm)
                  · first | exact absurd c69 rfl | exact absurd rfl c69
                · have hfo2 : fo = nI b := by rw [hfo, hb]; rfl
                  have hbl := nearB_lt _ _ hb
                  refine v_lveq (lv' := [(5, .int (nI 1)), (4, .int (nI j)), (0, .ref M), (1, .int (nI x)), (2, .int (nI many)), (3, .int (nI b))]) (by rw [hfo2]) ?_
                  refine v_iload_n X dX3_nearest_67 rfl ?_
                  refine v_iconst (v := (-1)) X dX3_nearest_68 rfl ?_
                  refine v_icmp_eq (tgt := 88) X dX3_nearest_69 (by decide) (fun c69 => ?_) (fun c69 => ?_)
                  · first | exact absurd c69 (nI_nm1 (by omega)) | exact absurd (nI_nm1 (by omega)) c69
                  · refine v_iload X dX3_nearest_72 rfl ?_
                    refine v_iload_n X dX3_nearest_74 rfl ?_
                    refine v_isub X dX3_nearest_75 ?_
                    refine v_abs X dX3_nearest_76 q2310 q1171 q112 q1172 (Nat.le_of_ble_eq_true rfl) (Nat.le_of_ble_eq_true rfl) (Nat.le_of_ble_eq_true rfl) (by omega) (by omega) ?_
                    refine v_eqi (absd (by omega) (by omega)) ?_
                    have hd79 := dist_b j x
                    refine v_iload_n X dX3_nearest_79 rfl ?_
                    refine v_iload_n X dX3_nearest_80 rfl ?_
                    refine v_isub X dX3_nearest_81 ?_
                    refine v_abs X dX3_nearest_82 q2310 q1171 q112 q1172 (Nat.le_of_ble_eq_true rfl) (Nat.le_of_ble_eq_true rfl) (Nat.le_of_ble_eq_true rfl) (by omega) (by omega) ?_
                    refine v_eqi (absd (by omega) (by omega)) ?_
                    have hd85 := dist_b b x
                    refine v_icmp_geN (tgt := 93) (a := dist j x) (b := dist b x) X dX3_nearest_85 (by decide) rfl rfl (by omega) (by omega) (fun c85 => ?_) (fun c85 => ?_)
                    · refine v_iload_n X dX3_nearest_93 rfl ?_
                      refine v_istore_n (lv' := [(3, .int (nI b)), (5, .int (nI 1)), (4, .int (nI j)), (0, .ref M), (1, .int (nI x)), (2, .int (nI many))]) X dX3_nearest_94 (by decide) rfl ?_
                      refine v_iinc (kx := 2) (v := nI (j + 1)) (lv' := [(4, .int (nI (j + 1))), (3, .int (nI b)), (5, .int (nI 1)), (0, .ref M), (1, .int (nI x)), (2, .int (nI many))]) X dX3_nearest_95 rfl (nI_1 _) (by decide) rfl ?_
                      refine v_goto (tgt := 5) X dX3_nearest_98 (by decide) ?_
                      refine v_sub [0, 3, 4, 5, 1] rfl ?_
                      exact ih5 (j + 1) (nI b) (by omega) (by omega) ((congrArg oI (nearB_3 (may_t1 c22 c32 c36) hb (by omega))).symm)
                    · refine v_iload X dX3_nearest_88 rfl ?_
                      refine v_goto (tgt := 94) X dX3_nearest_90 (by decide) ?_
                      refine v_istore_n (lv' := [(3, .int (nI j)), (5, .int (nI 1)), (4, .int (nI j)), (0, .ref M), (1, .int (nI x)), (2, .int (nI many))]) X dX3_nearest_94 (by decide) rfl ?_
                      refine v_iinc (kx := 2) (v := nI (j + 1)) (lv' := [(4, .int (nI (j + 1))), (3, .int (nI j)), (5, .int (nI 1)), (0, .ref M), (1, .int (nI x)), (2, .int (nI many))]) X dX3_nearest_95 rfl (nI_1 _) (by decide) rfl ?_
                      refine v_goto (tgt := 5) X dX3_nearest_98 (by decide) ?_
                      refine v_sub [0, 3, 4, 5, 1] rfl ?_
                      exact ih5 (j + 1) (nI j) (by omega) (by omega) ((congrArg oI (nearB_2 (may_t1 c22 c32 c36) hb (by omega))).symm)
            · refine v_aload_n X dX3_nearest_39 rfl ?_
              refine v_get (v := .ref (ad 0)) X dX3_nearest_40 fr_X3_9 hT.o rfl ?_
              refine v_iload X dX3_nearest_43 rfl ?_
              refine v_callS (st := [.ref (ad 0)]) X dX3_nearest_45 (t3_at E0 h j) mr_X3_86 rfl rfl (Nat.le_of_ble_eq_true rfl) ⟨rfl, rfl⟩ ⟨Nat.le_of_ble_eq_true rfl, Nat.le_of_ble_eq_true rfl⟩ ⟨Nat.le_refl _, Nat.le_refl _⟩ (fun _ _ _ hx => v_nox hx) (fun v9 h9 hp => ?_)
              obtain ⟨rfl, rfl⟩ := hp
              refine v_bipush (v := nI 6) X dX3_nearest_48 rfl ?_
              refine v_iaddN (a := 12 + 9 * j) (b := 6) X dX3_nearest_50 rfl rfl ?_
              refine v_iald (f := m0) (j := 12 + 9 * j + 6) X dX3_nearest_51 hT.a0 rfl (by omega) (by decide) ?_
              refine v_if_ne (tgt := 59) X dX3_nearest_52 (by decide) (fun c52 => ?_) (fun c52 => ?_)
              · refine v_iconst (v := nI 0) X dX3_nearest_59 rfl ?_
                refine v_istore (lv' := [(5, .int (nI 0)), (4, .int (nI j)), (0, .ref M), (1, .int (nI x)), (2, .int (nI many)), (3, .int fo)]) X dX3_nearest_60 (by decide) rfl ?_
                refine v_iload X dX3_nearest_62 rfl ?_
                refine v_if_eqN (tgt := 93) (a := 0) X dX3_nearest_64 (by decide) rfl (by omega) (fun c64 => ?_) (fun c64 => ?_)
                · refine v_iload_n X dX3_nearest_93 rfl ?_
                  refine v_istore_n (lv' := [(3, .int fo), (5, .int (nI 0)), (4, .int (nI j)), (0, .ref M), (1, .int (nI x)), (2, .int (nI many))]) X dX3_nearest_94 (by decide) rfl ?_
                  refine v_iinc (kx := 2) (v := nI (j + 1)) (lv' := [(4, .int (nI (j + 1))), (3, .int fo), (5, .int (nI 0)), (0, .ref M), (1, .int (nI x)), (2, .int (nI many))]) X dX3_nearest_95 rfl (nI_1 _) (by decide) rfl ?_
                  refine v_goto (tgt := 5) X dX3_nearest_98 (by decide) ?_
                  refine v_sub [0, 3, 4, 5, 1] rfl ?_
                  exact ih5 (j + 1) fo (by omega) (by omega) (hfo.trans (congrArg oI (nearB_no (may_f3 c36 c52)).symm))
                · exact absurd c64 (by decide)
              · refine v_iconst (v := nI 1) X dX3_nearest_55 rfl ?_
                refine v_goto (tgt := 60) X dX3_nearest_56 (by decide) ?_
                refine v_istore (lv' := [(5, .int (nI 1)), (4, .int (nI j)), (0, .ref M), (1, .int (nI x)), (2, .int (nI many)), (3, .int fo)]) X dX3_nearest_60 (by decide) rfl ?_
                refine v_iload X dX3_nearest_62 rfl ?_
                refine v_if_eqN (tgt := 93) (a := 1) X dX3_nearest_64 (by decide) rfl (by omega) (fun c64 => ?_) (fun c64 => ?_)
                · exact absurd c64 (by decide)
                · rcases hb : nearB m0 x many j with _ | b
                  · have hfo2 : fo = (-1) := by rw [hfo, hb]; rfl
                    refine v_lveq (lv' := [(5, .int (nI 1)), (4, .int (nI j)), (0, .ref M), (1, .int (nI x)), (2, .int (nI many)), (3, .int (-1))]) (by rw [hfo2]) ?_
                    refine v_iload_n X dX3_nearest_67 rfl ?_
                    refine v_iconst (v := (-1)) X dX3_nearest_68 rfl ?_
                    refine v_icmp_eq (tgt := 88) X dX3_nearest_69 (by decide) (fun c69 => ?_) (fun c69 => ?_)
                    · refine v_iload X dX3_nearest_88 rfl ?_
                      refine v_goto (tgt := 94) X dX3_nearest_90 (by decide) ?_
                      refine v_istore_n (lv' := [(3, .int (nI j)), (5, .int (nI 1)), (4, .int (nI j)), (0, .ref M), (1, .int (nI x)), (2, .int (nI many))]) X dX3_nearest_94 (by decide) rfl ?_
                      refine v_iinc (kx := 2) (v := nI (j + 1)) (lv' := [(4, .int (nI (j + 1))), (3, .int (nI j)), (5, .int (nI 1)), (0, .ref M), (1, .int (nI x)), (2, .int (nI many))]) X dX3_nearest_95 rfl (nI_1 _) (by decide) rfl ?_
                      refine v_goto (tgt := 5) X dX3_nearest_98 (by decide) ?_
                      refine v_sub [0, 3, 4, 5, 1] rfl ?_
                      exact ih5 (j + 1) (nI j) (by omega) (by omega) ((congrArg oI (nearB_1 (may_t2 c22 c32 c52) hb)).symm)
                    · first | exact absurd c69 rfl | exact absurd rfl c69
                  · have hfo2 : fo = nI b := by rw [hfo, hb]; rfl
                    have hbl := nearB_lt _ _ hb
                    refine v_lveq (lv' := [(5, .int (nI 1)), (4, .int (nI j)), (0, .ref M), (1, .int (nI x)), (2, .int (nI many)), (3, .int (nI b))]) (by rw [hfo2]) ?_
                    refine v_iload_n X dX3_nearest_67 rfl ?_
                    refine v_iconst (v := (-1)) X dX3_nearest_68 rfl ?_
                    refine v_icmp_eq (tgt := 88) X dX3_nearest_69 (by decide) (fun c69 => ?_) (fun c69 => ?_)
                    · first | exact absurd c69 (nI_nm1 (by omega)) | exact absurd (nI_nm1 (by omega)) c69
                    · refine v_iload X dX3_nearest_72 rfl ?_
                      refine v_iload_n X dX3_nearest_74 rfl ?_
                      refine v_isub X dX3_nearest_75 ?_
                      refine v_abs X dX3_nearest_76 q2310 q1171 q112 q1172 (Nat.le_of_ble_eq_true rfl) (Nat.le_of_ble_eq_true rfl) (Nat.le_of_ble_eq_true rfl) (by omega) (by omega) ?_
                      refine v_eqi (absd (by omega) (by omega)) ?_
                      have hd79 := dist_b j x
                      refine v_iload_n X dX3_nearest_79 rfl ?_
                      refine v_iload_n X dX3_nearest_80 rfl ?_
                      refine v_isub X dX3_nearest_81 ?_
                      refine v_abs X dX3_nearest_82 q2310 q1171 q112 q1172 (Nat.le_of_ble_eq_true rfl) (Nat.le_of_ble_eq_true rfl) (Nat.le_of_ble_eq_true rfl) (by omega) (by omega) ?_
                      refine v_eqi (absd (by omega) (by omega)) ?_
                      have hd85 := dist_b b x
                      refine v_icmp_geN (tgt := 93) (a := dist j x) (b := dist b x) X dX3_nearest_85 (by decide) rfl rfl (by omega) (by omega) (fun c85 => ?_) (fun c85 => ?_)
                      · refine v_iload_n X dX3_nearest_93 rfl ?_
                        refine v_istore_n (lv' := [(3, .int (nI b)), (5, .int (nI 1)), (4, .int (nI j)), (0, .ref M), (1, .int (nI x)), (2, .int (nI many))]) X dX3_nearest_94 (by decide) rfl ?_
                        refine v_iinc (kx := 2) (v := nI (j + 1)) (lv' := [(4, .int (nI (j + 1))), (3, .int (nI b)), (5, .int (nI 1)), (0, .ref M), (1, .int (nI x)), (2, .int (nI many))]) X dX3_nearest_95 rfl (nI_1 _) (by decide) rfl ?_
                        refine v_goto (tgt := 5) X dX3_nearest_98 (by decide) ?_
                        refine v_sub [0, 3, 4, 5, 1] rfl ?_
                        exact ih5 (j + 1) (nI b) (by omega) (by omega) ((congrArg oI (nearB_3 (may_t2 c22 c32 c52) hb (by omega))).symm)
                      · refine v_iload X dX3_nearest_88 rfl ?_
                        refine v_goto (tgt := 94) X dX3_nearest_90 (by decide) ?_
                        refine v_istore_n (lv' := [(3, .int (nI j)), (5, .int (nI 1)), (4, .int (nI j)), (0, .ref M), (1, .int (nI x)), (2, .int (nI many))]) X dX3_nearest_94 (by decide) rfl ?_
                        refine v_iinc (kx := 2) (v := nI (j + 1)) (lv' := [(4, .int (nI (j + 1))), (3, .int (nI j)), (5, .int (nI 1)), (0, .ref M), (1, .int (nI x)), (2, .int (nI many))]) X dX3_nearest_95 rfl (nI_1 _) (by decide) rfl ?_
                        refine v_goto (tgt := 5) X dX3_nearest_98 (by decide) ?_
                        refine v_sub [0, 3, 4, 5, 1] rfl ?_
                        exact ih5 (j + 1) (nI j) (by omega) (by omega) ((congrArg oI (nearB_2 (may_t2 c22 c32 c52) hb (by omega))).symm)
  refine v_sub [0, 2, 3, 4, 1] rfl ?_
  exact L5 _ 0 (-1) (Nat.lt_succ_self _) (Nat.zero_le _) rfl

set_option maxHeartbeats 4000000 in
set_option maxRecDepth 100000 in
theorem t3_refugeOf {l : Launch} {G : GT} {bb : Nat} {s0 : State} (E0 : EN l G bb s0) (h : HF) {hx : HF} {M : Nat} {ad : Nat → Nat} {w4 w6 w7 w8 w9 w10 w11 w13 w19 w20 w21 w22 w24 : Int32} {m0 m1 m2 m3 m5 m12 m14 m15 m16 m17 m18 m23 : FA} (hT : TW G hx h M ad w4 w6 w7 w8 w9 w10 w11 w13 w19 w20 w21 w22 w24 m0 m1 m2 m3 m5 m12 m14 m15 m16 m17 m18 m23) (hg : Gn (m0)) (x : Nat) (hx9 : x < 12) : HM l G s0 yX3_refugeOf [Cond.code yX3_refugeOf cX3_refugeOf 3 (some .int)] { frames := 5, cells := 0, slots := 0, locals := 111 } [.ref M, .int (nI x)] h (fun v h9 => v = some (.int (oI (refuge m0 x))) ∧ h = h9) nox 0 0 := by
  refine HM.of (cc := cX3_refugeOf) (nL := 3) (own := RX3) (nm := "refugeOf") (lv := [(0, .ref M), (1, .int (nI x))]) (by decide) rfl rfl E0 (Nat.le_of_ble_eq_true rfl) rfl (fun p e s m args below meth c X => ?_)
  have hgr := hg.rb
  have hgo := hg.ob
  have hgv := hg.vb
  have hgn := hg.nb
  refine v_aload_n X dX3_refugeOf_0 rfl ?_
  refine v_iload_n X dX3_refugeOf_1 rfl ?_
  refine v_iconst (v := nI 0) X dX3_refugeOf_2 rfl ?_
  refine v_callV (st := []) X dX3_refugeOf_3 (t3_nearest E0 h hT hg x (by omega) 0 (by omega)) mr_X3_160 hT.o rfl rfl rfl (Nat.le_of_ble_eq_true rfl) ⟨rfl, rfl⟩ ⟨Nat.le_of_ble_eq_true rfl, Nat.le_of_ble_eq_true rfl⟩ ⟨Nat.le_refl _, Nat.le_refl _⟩ (fun _ _ _ hx => v_nox hx) (fun v9 h9 hp => ?_)
  obtain ⟨rfl, rfl⟩ := hp
  rcases hb : near m0 x 0 with _ | b
  · refine v_eqi (y := (-1)) rfl ?_
    refine v_istore_n (lv' := [(2, .int (-1)), (0, .ref M), (1, .int (nI x))]) X dX3_refugeOf_6 (by decide) rfl ?_
    refine v_iload_n X dX3_refugeOf_7 rfl ?_
    refine v_iconst (v := (-1)) X dX3_refugeOf_8 rfl ?_
    refine v_icmp_ne (tgt := 21) X dX3_refugeOf_9 (by decide) (fun c9 => ?_) (fun c9 => ?_)
    · first | exact absurd c9 rfl | exact absurd rfl c9
    · refine v_aload_n X dX3_refugeOf_12 rfl ?_
      refine v_iload_n X dX3_refugeOf_13 rfl ?_
      refine v_iconst (v := nI 1) X dX3_refugeOf_14 rfl ?_
      refine v_callV (st := []) X dX3_refugeOf_15 (t3_nearest E0 h hT hg x (by omega) 1 (by omega)) mr_X3_160 hT.o rfl rfl rfl (Nat.le_of_ble_eq_true rfl) ⟨rfl, rfl⟩ ⟨Nat.le_of_ble_eq_true rfl, Nat.le_of_ble_eq_true rfl⟩ ⟨Nat.le_refl _, Nat.le_refl _⟩ (fun _ _ _ hx => v_nox hx) (fun v9 h9 hp => ?_)
      obtain ⟨rfl, rfl⟩ := hp
      refine v_goto (tgt := 22) X dX3_refugeOf_18 (by decide) ?_
      exact v_iret (x := oI (near m0 x 1)) X dX3_refugeOf_22 rfl rfl (Nat.le_refl _) (Nat.le_refl _) ⟨by rw [refuge_0 hb], rfl⟩
  · have hbl := nearB_lt _ _ hb
    refine v_eqi (y := nI b) rfl ?_
    refine v_istore_n (lv' := [(2, .int (nI b)), (0, .ref M), (1, .int (nI x))]) X dX3_refugeOf_6 (by decide) rfl ?_
    refine v_iload_n X dX3_refugeOf_7 rfl ?_
    refine v_iconst (v := (-1)) X dX3_refugeOf_8 rfl ?_
    refine v_icmp_ne (tgt := 21) X dX3_refugeOf_9 (by decide) (fun c9 => ?_) (fun c9 => ?_)
    · refine v_iload_n X dX3_refugeOf_21 rfl ?_
      exact v_iret (x := nI b) X dX3_refugeOf_22 rfl rfl (Nat.le_refl _) (Nat.le_refl _) ⟨by rw [refuge_1 hb]; rfl, rfl⟩
    · first | exact absurd c9 (nI_nm1 (by omega)) | exact absurd (nI_nm1 (by omega)) c9

set_option maxHeartbeats 4000000 in
set_option maxRecDepth 100000 in
theorem t3_growUp {l : Launch} {G : GT} {bb : Nat} {s0 : State} (E0 : EN l G bb s0) (h : HF) {hx : HF} {M : Nat} {ad : Nat → Nat} {w4 w6 w7 w8 w9 w10 w11 w13 w19 w20 w21 w22 w24 : Int32} {m0 m1 m2 m3 m5 m12 m14 m15 m16 m17 m18 m23 : FA} (hT : TW G hx h M ad w4 w6 w7 w8 w9 w10 w11 w13 w19 w20 w21 w22 w24 m0 m1 m2 m3 m5 m12 m14 m15 m16 m17 m18 m23) (hw : Wf m0) (r : Nat) (hr9 : r < nR m0) : HM l G s0 yX3_growUp [Cond.code yX3_growUp cX3_growUp 4 none] { frames := 6, cells := 0, slots := 0, locals := 133 } [.ref M, .int (nI r)] h (fun v h9 => v = none ∧ TW G hx h9 M ad w4 w6 w7 w8 w9 w10 w11 w13 w19 w20 w21 w22 w24 (growUp m0 r) m1 m2 m3 m5 m12 m14 m15 m16 m17 m18 m23) nox 0 0 := by
  refine HM.of (cc := cX3_growUp) (nL := 4) (own := RX3) (nm := "growUp") (lv := [(0, .ref M), (1, .int (nI r))]) (by decide) rfl rfl E0 (Nat.le_of_ble_eq_true rfl) rfl (fun p e s m args below meth c X => ?_)
  have hg := hw.1
  have hgr := hg.rb
  have hgo := hg.ob
  have hgv := hg.vb
  have hgn := hg.nb
  obtain ⟨⟨cb, hcb, ecb⟩, -⟩ := hw.2.2 r hr9
  have hw0 := hw.cub (r := r) (x := nI 0) (by omega) ⟨0, by omega, rfl⟩
  refine v_aload_n X dX3_growUp_0 rfl ?_
  refine v_get (v := .ref (ad 0)) X dX3_growUp_1 fr_X3_9 hT.o rfl ?_
  refine v_iload_n X dX3_growUp_4 rfl ?_
  refine v_callS (st := [.ref (ad 0)]) X dX3_growUp_5 (t3_at E0 h r) mr_X3_86 rfl rfl (Nat.le_of_ble_eq_true rfl) ⟨rfl, rfl⟩ ⟨Nat.le_of_ble_eq_true rfl, Nat.le_of_ble_eq_true rfl⟩ ⟨Nat.le_refl _, Nat.le_refl _⟩ (fun _ _ _ hx => v_nox hx) (fun v9 h9 hp => ?_)
  obtain ⟨rfl, rfl⟩ := hp
  refine v_bipush (v := nI 6) X dX3_growUp_8 rfl ?_
  refine v_iaddN (a := 12 + 9 * r) (b := 6) X dX3_growUp_10 rfl rfl ?_
  refine v_iald (f := m0) (j := 12 + 9 * r + 6) X dX3_growUp_11 hT.a0 rfl (by omega) (by decide) ?_
  refine v_eqi ecb ?_
  refine v_istore_n (lv' := [(2, .int (nI cb)), (0, .ref M), (1, .int (nI r))]) X dX3_growUp_12 (by decide) rfl ?_
  refine v_aload_n X dX3_growUp_13 rfl ?_
  refine v_get (v := .ref (ad 0)) X dX3_growUp_14 fr_X3_9 hT.o rfl ?_
  refine v_iload_n X dX3_growUp_17 rfl ?_
  refine v_callS (st := [.ref (ad 0)]) X dX3_growUp_18 (t3_at E0 h r) mr_X3_86 rfl rfl (Nat.le_of_ble_eq_true rfl) ⟨rfl, rfl⟩ ⟨Nat.le_of_ble_eq_true rfl, Nat.le_of_ble_eq_true rfl⟩ ⟨Nat.le_refl _, Nat.le_refl _⟩ (fun _ _ _ hx => v_nox hx) (fun v9 h9 hp => ?_)
  obtain ⟨rfl, rfl⟩ := hp
  refine v_bipush (v := nI 6) X dX3_growUp_21 rfl ?_
  refine v_iaddN (a := 12 + 9 * r) (b := 6) X dX3_growUp_23 rfl rfl ?_
  refine v_iconst (v := nI 0) X dX3_growUp_24 rfl ?_
  refine tw_ast0 (j := 12 + 9 * r + 6) X hT dX3_growUp_25 rfl (by omega) (fun h1 hT1 => ?_)
  refine v_iconst (v := nI 0) X dX3_growUp_26 rfl ?_
  refine v_istore_n (lv' := [(3, .int (nI 0)), (2, .int (nI cb)), (0, .ref M), (1, .int (nI r))]) X dX3_growUp_27 (by decide) rfl ?_
  have L28 : ∀ (N28 : Nat) (k : Nat) (h1 : HF) (hm28 : cb - k < N28) (hk : k ≤ cb) (hTl : TW G hx h1 M ad w4 w6 w7 w8 w9 w10 w11 w13 w19 w20 w21 w22 w24 (itr (fun _ => growS r) k (upd m0 (12 + 9 * r + 6) (nI 0))) m1 m2 m3 m5 m12 m14 m15 m16 m17 m18 m23), V p l e { frames := 6, cells := 0, slots := 0, locals := 133 } s m args below meth c (VQ below args s G s0 (fun v h9 => v = none ∧ TW G hx h9 M ad w4 w6 w7 w8 w9 w10 w11 w13 w19 w20 w21 w22 w24 (growUp m0 r) m1 m2 m3 m5 m12 m14 m15 m16 m17 m18 m23) nox 0 0) G s0.heap.size 4 28 [(3, .int (nI k)), (2, .int (nI cb)), (0, .ref M), (1, .int (nI r))] [] h1 0 0 := by
    intro N28
    induction N28 with
    | zero =>
      intro k h1 hm28
      exact absurd hm28 (Nat.not_lt_zero _)
    | succ N28 ih28 =>
      intro k h1 hm28 hk hTl
      have hob := (wf_grow (r := r) hw0 k).2.1.ob
      refine v_iload_n X dX3_growUp_28 rfl ?_
      refine v_iload_n X dX3_growUp_29 rfl ?_
      refine v_icmp_geN (tgt := 74) (a := k) (b := cb) X dX3_growUp_30 (by decide) rfl rfl (by omega) (by omega) (fun c30 => ?_) (fun c30 => ?_)
      · exact v_vret X dX3_growUp_74 rfl (Nat.le_refl _) (Nat.le_refl _) ⟨rfl, (hTl.eq0 (by show itr (fun _ => growS r) k (upd m0 (12 + 9 * r + 6) (nI 0)) = growUp m0 r; unfold growUp; rw [ecb, nI_clamp (by omega), show k = cb by omega]))⟩
      · refine v_aload_n X dX3_growUp_33 rfl ?_
        refine v_get (v := .ref (ad 0)) X dX3_growUp_34 fr_X3_9 hTl.o rfl ?_
        refine v_iconst (v := nI 1) X dX3_growUp_37 rfl ?_
        refine v_iald (f := itr (fun _ => growS r) k (upd m0 (12 + 9 * r + 6) (nI 0))) (j := 1) X dX3_growUp_38 hTl.a0 rfl (by omega) (by decide) ?_
        refine v_eqi (wf_grow (r := r) hw0 k).2.1.o ?_
        refine v_bipush (v := nI 30) X dX3_growUp_39 rfl ?_
        refine v_icmp_neN (tgt := 58) (a := nO (itr (fun _ => growS r) k (upd m0 (12 + 9 * r + 6) (nI 0)))) (b := 30) X dX3_growUp_41 (by decide) rfl rfl (by omega) (by omega) (fun c41 => ?_) (fun c41 => ?_)
        · refine v_aload_n X dX3_growUp_58 rfl ?_
          refine v_aload_n X dX3_growUp_59 rfl ?_
          refine v_iload_n X dX3_growUp_60 rfl ?_
          refine v_callV (st := [.ref M]) X dX3_growUp_61 (t3_refugeOf E0 h1 hTl (wf_grow (r := r) hw0 k).2.1 r (by omega)) mr_X3_163 hTl.o rfl rfl rfl (Nat.le_of_ble_eq_true rfl) ⟨rfl, rfl⟩ ⟨Nat.le_of_ble_eq_true rfl, Nat.le_of_ble_eq_true rfl⟩ ⟨Nat.le_refl _, Nat.le_refl _⟩ (fun _ _ _ hx => v_nox hx) (fun v9 h9 hp => ?_)
          obtain ⟨rfl, rfl⟩ := hp
          refine v_callV (st := []) X dX3_growUp_64 (t3_comes E0 h1 hTl (wf_grow (r := r) hw0 k).2.1 (oI (refuge (itr (fun _ => growS r) k (upd m0 (12 + 9 * r + 6) (nI 0))) r)) (by show nO (itr (fun _ => growS r) k (upd m0 (12 + 9 * r + 6) (nI 0))) < 30; omega)) mr_X3_118 hTl.o rfl rfl rfl (Nat.le_of_ble_eq_true rfl) ⟨rfl, rfl⟩ ⟨Nat.le_of_ble_eq_true rfl, Nat.le_of_ble_eq_true rfl⟩ ⟨Nat.le_refl _, Nat.le_refl _⟩ (fun _ _ _ hx => v_nox hx) (fun v9 h2 hp => ?_)
          obtain ⟨rfl, hT2⟩ := hp
          have hT2 : TW G hx h2 M ad w4 w6 w7 w8 w9 w10 w11 w13 w19 w20 w21 w22 w24 (comesF (itr (fun _ => growS r) k (upd m0 (12 + 9 * r + 6) (nI 0))) (oI (refuge (itr (fun _ => growS r) k (upd m0 (12 + 9 * r + 6) (nI 0))) r))) m1 m2 m3 m5 m12 m14 m15 m16 m17 m18 m23 := hT2
          refine v_pop X dX3_growUp_67 rfl ?_
          refine v_iinc (kx := 0) (v := nI (k + 1)) (lv' := [(3, .int (nI (k + 1))), (2, .int (nI cb)), (0, .ref M), (1, .int (nI r))]) X dX3_growUp_68 rfl (nI_1 _) (by decide) rfl ?_
          refine v_goto (tgt := 28) X dX3_growUp_71 (by decide) ?_
          exact ih28 (k + 1) h2 (by omega) (by omega) (hT2.eq0 (by show comesF (itr (fun _ => growS r) k (upd m0 (12 + 9 * r + 6) (nI 0))) (oI (refuge (itr (fun _ => growS r) k (upd m0 (12 + 9 * r + 6) (nI 0))) r)) = growS r (itr (fun _ => growS r) k (upd m0 (12 + 9 * r + 6) (nI 0))); rw [growS_more c41]))
        · refine v_aload_n X dX3_growUp_44 rfl ?_
          refine v_get (v := .ref (ad 0)) X dX3_growUp_45 fr_X3_9 hTl.o rfl ?_
          refine v_bipush (v := nI 7) X dX3_growUp_48 rfl ?_
          refine v_dup2 X dX3_growUp_50 rfl rfl ?_
          refine v_iald (f := itr (fun _ => growS r) k (upd m0 (12 + 9 * r + 6) (nI 0))) (j := 7) X dX3_growUp_51 hTl.a0 rfl (by omega) (by decide) ?_
          refine v_iconst (v := nI 1) X dX3_growUp_52 rfl ?_
          refine v_iadd X dX3_growUp_53 ?_
          refine tw_ast0 (j := 7) X hTl dX3_growUp_54 rfl (by omega) (fun h3 hT3 => ?_)
          refine v_goto (tgt := 68) X dX3_growUp_55 (by decide) ?_
          refine v_iinc (kx := 0) (v := nI (k + 1)) (lv' := [(3, .int (nI (k + 1))), (2, .int (nI cb)), (0, .ref M), (1, .int (nI r))]) X dX3_growUp_68 rfl (nI_1 _) (by decide) rfl ?_
          refine v_goto (tgt := 28) X dX3_growUp_71 (by decide) ?_
          exact ih28 (k + 1) h3 (by omega) (by omega) (hT3.eq0 (by show upd (itr (fun _ => growS r) k (upd m0 (12 + 9 * r + 6) (nI 0))) 7 (((itr (fun _ => growS r) k (upd m0 (12 + 9 * r + 6) (nI 0))) 7) + (nI 1)) = growS r (itr (fun _ => growS r) k (upd m0 (12 + 9 * r + 6) (nI 0))); rw [growS_full c41]))
  exact L28 _ 0 h1 (Nat.lt_succ_self _) (Nat.zero_le _) hT1

set_option maxHeartbeats 4000000 in
set_option maxRecDepth 100000 in
theorem t3_atHolt {l : Launch} {G : GT} {bb : Nat} {s0 : State} (E0 : EN l G bb s0) (h : HF) {hx : HF} {M : Nat} {ad : Nat → Nat} {w4 w6 w7 w8 w9 w10 w11 w13 w19 w20 w21 w22 w24 : Int32} {m0 m1 m2 m3 m5 m12 m14 m15 m16 m17 m18 m23 : FA} (hT : TW G hx h M ad w4 w6 w7 w8 w9 w10 w11 w13 w19 w20 w21 w22 w24 m0 m1 m2 m3 m5 m12 m14 m15 m16 m17 m18 m23) (hw : Wf m0) (r : Nat) (hr9 : r < nR m0) : HM l G s0 yX3_atHolt [Cond.code yX3_atHolt cX3_atHolt 5 none] { frames := 7, cells := 0, slots := 0, locals := 156 } [.ref M, .int (nI r)] h (fun v h9 => v = none ∧ TW G hx h9 M ad w4 w6 w7 w8 w9 w10 w11 w13 w19 w20 w21 w22 w24 ((atHolt m0 r).1) m1 m2 m3 m5 m12 m14 (if (atHolt m0 r).2 then upd m15 r (nI 1) else m15) m16 m17 m18 m23) nox 0 0 := by
  refine HM.of (cc := cX3_atHolt) (nL := 5) (own := RX3) (nm := "atHolt") (lv := [(0, .ref M), (1, .int (nI r))]) (by decide) rfl rfl E0 (Nat.le_of_ble_eq_true rfl) rfl (fun p e s m args below meth c X => ?_)
  have hg := hw.1
  have hgr := hg.rb
  have hgo := hg.ob
  have hgv := hg.vb
  have hgn := hg.nb
  refine v_iload_n X dX3_atHolt_0 rfl ?_
  refine v_callS (st := []) X dX3_atHolt_1 (t3_at E0 h r) mr_X3_86 rfl rfl (Nat.le_of_ble_eq_true rfl) ⟨rfl, rfl⟩ ⟨Nat.le_of_ble_eq_true rfl, Nat.le_of_ble_eq_true rfl⟩ ⟨Nat.le_refl _, Nat.le_refl _⟩ (fun _ _ _ hx => v_nox hx) (fun v9 h9 hp => ?_)
  obtain ⟨rfl, rfl⟩ := hp
  refine v_istore_n (lv' := [(2, .int (nI (12 + 9 * r))), (0, .ref M), (1, .int (nI r))]) X dX3_atHolt_4 (by decide) rfl ?_
  refine v_aload_n X dX3_atHolt_5 rfl ?_
  refine v_iload_n X dX3_atHolt_6 rfl ?_
  refine v_callV (st := []) X dX3_atHolt_7 (t3_otters E0 h hT hg (nI r)) mr_X3_109 hT.o rfl rfl rfl (Nat.le_of_ble_eq_true rfl) ⟨rfl, rfl⟩ ⟨Nat.le_of_ble_eq_true rfl, Nat.le_of_ble_eq_true rfl⟩ ⟨Nat.le_refl _, Nat.le_refl _⟩ (fun _ _ _ hx => v_nox hx) (fun v9 h9 hp => ?_)
  obtain ⟨rfl, rfl⟩ := hp
  have hb7 := otters_b hg (nI r)
  refine v_istore_n (lv' := [(3, .int (nI (otters m0 (nI r)))), (2, .int (nI (12 + 9 * r))), (0, .ref M), (1, .int (nI r))]) X dX3_atHolt_10 (by decide) rfl ?_
  refine v_aload_n X dX3_atHolt_11 rfl ?_
  refine v_get (v := .ref (ad 0)) X dX3_atHolt_12 fr_X3_9 hT.o rfl ?_
  refine v_iload_n X dX3_atHolt_15 rfl ?_
  refine v_bipush (v := nI 6) X dX3_atHolt_16 rfl ?_
  refine v_iaddN (a := 12 + 9 * r) (b := 6) X dX3_atHolt_18 rfl rfl ?_
  refine v_iald (f := m0) (j := 12 + 9 * r + 6) X dX3_atHolt_19 hT.a0 rfl (by omega) (by decide) ?_
  refine v_if_le (tgt := 87) X dX3_atHolt_20 (by decide) (fun c20 => ?_) (fun c20 => ?_)
  · refine v_aload_n X dX3_atHolt_87 rfl ?_
    refine v_get (v := .ref (ad 0)) X dX3_atHolt_88 fr_X3_9 hT.o rfl ?_
    refine v_iconst (v := nI 5) X dX3_atHolt_91 rfl ?_
    refine v_iald (f := m0) (j := 5) X dX3_atHolt_92 hT.a0 rfl (by omega) (by decide) ?_
    refine v_eqi hg.n ?_
    refine v_sipush (v := nI 360) X dX3_atHolt_93 rfl ?_
    refine v_idivN (a := nN (m0)) (b := 360) X dX3_atHolt_96 rfl rfl (by omega) (by omega) (by omega) ?_
    refine v_istore (lv' := [(4, .int (nI ((nN (m0)) / 360))), (3, .int (nI (otters m0 (nI r)))), (2, .int (nI (12 + 9 * r))), (0, .ref M), (1, .int (nI r))]) X dX3_atHolt_97 (by decide) rfl ?_
    refine v_iload_n X dX3_atHolt_99 rfl ?_
    refine v_iconst (v := nI 2) X dX3_atHolt_100 rfl ?_
    refine v_icmp_neN (tgt := 220) (a := otters m0 (nI r)) (b := 2) X dX3_atHolt_101 (by decide) rfl rfl (by omega) (by omega) (fun c101 => ?_) (fun c101 => ?_)
    · exact v_vret X dX3_atHolt_220 rfl (Nat.le_refl _) (Nat.le_refl _) ⟨rfl, ((hT.eq0 (congrArg Prod.fst (atHolt_none (Int32.not_lt.mpr c20) (breeds_f1 c101))).symm).eq15 (by show m15 = (if (atHolt m0 r).2 then upd m15 r (nI 1) else m15); rw [(atHolt_none (Int32.not_lt.mpr c20) (breeds_f1 c101))]; rfl))⟩
    · refine v_aload_n X dX3_atHolt_104 rfl ?_
      refine v_callV (st := []) X dX3_atHolt_105 (t3_month E0 h hT hg) mr_X3_170 hT.o rfl rfl rfl (Nat.le_of_ble_eq_true rfl) ⟨rfl, rfl⟩ ⟨Nat.le_of_ble_eq_true rfl, Nat.le_of_ble_eq_true rfl⟩ ⟨Nat.le_refl _, Nat.le_refl _⟩ (fun _ _ _ hx => v_nox hx) (fun v9 h9 hp => ?_)
      obtain ⟨rfl, rfl⟩ := hp
      refine v_i2l (v := (nI (nN m0 / 30 % 12)).toInt64) X dX3_atHolt_108 rfl ?_
      refine v_ldc2 (v := 2) X dX3_atHolt_109 q2315 ?_
      refine v_eql (y := (nI 2).toInt64) (by decide) ?_
      refine v_ldc2 (v := 4) X dX3_atHolt_112 q2316 ?_
      refine v_eql (y := (nI 4).toInt64) (by decide) ?_
      refine v_callS (st := []) X dX3_atHolt_115 (t3_in E0 h (nI (nN m0 / 30 % 12)) (nI 2) (nI 4)) mr_X3_71 rfl rfl (Nat.le_of_ble_eq_true rfl) ⟨rfl, rfl⟩ ⟨Nat.le_of_ble_eq_true rfl, Nat.le_of_ble_eq_true rfl⟩ ⟨Nat.le_refl _, Nat.le_refl _⟩ (fun _ _ _ hx => v_nox hx) (fun v9 h9 hp => ?_)
      obtain ⟨rfl, rfl⟩ := hp
      refine v_if_eqB (tgt := 220) (b := (t_in (nI (nN m0 / 30 % 12)) (nI 2) (nI 4))) X dX3_atHolt_118 (by decide) rfl (fun c118 => ?_) (fun c118 => ?_)
      · exact v_vret X dX3_atHolt_220 rfl (Nat.le_refl _) (Nat.le_refl _) ⟨rfl, ((hT.eq0 (congrArg Prod.fst (atHolt_none (Int32.not_lt.mpr c20) (breeds_f2 c118))).symm).eq15 (by show m15 = (if (atHolt m0 r).2 then upd m15 r (nI 1) else m15); rw [(atHolt_none (Int32.not_lt.mpr c20) (breeds_f2 c118))]; rfl))⟩
      · refine v_aload_n X dX3_atHolt_121 rfl ?_
        refine v_iload_n X dX3_atHolt_122 rfl ?_
        refine v_callV (st := []) X dX3_atHolt_123 (t3_quality E0 h hT hg r (by omega)) mr_X3_112 hT.o rfl rfl rfl (Nat.le_of_ble_eq_true rfl) ⟨rfl, rfl⟩ ⟨Nat.le_of_ble_eq_true rfl, Nat.le_of_ble_eq_true rfl⟩ ⟨Nat.le_refl _, Nat.le_refl _⟩ (fun _ _ _ hx => v_nox hx) (fun v9 h9 hp => ?_)
        obtain ⟨rfl, rfl⟩ := hp
        refine v_bipush (v := nI 15) X dX3_atHolt_126 rfl ?_
        refine v_icmp_lt (tgt := 220) X dX3_atHolt_128 (by decide) (fun c128 => ?_) (fun c128 => ?_)
        · exact v_vret X dX3_atHolt_220 rfl (Nat.le_refl _) (Nat.le_refl _) ⟨rfl, ((hT.eq0 (congrArg Prod.fst (atHolt_none (Int32.not_lt.mpr c20) (breeds_f3 c128))).symm).eq15 (by show m15 = (if (atHolt m0 r).2 then upd m15 r (nI 1) else m15); rw [(atHolt_none (Int32.not_lt.mpr c20) (breeds_f3 c128))]; rfl))⟩
        · refine v_aload_n X dX3_atHolt_131 rfl ?_
          refine v_get (v := .ref (ad 0)) X dX3_atHolt_132 fr_X3_9 hT.o rfl ?_
          refine v_iload_n X dX3_atHolt_135 rfl ?_
          refine v_bipush (v := nI 8) X dX3_atHolt_136 rfl ?_
          refine v_iaddN (a := 12 + 9 * r) (b := 8) X dX3_atHolt_138 rfl rfl ?_
          refine v_iald (f := m0) (j := 12 + 9 * r + 8) X dX3_atHolt_139 hT.a0 rfl (by omega) (by decide) ?_
          refine v_iload X dX3_atHolt_140 rfl ?_
          refine v_icmp_eq (tgt := 220) X dX3_atHolt_142 (by decide) (fun c142 => ?_) (fun c142 => ?_)
          · exact v_vret X dX3_atHolt_220 rfl (Nat.le_refl _) (Nat.le_refl _) ⟨rfl, ((hT.eq0 (congrArg Prod.fst (atHolt_none (Int32.not_lt.mpr c20) (breeds_f4 c142))).symm).eq15 (by show m15 = (if (atHolt m0 r).2 then upd m15 r (nI 1) else m15); rw [(atHolt_none (Int32.not_lt.mpr c20) (breeds_f4 c142))]; rfl))⟩
          · refine v_aload_n X dX3_atHolt_145 rfl ?_
            refine v_get (v := .ref (ad 0)) X dX3_atHolt_146 fr_X3_9 hT.o rfl ?_
            refine v_iload_n X dX3_atHolt_149 rfl ?_
            refine v_bipush (v := nI 6) X dX3_atHolt_150 rfl ?_
            refine v_iaddN (a := 12 + 9 * r) (b := 6) X dX3_atHolt_152 rfl rfl ?_
            refine v_iconst (v := nI 3) X dX3_atHolt_153 rfl ?_
            refine v_iconst (v := nI 1) X dX3_atHolt_154 rfl ?_
            refine v_aload_n X dX3_atHolt_155 rfl ?_
            refine v_iload_n X dX3_atHolt_156 rfl ?_
            refine v_callV (st := [.int (nI 1), .int (nI 3), .int (nI (12 + 9 * r + 6)), .ref (ad 0)]) X dX3_atHolt_157 (t3_quality E0 h hT hg r (by omega)) mr_X3_112 hT.o rfl rfl rfl (Nat.le_of_ble_eq_true rfl) ⟨rfl, rfl⟩ ⟨Nat.le_of_ble_eq_true rfl, Nat.le_of_ble_eq_true rfl⟩ ⟨Nat.le_refl _, Nat.le_refl _⟩ (fun _ _ _ hx => v_nox hx) (fun v9 h9 hp => ?_)
            obtain ⟨rfl, rfl⟩ := hp
            refine v_bipush (v := nI 12) X dX3_atHolt_160 rfl ?_
            refine v_idiv X dX3_atHolt_162 (by decide) ?_
            refine v_iadd X dX3_atHolt_163 ?_
            refine v_min X dX3_atHolt_164 q2317 q499 q112 q500 (Nat.le_of_ble_eq_true rfl) (Nat.le_of_ble_eq_true rfl) (Nat.le_of_ble_eq_true rfl) (by omega) (by omega) ?_
            refine v_eqi (y := minI (nI 3) ((nI 1) + ((quality m0 r) / (nI 12)))) rfl ?_
            refine tw_ast0 (j := 12 + 9 * r + 6) X hT dX3_atHolt_167 rfl (by omega) (fun h1 hT1 => ?_)
            refine v_aload_n X dX3_atHolt_168 rfl ?_
            refine v_get (v := .ref (ad 0)) X dX3_atHolt_169 fr_X3_9 hT1.o rfl ?_
            refine v_iload_n X dX3_atHolt_172 rfl ?_
            refine v_bipush (v := nI 7) X dX3_atHolt_173 rfl ?_
            refine v_iaddN (a := 12 + 9 * r) (b := 7) X dX3_atHolt_175 rfl rfl ?_
            refine v_aload_n X dX3_atHolt_176 rfl ?_
            refine v_get (v := .ref (ad 0)) X dX3_atHolt_177 fr_X3_9 hT1.o rfl ?_
            refine v_iconst (v := nI 5) X dX3_atHolt_180 rfl ?_
            refine v_iald (f := upd m0 (12 + 9 * r + 6) (minI (nI 3) ((nI 1) + ((quality m0 r) / (nI 12))))) (j := 5) X dX3_atHolt_181 hT1.a0 rfl (by omega) (by decide) ?_
            refine v_eqi (y := nI (nN (m0))) (by rw [pk_un (by omega), hg.n]) ?_
            refine tw_ast0 (j := 12 + 9 * r + 7) X hT1 dX3_atHolt_182 rfl (by omega) (fun h2 hT2 => ?_)
            refine v_aload_n X dX3_atHolt_183 rfl ?_
            refine v_get (v := .ref (ad 0)) X dX3_atHolt_184 fr_X3_9 hT2.o rfl ?_
            refine v_iload_n X dX3_atHolt_187 rfl ?_
            refine v_bipush (v := nI 8) X dX3_atHolt_188 rfl ?_
            refine v_iaddN (a := 12 + 9 * r) (b := 8) X dX3_atHolt_190 rfl rfl ?_
            refine v_iload X dX3_atHolt_191 rfl ?_
            refine tw_ast0 (j := 12 + 9 * r + 8) X hT2 dX3_atHolt_193 rfl (by omega) (fun h3 hT3 => ?_)
            refine v_aload_n X dX3_atHolt_194 rfl ?_
            refine v_get (v := .ref (ad 0)) X dX3_atHolt_195 fr_X3_9 hT3.o rfl ?_
            refine v_bipush (v := nI 6) X dX3_atHolt_198 rfl ?_
            refine v_dup2 X dX3_atHolt_200 rfl rfl ?_
            refine v_iald (f := upd (upd (upd m0 (12 + 9 * r + 6) (minI (nI 3) ((nI 1) + ((quality m0 r) / (nI 12))))) (12 + 9 * r + 7) (nI (nN (m0)))) (12 + 9 * r + 8) (nI ((nN (m0)) / 360))) (j := 6) X dX3_atHolt_201 hT3.a0 rfl (by omega) (by decide) ?_
            refine v_eqi (y := m0 6) (by rw [pk_un (by omega), pk_un (by omega), pk_un (by omega)]) ?_
            refine v_aload_n X dX3_atHolt_202 rfl ?_
            refine v_get (v := .ref (ad 0)) X dX3_atHolt_203 fr_X3_9 hT3.o rfl ?_
            refine v_iload_n X dX3_atHolt_206 rfl ?_
            refine v_bipush (v := nI 6) X dX3_atHolt_207 rfl ?_
            refine v_iaddN (a := 12 + 9 * r) (b := 6) X dX3_atHolt_209 rfl rfl ?_
            refine v_iald (f := upd (upd (upd m0 (12 + 9 * r + 6) (minI (nI 3) ((nI 1) + ((quality m0 r) / (nI 12))))) (12 + 9 * r + 7) (nI (nN (m0)))) (12 + 9 * r + 8) (nI ((nN (m0)) / 360))) (j := 12 + 9 * r + 6) X dX3_atHolt_210 hT3.a0 rfl (by omega) (by decide) ?_
            refine v_eqi (y := minI (nI 3) ((nI 1) + ((quality m0 r) / (nI 12)))) (by rw [pk_un (by omega), pk_un (by omega), pk_us]) ?_
            refine v_iadd X dX3_atHolt_211 ?_
            refine tw_ast0 (j := 6) X hT3 dX3_atHolt_212 rfl (by omega) (fun h4 hT4 => ?_)
            refine v_aload_n X dX3_atHolt_213 rfl ?_
            refine v_get (v := .ref (ad 15)) X dX3_atHolt_214 fr_X3_35 hT4.o rfl ?_
            refine v_iload_n X dX3_atHolt_217 rfl ?_
            refine v_iconst (v := nI 1) X dX3_atHolt_218 rfl ?_
            refine tw_ast15 (j := r) X hT4 dX3_atHolt_219 rfl rfl (by omega) (fun h5 hT5 => ?_)
            exact v_vret X dX3_atHolt_220 rfl (Nat.le_refl _) (Nat.le_refl _) ⟨rfl, ((hT5.eq0 (congrArg Prod.fst (atHolt_born (Int32.not_lt.mpr c20) (breeds_t c101 c118 c128 c142))).symm).eq15 (by show upd m15 r (nI 1) = (if (atHolt m0 r).2 then upd m15 r (nI 1) else m15); rw [(atHolt_born (Int32.not_lt.mpr c20) (breeds_t c101 c118 c128 c142))]; rfl))⟩
  · refine v_iload_n X dX3_atHolt_23 rfl ?_
    refine v_if_neN (tgt := 59) (a := otters m0 (nI r)) X dX3_atHolt_24 (by decide) rfl (by omega) (fun c24 => ?_) (fun c24 => ?_)
    · refine v_aload_n X dX3_atHolt_59 rfl ?_
      refine v_get (v := .ref (ad 0)) X dX3_atHolt_60 fr_X3_9 hT.o rfl ?_
      refine v_iconst (v := nI 5) X dX3_atHolt_63 rfl ?_
      refine v_iald (f := m0) (j := 5) X dX3_atHolt_64 hT.a0 rfl (by omega) (by decide) ?_
      refine v_eqi hg.n ?_
      refine v_aload_n X dX3_atHolt_65 rfl ?_
      refine v_get (v := .ref (ad 0)) X dX3_atHolt_66 fr_X3_9 hT.o rfl ?_
      refine v_iload_n X dX3_atHolt_69 rfl ?_
      refine v_bipush (v := nI 7) X dX3_atHolt_70 rfl ?_
      refine v_iaddN (a := 12 + 9 * r) (b := 7) X dX3_atHolt_72 rfl rfl ?_
      refine v_iald (f := m0) (j := 12 + 9 * r + 7) X dX3_atHolt_73 hT.a0 rfl (by omega) (by decide) ?_
      refine v_isub X dX3_atHolt_74 ?_
      refine v_sipush (v := nI 200) X dX3_atHolt_75 rfl ?_
      refine v_icmp_lt (tgt := 86) X dX3_atHolt_78 (by decide) (fun c78 => ?_) (fun c78 => ?_)
      · exact v_vret X dX3_atHolt_86 rfl (Nat.le_refl _) (Nat.le_refl _) ⟨rfl, ((hT.eq0 (congrArg Prod.fst (atHolt_wait (Int32.not_le.mp c20) (Nat.pos_iff_ne_zero.mp c24) (Int32.not_le.mpr c78))).symm).eq15 (by show m15 = (if (atHolt m0 r).2 then upd m15 r (nI 1) else m15); rw [(atHolt_wait (Int32.not_le.mp c20) (Nat.pos_iff_ne_zero.mp c24) (Int32.not_le.mpr c78))]; rfl))⟩
      · refine v_aload_n X dX3_atHolt_81 rfl ?_
        refine v_iload_n X dX3_atHolt_82 rfl ?_
        refine v_callV (st := []) X dX3_atHolt_83 (t3_growUp E0 h hT hw r (by omega)) mr_X3_166 hT.o rfl rfl rfl (Nat.le_of_ble_eq_true rfl) ⟨rfl, rfl⟩ ⟨Nat.le_of_ble_eq_true rfl, Nat.le_of_ble_eq_true rfl⟩ ⟨Nat.le_refl _, Nat.le_refl _⟩ (fun _ _ _ hx => v_nox hx) (fun v9 h6 hp => ?_)
        obtain ⟨rfl, hT6⟩ := hp
        have hT6 : TW G hx h6 M ad w4 w6 w7 w8 w9 w10 w11 w13 w19 w20 w21 w22 w24 (growUp m0 r) m1 m2 m3 m5 m12 m14 m15 m16 m17 m18 m23 := hT6
        exact v_vret X dX3_atHolt_86 rfl (Nat.le_refl _) (Nat.le_refl _) ⟨rfl, ((hT6.eq0 (congrArg Prod.fst (atHolt_grow (Int32.not_le.mp c20) (Nat.pos_iff_ne_zero.mp c24) (Int32.not_lt.mp c78))).symm).eq15 (by show m15 = (if (atHolt m0 r).2 then upd m15 r (nI 1) else m15); rw [(atHolt_grow (Int32.not_le.mp c20) (Nat.pos_iff_ne_zero.mp c24) (Int32.not_lt.mp c78))]; rfl))⟩
    · refine v_aload_n X dX3_atHolt_27 rfl ?_
      refine v_get (v := .ref (ad 0)) X dX3_atHolt_28 fr_X3_9 hT.o rfl ?_
      refine v_bipush (v := nI 7) X dX3_atHolt_31 rfl ?_
      refine v_dup2 X dX3_atHolt_33 rfl rfl ?_
      refine v_iald (f := m0) (j := 7) X dX3_atHolt_34 hT.a0 rfl (by omega) (by decide) ?_
      refine v_aload_n X dX3_atHolt_35 rfl ?_
      refine v_get (v := .ref (ad 0)) X dX3_atHolt_36 fr_X3_9 hT.o rfl ?_
      refine v_iload_n X dX3_atHolt_39 rfl ?_
      refine v_bipush (v := nI 6) X dX3_atHolt_40 rfl ?_
      refine v_iaddN (a := 12 + 9 * r) (b := 6) X dX3_atHolt_42 rfl rfl ?_
      refine v_iald (f := m0) (j := 12 + 9 * r + 6) X dX3_atHolt_43 hT.a0 rfl (by omega) (by decide) ?_
      refine v_iadd X dX3_atHolt_44 ?_
      refine tw_ast0 (j := 7) X hT dX3_atHolt_45 rfl (by omega) (fun h7 hT7 => ?_)
      refine v_aload_n X dX3_atHolt_46 rfl ?_
      refine v_get (v := .ref (ad 0)) X dX3_atHolt_47 fr_X3_9 hT7.o rfl ?_
      refine v_iload_n X dX3_atHolt_50 rfl ?_
      refine v_bipush (v := nI 6) X dX3_atHolt_51 rfl ?_
      refine v_iaddN (a := 12 + 9 * r) (b := 6) X dX3_atHolt_53 rfl rfl ?_
      refine v_iconst (v := nI 0) X dX3_atHolt_54 rfl ?_
      refine tw_ast0 (j := 12 + 9 * r + 6) X hT7 dX3_atHolt_55 rfl (by omega) (fun h8 hT8 => ?_)
      refine v_goto (tgt := 86) X dX3_atHolt_56 (by decide) ?_
      exact v_vret X dX3_atHolt_86 rfl (Nat.le_refl _) (Nat.le_refl _) ⟨rfl, ((hT8.eq0 (congrArg Prod.fst (atHolt_lose (Int32.not_le.mp c20) c24)).symm).eq15 (by show m15 = (if (atHolt m0 r).2 then upd m15 r (nI 1) else m15); rw [(atHolt_lose (Int32.not_le.mp c20) c24)]; rfl))⟩

set_option maxHeartbeats 4000000 in
set_option maxRecDepth 100000 in
theorem t3_night {l : Launch} {G : GT} {bb : Nat} {s0 : State} (E0 : EN l G bb s0) (h : HF) {hx : HF} {M : Nat} {ad : Nat → Nat} {w4 w6 w7 w8 w9 w10 w11 w13 w19 w20 w21 w22 w24 : Int32} {m0 m1 m2 m3 m5 m12 m14 m15 m16 m17 m18 m23 : FA} (hT : TW G hx h M ad w4 w6 w7 w8 w9 w10 w11 w13 w19 w20 w21 w22 w24 m0 m1 m2 m3 m5 m12 m14 m15 m16 m17 m18 m23) (hw : Wf m0) (hn9 : nN m0 + 1 < 2 ^ 28) : HM l G s0 yX3_night [Cond.code yX3_night cX3_night 2 none] { frames := 8, cells := 0, slots := 0, locals := 180 } [.ref M] h (fun v h9 => v = none ∧ TW G hx h9 M ad w4 w6 w7 w8 w9 w10 w11 w13 w19 w20 w21 w22 w24 (night m0) m1 m2 m3 m5 m12 (addK m14 (nightK m0)) (setW (zJ 12 m15) (nightW m0)) m16 m17 m18 m23) nox 0 0 := by
  refine HM.of (cc := cX3_night) (nL := 2) (own := RX3) (nm := "night") (lv := [(0, .ref M)]) (by decide) rfl rfl E0 (Nat.le_of_ble_eq_true rfl) rfl (fun p e s m args below meth c X => ?_)
  have hg := hw.1
  have hgr := hg.rb
  have hgo := hg.ob
  have hgv := hg.vb
  have hgn := hg.nb
  have hwD := hw.day hn9
  have hwB := (wf_nightB hw hn9).2
  have hBR : nR (nightB m0) = nR m0 := (wf_nightB hw hn9).1.R.trans day_R
  refine v_aload_n X dX3_night_0 rfl ?_
  refine v_get (v := .ref (ad 0)) X dX3_night_1 fr_X3_9 hT.o rfl ?_
  refine v_iconst (v := nI 5) X dX3_night_4 rfl ?_
  refine v_dup2 X dX3_night_5 rfl rfl ?_
  refine v_iald (f := m0) (j := 5) X dX3_night_6 hT.a0 rfl (by omega) (by decide) ?_
  refine v_eqi hg.n ?_
  refine v_iconst (v := nI 1) X dX3_night_7 rfl ?_
  refine v_iaddN (a := nN (m0)) (b := 1) X dX3_night_8 rfl rfl ?_
  refine tw_ast0 (j := 5) X hT dX3_night_9 rfl (by omega) (fun h1 hT1 => ?_)
  refine v_iconst (v := nI 0) X dX3_night_10 rfl ?_
  refine v_istore_n (lv' := [(1, .int (nI 0)), (0, .ref M)]) X dX3_night_11 (by decide) rfl ?_
  have L12 : ∀ (N12 : Nat) (j : Nat) (h1 : HF) (hm12 : 12 - j < N12) (hj : j ≤ 12) (hTl : TW G hx h1 M ad w4 w6 w7 w8 w9 w10 w11 w13 w19 w20 w21 w22 w24 (upd m0 5 (nI (nN (m0) + 1))) m1 m2 m3 m5 m12 m14 (zJ j m15) m16 m17 m18 m23), V p l e { frames := 8, cells := 0, slots := 0, locals := 180 } s m args below meth c (VQ below args s G s0 (fun v h9 => v = none ∧ TW G hx h9 M ad w4 w6 w7 w8 w9 w10 w11 w13 w19 w20 w21 w22 w24 (night m0) m1 m2 m3 m5 m12 (addK m14 (nightK m0)) (setW (zJ 12 m15) (nightW m0)) m16 m17 m18 m23) nox 0 0) G s0.heap.size 2 12 [(1, .int (nI j)), (0, .ref M)] [] h1 0 0 := by
    intro N12
    induction N12 with
    | zero =>
      intro j h1 hm12
      exact absurd hm12 (Nat.not_lt_zero _)
    | succ N12 ih12 =>
      intro j h1 hm12 hj hTl
      refine v_iload_n X dX3_night_12 rfl ?_
      refine v_bipush (v := nI 12) X dX3_night_13 rfl ?_
      refine v_icmp_geN (tgt := 31) (a := j) (b := 12) X dX3_night_15 (by decide) rfl rfl (by omega) (by omega) (fun c15 => ?_) (fun c15 => ?_)
      · refine v_iconst (v := nI 0) X dX3_night_31 rfl ?_
        refine v_istore_n (lv' := [(1, .int (nI 0)), (0, .ref M)]) X dX3_night_32 (by decide) rfl ?_
        have L33 : ∀ (N33 : Nat) (o : Nat) (h2 : HF) (hm33 : nO m0 - o < N33) (ho : o ≤ nO m0) (hTm : TW G hx h2 M ad w4 w6 w7 w8 w9 w10 w11 w13 w19 w20 w21 w22 w24 ((itr outsS o (upd m0 5 (nI (nN m0 + 1)), [])).1) m1 m2 m3 m5 m12 (addK m14 (itr outsS o (upd m0 5 (nI (nN m0 + 1)), [])).2) (zJ 12 m15) m16 m17 m18 m23), V p l e { frames := 8, cells := 0, slots := 0, locals := 180 } s m args below meth c (VQ below args s G s0 (fun v h9 => v = none ∧ TW G hx h9 M ad w4 w6 w7 w8 w9 w10 w11 w13 w19 w20 w21 w22 w24 (night m0) m1 m2 m3 m5 m12 (addK m14 (nightK m0)) (setW (zJ 12 m15) (nightW m0)) m16 m17 m18 m23) nox 0 0) G s0.heap.size 2 33 [(1, .int (nI o)), (0, .ref M)] [] h2 0 0 := by
          intro N33
          induction N33 with
          | zero =>
            intro o h2 hm33
            exact absurd hm33 (Nat.not_lt_zero _)
          | succ N33 ih33 =>
            intro o h2 hm33 ho hTm
            refine v_iload_n X dX3_night_33 rfl ?_
            refine v_aload_n X dX3_night_34 rfl ?_
            refine v_get (v := .ref (ad 0)) X dX3_night_35 fr_X3_9 hTm.o rfl ?_
            refine v_iconst (v := nI 1) X dX3_night_38 rfl ?_
            refine v_iald (f := (itr outsS o (upd m0 5 (nI (nN m0 + 1)), [])).1) (j := 1) X dX3_night_39 hTm.a0 rfl (by omega) (by decide) ?_
            refine v_eqi ((wf_outs hwD o).1.2.1.trans ((pk_un (by omega)).trans hg.o)) ?_
            refine v_icmp_geN (tgt := 62) (a := o) (b := nO m0) X dX3_night_40 (by decide) rfl rfl (by omega) (by omega) (fun c40 => ?_) (fun c40 => ?_)
            · refine v_aload_n X dX3_night_62 rfl ?_
              refine v_get (v := .ref (ad 0)) X dX3_night_63 fr_X3_9 hTm.o rfl ?_
              refine v_iconst (v := nI 3) X dX3_night_66 rfl ?_
              refine v_iald (f := (itr outsS o (upd m0 5 (nI (nN m0 + 1)), [])).1) (j := 3) X dX3_night_67 hTm.a0 rfl (by omega) (by decide) ?_
              refine v_bipush (v := nI 7) X dX3_night_68 rfl ?_
              refine v_icmp_lt (tgt := 77) X dX3_night_70 (by decide) (fun c70 => ?_) (fun c70 => ?_)
              · have hTB : TW G hx h2 M ad w4 w6 w7 w8 w9 w10 w11 w13 w19 w20 w21 w22 w24 (nightB m0) m1 m2 m3 m5 m12 (addK m14 (nightK m0)) (zJ 12 m15) m16 m17 m18 m23 := ((hTm.eq0 (by show (itr outsS o (upd m0 5 (nI (nN m0 + 1)), [])).1 = nightB m0; unfold nightB; rw [if_neg (by show _; unfold nightA outs; rw [← (show o = nO (upd m0 5 (nI (nN m0 + 1))) by rw [day_O]; omega)]; exact (Int32.not_le.mpr c70))]; unfold nightA outs; rw [← (show o = nO (upd m0 5 (nI (nN m0 + 1))) by rw [day_O]; omega)])).eq14 (by show addK m14 (itr outsS o (upd m0 5 (nI (nN m0 + 1)), [])).2 = addK m14 (nightK m0); unfold nightK nightA outs; rw [← (show o = nO (upd m0 5 (nI (nN m0 + 1))) by rw [day_O]; omega)]))
                refine v_iconst (v := nI 0) X dX3_night_77 rfl ?_
                refine v_istore_n (lv' := [(1, .int (nI 0)), (0, .ref M)]) X dX3_night_78 (by decide) rfl ?_
                have L79 : ∀ (N79 : Nat) (r : Nat) (h4 : HF) (hm79 : nR m0 - r < N79) (hr9 : r ≤ nR m0) (hTn : TW G hx h4 M ad w4 w6 w7 w8 w9 w10 w11 w13 w19 w20 w21 w22 w24 ((itr holtsS r (nightB m0, [])).1) m1 m2 m3 m5 m12 (addK m14 (nightK m0)) (setW (zJ 12 m15) (itr holtsS r (nightB m0, [])).2) m16 m17 m18 m23), V p l e { frames := 8, cells := 0, slots := 0, locals := 180 } s m args below meth c (VQ below args s G s0 (fun v h9 => v = none ∧ TW G hx h9 M ad w4 w6 w7 w8 w9 w10 w11 w13 w19 w20 w21 w22 w24 (night m0) m1 m2 m3 m5 m12 (addK m14 (nightK m0)) (setW (zJ 12 m15) (nightW m0)) m16 m17 m18 m23) nox 0 0) G s0.heap.size 2 79 [(1, .int (nI r)), (0, .ref M)] [] h4 0 0 := by
                  intro N79
                  induction N79 with
                  | zero =>
                    intro r h4 hm79
                    exact absurd hm79 (Nat.not_lt_zero _)
                  | succ N79 ih79 =>
                    intro r h4 hm79 hr9 hTn
                    refine v_iload_n X dX3_night_79 rfl ?_
                    refine v_aload_n X dX3_night_80 rfl ?_
                    refine v_get (v := .ref (ad 0)) X dX3_night_81 fr_X3_9 hTn.o rfl ?_
                    refine v_iconst (v := nI 0) X dX3_night_84 rfl ?_
                    refine v_iald (f := (itr holtsS r (nightB m0, [])).1) (j := 0) X dX3_night_85 hTn.a0 rfl (by omega) (by decide) ?_
                    refine v_eqi ((wf_holts hwB r (by omega)).2.1.r.trans (congrArg nI ((wf_holts hwB r (by omega)).1.1.trans hBR))) ?_
                    refine v_icmp_geN (tgt := 108) (a := r) (b := nR m0) X dX3_night_86 (by decide) rfl rfl (by omega) (by omega) (fun c86 => ?_) (fun c86 => ?_)
                    · exact v_vret X dX3_night_108 rfl (Nat.le_refl _) (Nat.le_refl _) ⟨rfl, ((hTn.eq0 (by show (itr holtsS r (nightB m0, [])).1 = night m0; unfold night holts; rw [← (show r = nR (nightB m0) by rw [hBR]; omega)])).eq15 (by show setW (zJ 12 m15) (itr holtsS r (nightB m0, [])).2 = setW (zJ 12 m15) (nightW m0); unfold nightW holts; rw [← (show r = nR (nightB m0) by rw [hBR]; omega)]))⟩
                    · refine v_aload_n X dX3_night_89 rfl ?_
                      refine v_iload_n X dX3_night_90 rfl ?_
                      refine v_callV (st := []) X dX3_night_91 (t3_hasHolt E0 h4 hTn r (by omega)) mr_X3_106 hTn.o rfl rfl rfl (Nat.le_of_ble_eq_true rfl) ⟨rfl, rfl⟩ ⟨Nat.le_of_ble_eq_true rfl, Nat.le_of_ble_eq_true rfl⟩ ⟨Nat.le_refl _, Nat.le_refl _⟩ (fun _ _ _ hx => v_nox hx) (fun v9 h9 hp => ?_)
                      obtain ⟨rfl, rfl⟩ := hp
                      refine v_if_eqB (tgt := 102) (b := (holt ((itr holtsS r (nightB m0, [])).1) r)) X dX3_night_94 (by decide) rfl (fun c94 => ?_) (fun c94 => ?_)
                      · refine v_iinc (kx := 0) (v := nI (r + 1)) (lv' := [(1, .int (nI (r + 1))), (0, .ref M)]) X dX3_night_102 rfl (nI_1 _) (by decide) rfl ?_
                        refine v_goto (tgt := 79) X dX3_night_105 (by decide) ?_
                        exact ih79 (r + 1) h4 (by omega) (by omega) ((hTn.eq0 (by show (itr holtsS r (nightB m0, [])).1 = (holtsS r (itr holtsS r (nightB m0, []))).1; rw [holtsS_f c94])).eq15 (by show (setW (zJ 12 m15) (itr holtsS r (nightB m0, [])).2) = setW (zJ 12 m15) (holtsS r (itr holtsS r (nightB m0, []))).2; rw [holtsS_f c94]))
                      · refine v_aload_n X dX3_night_97 rfl ?_
                        refine v_iload_n X dX3_night_98 rfl ?_
                        refine v_callV (st := []) X dX3_night_99 (t3_atHolt E0 h4 hTn (wf_holts hwB r (by omega)).2 r (by show r < nR (itr holtsS r (nightB m0, [])).1; rw [(wf_holts hwB r (by omega)).1.1, hBR]; exact c86)) mr_X3_186 hTn.o rfl rfl rfl (Nat.le_of_ble_eq_true rfl) ⟨rfl, rfl⟩ ⟨Nat.le_of_ble_eq_true rfl, Nat.le_of_ble_eq_true rfl⟩ ⟨Nat.le_refl _, Nat.le_refl _⟩ (fun _ _ _ hx => v_nox hx) (fun v9 h2 hp => ?_)
                        obtain ⟨rfl, hT2⟩ := hp
                        have hT2 : TW G hx h2 M ad w4 w6 w7 w8 w9 w10 w11 w13 w19 w20 w21 w22 w24 ((atHolt ((itr holtsS r (nightB m0, [])).1) r).1) m1 m2 m3 m5 m12 (addK m14 (nightK m0)) (if (atHolt ((itr holtsS r (nightB m0, [])).1) r).2 then upd (setW (zJ 12 m15) (itr holtsS r (nightB m0, [])).2) r (nI 1) else setW (zJ 12 m15) (itr holtsS r (nightB m0, [])).2) m16 m17 m18 m23 := hT2
                        refine v_iinc (kx := 0) (v := nI (r + 1)) (lv' := [(1, .int (nI (r + 1))), (0, .ref M)]) X dX3_night_102 rfl (nI_1 _) (by decide) rfl ?_
                        refine v_goto (tgt := 79) X dX3_night_105 (by decide) ?_
                        exact ih79 (r + 1) h2 (by omega) (by omega) ((hT2.eq0 (by show (atHolt ((itr holtsS r (nightB m0, [])).1) r).1 = (holtsS r (itr holtsS r (nightB m0, []))).1; rw [holtsS_t c94])).eq15 (by show (if (atHolt ((itr holtsS r (nightB m0, [])).1) r).2 then upd (setW (zJ 12 m15) (itr holtsS r (nightB m0, [])).2) r (nI 1) else setW (zJ 12 m15) (itr holtsS r (nightB m0, [])).2) = setW (zJ 12 m15) (holtsS r (itr holtsS r (nightB m0, []))).2; rw [holtsS_t c94]; exact setW_if _ _ _ _))
                exact L79 _ 0 h2 (Nat.lt_succ_self _) (Nat.zero_le _) hTB
              · refine v_aload_n X dX3_night_73 rfl ?_
                refine v_callV (st := []) X dX3_night_74 (t3_washes E0 h2 hTm (wf_outs hwD o).2) mr_X3_183 hTm.o rfl rfl rfl (Nat.le_of_ble_eq_true rfl) ⟨rfl, rfl⟩ ⟨Nat.le_of_ble_eq_true rfl, Nat.le_of_ble_eq_true rfl⟩ ⟨Nat.le_refl _, Nat.le_refl _⟩ (fun _ _ _ hx => v_nox hx) (fun v9 h3 hp => ?_)
                obtain ⟨rfl, hT3⟩ := hp
                have hT3 : TW G hx h3 M ad w4 w6 w7 w8 w9 w10 w11 w13 w19 w20 w21 w22 w24 (washes ((itr outsS o (upd m0 5 (nI (nN m0 + 1)), [])).1)) m1 m2 m3 m5 m12 (addK m14 (itr outsS o (upd m0 5 (nI (nN m0 + 1)), [])).2) (zJ 12 m15) m16 m17 m18 m23 := hT3
                have hTB : TW G hx h3 M ad w4 w6 w7 w8 w9 w10 w11 w13 w19 w20 w21 w22 w24 (nightB m0) m1 m2 m3 m5 m12 (addK m14 (nightK m0)) (zJ 12 m15) m16 m17 m18 m23 := ((hT3.eq0 (by show washes ((itr outsS o (upd m0 5 (nI (nN m0 + 1)), [])).1) = nightB m0; unfold nightB; rw [if_pos (by show _; unfold nightA outs; rw [← (show o = nO (upd m0 5 (nI (nN m0 + 1))) by rw [day_O]; omega)]; exact (Int32.not_lt.mp c70))]; unfold nightA outs; rw [← (show o = nO (upd m0 5 (nI (nN m0 + 1))) by rw [day_O]; omega)])).eq14 (by show addK m14 (itr outsS o (upd m0 5 (nI (nN m0 + 1)), [])).2 = addK m14 (nightK m0); unfold nightK nightA outs; rw [← (show o = nO (upd m0 5 (nI (nN m0 + 1))) by rw [day_O]; omega)]))
                refine v_iconst (v := nI 0) X dX3_night_77 rfl ?_
                refine v_istore_n (lv' := [(1, .int (nI 0)), (0, .ref M)]) X dX3_night_78 (by decide) rfl ?_
                have L79 : ∀ (N79 : Nat) (r : Nat) (h4 : HF) (hm79 : nR m0 - r < N79) (hr9 : r ≤ nR m0) (hTn : TW G hx h4 M ad w4 w6 w7 w8 w9 w10 w11 w13 w19 w20 w21 w22 w24 ((itr holtsS r (nightB m0, [])).1) m1 m2 m3 m5 m12 (addK m14 (nightK m0)) (setW (zJ 12 m15) (itr holtsS r (nightB m0, [])).2) m16 m17 m18 m23), V p l e { frames := 8, cells := 0, slots := 0, locals := 180 } s m args below meth c (VQ below args s G s0 (fun v h9 => v = none ∧ TW G hx h9 M ad w4 w6 w7 w8 w9 w10 w11 w13 w19 w20 w21 w22 w24 (night m0) m1 m2 m3 m5 m12 (addK m14 (nightK m0)) (setW (zJ 12 m15) (nightW m0)) m16 m17 m18 m23) nox 0 0) G s0.heap.size 2 79 [(1, .int (nI r)), (0, .ref M)] [] h4 0 0 := by
                  intro N79
                  induction N79 with
                  | zero =>
                    intro r h4 hm79
                    exact absurd hm79 (Nat.not_lt_zero _)
                  | succ N79 ih79 =>
                    intro r h4 hm79 hr9 hTn
                    refine v_iload_n X dX3_night_79 rfl ?_
                    refine v_aload_n X dX3_night_80 rfl ?_
                    refine v_get (v := .ref (ad 0)) X dX3_night_81 fr_X3_9 hTn.o rfl ?_
                    refine v_iconst (v := nI 0) X dX3_night_84 rfl ?_
                    refine v_iald (f := (itr holtsS r (nightB m0, [])).1) (j := 0) X dX3_night_85 hTn.a0 rfl (by omega) (by decide) ?_
                    refine v_eqi ((wf_holts hwB r (by omega)).2.1.r.trans (congrArg nI ((wf_holts hwB r (by omega)).1.1.trans hBR))) ?_
                    refine v_icmp_geN (tgt := 108) (a := r) (b := nR m0) X dX3_night_86 (by decide) rfl rfl (by omega) (by omega) (fun c86 => ?_) (fun c86 => ?_)
                    · exact v_vret X dX3_night_108 rfl (Nat.le_refl _) (Nat.le_refl _) ⟨rfl, ((hTn.eq0 (by show (itr holtsS r (nightB m0, [])).1 = night m0; unfold night holts; rw [← (show r = nR (nightB m0) by rw [hBR]; omega)])).eq15 (by show setW (zJ 12 m15) (itr holtsS r (nightB m0, [])).2 = setW (zJ 12 m15) (nightW m0); unfold nightW holts; rw [← (show r = nR (nightB m0) by rw [hBR]; omega)]))⟩
                    · refine v_aload_n X dX3_night_89 rfl ?_
                      refine v_iload_n X dX3_night_90 rfl ?_
                      refine v_callV (st := []) X dX3_night_91 (t3_hasHolt E0 h4 hTn r (by omega)) mr_X3_106 hTn.o rfl rfl rfl (Nat.le_of_ble_eq_true rfl) ⟨rfl, rfl⟩ ⟨Nat.le_of_ble_eq_true rfl, Nat.le_of_ble_eq_true rfl⟩ ⟨Nat.le_refl _, Nat.le_refl _⟩ (fun _ _ _ hx => v_nox hx) (fun v9 h9 hp => ?_)
                      obtain ⟨rfl, rfl⟩ := hp
                      refine v_if_eqB (tgt := 102) (b := (holt ((itr holtsS r (nightB m0, [])).1) r)) X dX3_night_94 (by decide) rfl (fun c94 => ?_) (fun c94 => ?_)
                      · refine v_iinc (kx := 0) (v := nI (r + 1)) (lv' := [(1, .int (nI (r + 1))), (0, .ref M)]) X dX3_night_102 rfl (nI_1 _) (by decide) rfl ?_
                        refine v_goto (tgt := 79) X dX3_night_105 (by decide) ?_
                        exact ih79 (r + 1) h4 (by omega) (by omega) ((hTn.eq0 (by show (itr holtsS r (nightB m0, [])).1 = (holtsS r (itr holtsS r (nightB m0, []))).1; rw [holtsS_f c94])).eq15 (by show (setW (zJ 12 m15) (itr holtsS r (nightB m0, [])).2) = setW (zJ 12 m15) (holtsS r (itr holtsS r (nightB m0, []))).2; rw [holtsS_f c94]))
                      · refine v_aload_n X dX3_night_97 rfl ?_
                        refine v_iload_n X dX3_night_98 rfl ?_
                        refine v_callV (st := []) X dX3_night_99 (t3_atHolt E0 h4 hTn (wf_holts hwB r (by omega)).2 r (by show r < nR (itr holtsS r (nightB m0, [])).1; rw [(wf_holts hwB r (by omega)).1.1, hBR]; exact c86)) mr_X3_186 hTn.o rfl rfl rfl (Nat.le_of_ble_eq_true rfl) ⟨rfl, rfl⟩ ⟨Nat.le_of_ble_eq_true rfl, Nat.le_of_ble_eq_true rfl⟩ ⟨Nat.le_refl _, Nat.le_refl _⟩ (fun _ _ _ hx => v_nox hx) (fun v9 h4 hp => ?_)
                        obtain ⟨rfl, hT4⟩ := hp
                        have hT4 : TW G hx h4 M ad w4 w6 w7 w8 w9 w10 w11 w13 w19 w20 w21 w22 w24 ((atHolt ((itr holtsS r (nightB m0, [])).1) r).1) m1 m2 m3 m5 m12 (addK m14 (nightK m0)) (if (atHolt ((itr holtsS r (nightB m0, [])).1) r).2 then upd (setW (zJ 12 m15) (itr holtsS r (nightB m0, [])).2) r (nI 1) else setW (zJ 12 m15) (itr holtsS r (nightB m0, [])).2) m16 m17 m18 m23 := hT4
                        refine v_iinc (kx := 0) (v := nI (r + 1)) (lv' := [(1, .int (nI (r + 1))), (0, .ref M)]) X dX3_night_102 rfl (nI_1 _) (by decide) rfl ?_
                        refine v_goto (tgt := 79) X dX3_night_105 (by decide) ?_
                        exact ih79 (r + 1) h4 (by omega) (by omega) ((hT4.eq0 (by show (atHolt ((itr holtsS r (nightB m0, [])).1) r).1 = (holtsS r (itr holtsS r (nightB m0, []))).1; rw [holtsS_t c94])).eq15 (by show (if (atHolt ((itr holtsS r (nightB m0, [])).1) r).2 then upd (setW (zJ 12 m15) (itr holtsS r (nightB m0, [])).2) r (nI 1) else setW (zJ 12 m15) (itr holtsS r (nightB m0, [])).2) = setW (zJ 12 m15) (holtsS r (itr holtsS r (nightB m0, []))).2; rw [holtsS_t c94]; exact setW_if _ _ _ _))
                exact L79 _ 0 h3 (Nat.lt_succ_self _) (Nat.zero_le _) hTB
            · refine v_aload_n X dX3_night_43 rfl ?_
              refine v_iload_n X dX3_night_44 rfl ?_
              refine v_callV (st := []) X dX3_night_45 (t3_lives E0 h2 hTm o (by omega)) mr_X3_78 hTm.o rfl rfl rfl (Nat.le_of_ble_eq_true rfl) ⟨rfl, rfl⟩ ⟨Nat.le_of_ble_eq_true rfl, Nat.le_of_ble_eq_true rfl⟩ ⟨Nat.le_refl _, Nat.le_refl _⟩ (fun _ _ _ hx => v_nox hx) (fun v9 h9 hp => ?_)
              obtain ⟨rfl, rfl⟩ := hp
              refine v_if_eqB (tgt := 56) (b := (lives ((itr outsS o (upd m0 5 (nI (nN m0 + 1)), [])).1) o)) X dX3_night_48 (by decide) rfl (fun c48 => ?_) (fun c48 => ?_)
              · refine v_iinc (kx := 0) (v := nI (o + 1)) (lv' := [(1, .int (nI (o + 1))), (0, .ref M)]) X dX3_night_56 rfl (nI_1 _) (by decide) rfl ?_
                refine v_goto (tgt := 33) X dX3_night_59 (by decide) ?_
                exact ih33 (o + 1) h2 (by omega) (by omega) ((hTm.eq0 (by show (itr outsS o (upd m0 5 (nI (nN m0 + 1)), [])).1 = (outsS o (itr outsS o (upd m0 5 (nI (nN m0 + 1)), []))).1; rw [outsS_f c48])).eq14 (by show addK m14 (itr outsS o (upd m0 5 (nI (nN m0 + 1)), [])).2 = addK m14 (outsS o (itr outsS o (upd m0 5 (nI (nN m0 + 1)), []))).2; rw [outsS_f c48]))
              · refine v_aload_n X dX3_night_51 rfl ?_
                refine v_iload_n X dX3_night_52 rfl ?_
                refine v_callV (st := []) X dX3_night_53 (t3_goesOut E0 h2 hTm (wf_outs hwD o).2 o (by show o < nO (itr outsS o (upd m0 5 (nI (nN m0 + 1)), [])).1; rw [(wf_outs hwD o).1.O, day_O]; exact c40) c48) mr_X3_180 hTm.o rfl rfl rfl (Nat.le_of_ble_eq_true rfl) ⟨rfl, rfl⟩ ⟨Nat.le_of_ble_eq_true rfl, Nat.le_of_ble_eq_true rfl⟩ ⟨Nat.le_refl _, Nat.le_refl _⟩ (fun _ _ _ hx => v_nox hx) (fun v9 h5 hp => ?_)
                obtain ⟨rfl, hT5⟩ := hp
                have hT5 : TW G hx h5 M ad w4 w6 w7 w8 w9 w10 w11 w13 w19 w20 w21 w22 w24 ((goesOut ((itr outsS o (upd m0 5 (nI (nN m0 + 1)), [])).1) o).1) m1 m2 m3 m5 m12 (addK (addK m14 (itr outsS o (upd m0 5 (nI (nN m0 + 1)), [])).2) (goesOut ((itr outsS o (upd m0 5 (nI (nN m0 + 1)), [])).1) o).2) (zJ 12 m15) m16 m17 m18 m23 := hT5
                refine v_iinc (kx := 0) (v := nI (o + 1)) (lv' := [(1, .int (nI (o + 1))), (0, .ref M)]) X dX3_night_56 rfl (nI_1 _) (by decide) rfl ?_
                refine v_goto (tgt := 33) X dX3_night_59 (by decide) ?_
                exact ih33 (o + 1) h5 (by omega) (by omega) ((hT5.eq0 (by show (goesOut ((itr outsS o (upd m0 5 (nI (nN m0 + 1)), [])).1) o).1 = (outsS o (itr outsS o (upd m0 5 (nI (nN m0 + 1)), []))).1; rw [outsS_t c48])).eq14 (by show addK (addK m14 (itr outsS o (upd m0 5 (nI (nN m0 + 1)), [])).2) (goesOut ((itr outsS o (upd m0 5 (nI (nN m0 + 1)), [])).1) o).2 = addK m14 (outsS o (itr outsS o (upd m0 5 (nI (nN m0 + 1)), []))).2; rw [outsS_t c48]; exact (addK_app _ _ _).symm))
        exact L33 _ 0 h1 (Nat.lt_succ_self _) (Nat.zero_le _) (hTl.eq15 (by show zJ j m15 = zJ 12 m15; rw [show j = 12 by omega]))
      · refine v_aload_n X dX3_night_18 rfl ?_
        refine v_get (v := .ref (ad 15)) X dX3_night_19 fr_X3_35 hTl.o rfl ?_
        refine v_iload_n X dX3_night_22 rfl ?_
        refine v_iconst (v := nI 0) X dX3_night_23 rfl ?_
        refine tw_ast15 (j := j) X hTl dX3_night_24 rfl rfl (by omega) (fun h6 hT6 => ?_)
        refine v_iinc (kx := 0) (v := nI (j + 1)) (lv' := [(1, .int (nI (j + 1))), (0, .ref M)]) X dX3_night_25 rfl (nI_1 _) (by decide) rfl ?_
        refine v_goto (tgt := 12) X dX3_night_28 (by decide) ?_
        exact ih12 (j + 1) h6 (by omega) (by omega) (hT6.eq15 (zJ_s j m15))
  exact L12 _ 0 h1 (Nat.lt_succ_self _) (Nat.zero_le _) (hT1.eq15 (zJ_0 m15))
