/-! the twin: orders that are not nights -/
set_option maxRecDepth 100000
set_option maxHeartbeats 4000000 in
set_option maxRecDepth 100000 in
theorem t3_levelIt {l : Launch} {G : GT} {bb : Nat} {s0 : State} (E0 : EN l G bb s0) (h : HF) {hx : HF} {M : Nat} {ad : Nat → Nat} {w4 w6 w7 w8 w9 w10 w11 w13 w19 w20 w21 w22 w24 : Int32} {m0 m1 m2 m3 m5 m12 m14 m15 m16 m17 m18 m23 : FA} (hT : TW G hx h M ad w4 w6 w7 w8 w9 w10 w11 w13 w19 w20 w21 w22 w24 m0 m1 m2 m3 m5 m12 m14 m15 m16 m17 m18 m23) (x : Int32) : HM l G s0 yX3_levelIt [Cond.code yX3_levelIt cX3_levelIt 3 (some .int)] { frames := 2, cells := 0, slots := 0, locals := 43 } [.ref M, .int x] h (pIt G hx M ad w4 w6 w7 w8 w9 w10 w11 w13 w19 w20 w21 w22 w24 m0 m1 m2 m3 m5 m12 m14 m15 m16 m17 m18 m23 (o_level (m0) x)) nox 0 0 := by
  refine HM.of (cc := cX3_levelIt) (nL := 3) (own := RX3) (nm := "levelIt") (lv := [(0, .ref M), (1, .int x)]) (by decide) rfl rfl E0 (Nat.le_of_ble_eq_true rfl) rfl (fun p e s m args below meth c X => ?_)
  refine v_iload_n X dX3_levelIt_0 rfl ?_
  refine v_i2l (v := x.toInt64) X dX3_levelIt_1 rfl ?_
  refine v_lconst (v := (nI 0).toInt64) X dX3_levelIt_2 (by decide) ?_
  refine v_ldc2 (v := 9) X dX3_levelIt_3 q2153 ?_
  refine v_eql (y := (nI 9).toInt64) (by decide) ?_
  refine v_callS (st := []) X dX3_levelIt_6 (t3_in E0 h x (nI 0) (nI 9)) mr_X3_71 rfl rfl (Nat.le_of_ble_eq_true rfl) ⟨rfl, rfl⟩ ⟨Nat.le_of_ble_eq_true rfl, Nat.le_of_ble_eq_true rfl⟩ ⟨Nat.le_refl _, Nat.le_refl _⟩ (fun _ _ _ hx => v_nox hx) (fun v9 h9 hp => ?_)
  obtain ⟨rfl, rfl⟩ := hp
  refine v_if_neB (tgt := 19) (b := (t_in x (nI 0) (nI 9))) X dX3_levelIt_9 (by decide) rfl (fun c9 => ?_) (fun c9 => ?_)
  · refine v_aload_n X dX3_levelIt_19 rfl ?_
    refine v_get (v := .ref (ad 0)) X dX3_levelIt_20 fr_X3_9 hT.o rfl ?_
    refine v_iconst (v := nI 3) X dX3_levelIt_23 rfl ?_
    refine v_iald (f := m0) (j := 3) X dX3_levelIt_24 hT.a0 rfl (by omega) (by decide) ?_
    refine v_istore_n (lv' := [(2, .int (m0 3)), (0, .ref M), (1, .int x)]) X dX3_levelIt_25 (by decide) rfl ?_
    refine v_aload_n X dX3_levelIt_26 rfl ?_
    refine v_get (v := .ref (ad 0)) X dX3_levelIt_27 fr_X3_9 hT.o rfl ?_
    refine v_iconst (v := nI 3) X dX3_levelIt_30 rfl ?_
    refine v_iload_n X dX3_levelIt_31 rfl ?_
    refine tw_ast0 (j := 3) X hT dX3_levelIt_32 rfl (by omega) (fun h1 hT1 => ?_)
    refine v_iload_n X dX3_levelIt_33 rfl ?_
    exact v_iret (x := m0 3) X dX3_levelIt_34 rfl rfl (Nat.le_refl _) (Nat.le_refl _) (pIt_r (a := m0 3) (f := upd m0 3 x) (if_neg (nf c9)) hT1)
  · refine v_aload_n X dX3_levelIt_12 rfl ?_
    refine v_iconst (v := nI 3) X dX3_levelIt_13 rfl ?_
    refine v_iload_n X dX3_levelIt_14 rfl ?_
    refine v_callV (st := []) X dX3_levelIt_15 (t3_refuse E0 h hT (nI 3) x) mr_X3_94 hT.o rfl rfl rfl (Nat.le_of_ble_eq_true rfl) ⟨rfl, rfl⟩ ⟨Nat.le_of_ble_eq_true rfl, Nat.le_of_ble_eq_true rfl⟩ ⟨Nat.le_refl _, Nat.le_refl _⟩ (fun _ _ _ hx => v_nox hx) (fun v9 h2 hp => ?_)
    obtain ⟨rfl, hT2⟩ := hp
    have hT2 : TW G hx h2 M ad w4 w6 (nI 1) (nI 3) x (nI 0) w11 w13 w19 w20 w21 w22 w24 m0 m1 m2 m3 m5 m12 m14 m15 m16 m17 m18 m23 := hT2
    exact v_iret (x := nI 0) X dX3_levelIt_18 rfl rfl (Nat.le_refl _) (Nat.le_refl _) (pIt_l (if_pos c9) hT2)

set_option maxHeartbeats 4000000 in
set_option maxRecDepth 100000 in
theorem t3_giveIt {l : Launch} {G : GT} {bb : Nat} {s0 : State} (E0 : EN l G bb s0) (h : HF) {hx : HF} {M : Nat} {ad : Nat → Nat} {w4 w6 w7 w8 w9 w10 w11 w13 w19 w20 w21 w22 w24 : Int32} {m0 m1 m2 m3 m5 m12 m14 m15 m16 m17 m18 m23 : FA} (hT : TW G hx h M ad w4 w6 w7 w8 w9 w10 w11 w13 w19 w20 w21 w22 w24 m0 m1 m2 m3 m5 m12 m14 m15 m16 m17 m18 m23) (x : Int32) : HM l G s0 yX3_giveIt [Cond.code yX3_giveIt cX3_giveIt 2 (some .int)] { frames := 2, cells := 0, slots := 0, locals := 43 } [.ref M, .int x] h (pIt G hx M ad w4 w6 w7 w8 w9 w10 w11 w13 w19 w20 w21 w22 w24 m0 m1 m2 m3 m5 m12 m14 m15 m16 m17 m18 m23 (o_give (m0) x)) nox 0 0 := by
  refine HM.of (cc := cX3_giveIt) (nL := 2) (own := RX3) (nm := "giveIt") (lv := [(0, .ref M), (1, .int x)]) (by decide) rfl rfl E0 (Nat.le_of_ble_eq_true rfl) rfl (fun p e s m args below meth c X => ?_)
  refine v_iload_n X dX3_giveIt_0 rfl ?_
  refine v_i2l (v := x.toInt64) X dX3_giveIt_1 rfl ?_
  refine v_lconst (v := (nI 1).toInt64) X dX3_giveIt_2 (by decide) ?_
  refine v_ldc2 (v := 99) X dX3_giveIt_3 q2239 ?_
  refine v_eql (y := (nI 99).toInt64) (by decide) ?_
  refine v_callS (st := []) X dX3_giveIt_6 (t3_in E0 h x (nI 1) (nI 99)) mr_X3_71 rfl rfl (Nat.le_of_ble_eq_true rfl) ⟨rfl, rfl⟩ ⟨Nat.le_of_ble_eq_true rfl, Nat.le_of_ble_eq_true rfl⟩ ⟨Nat.le_refl _, Nat.le_refl _⟩ (fun _ _ _ hx => v_nox hx) (fun v9 h9 hp => ?_)
  obtain ⟨rfl, rfl⟩ := hp
  refine v_if_neB (tgt := 19) (b := (t_in x (nI 1) (nI 99))) X dX3_giveIt_9 (by decide) rfl (fun c9 => ?_) (fun c9 => ?_)
  · refine v_aload_n X dX3_giveIt_19 rfl ?_
    refine v_get (v := .ref (ad 0)) X dX3_giveIt_20 fr_X3_9 hT.o rfl ?_
    refine v_iconst (v := nI 4) X dX3_giveIt_23 rfl ?_
    refine v_dup2 X dX3_giveIt_24 rfl rfl ?_
    refine v_iald (f := m0) (j := 4) X dX3_giveIt_25 hT.a0 rfl (by omega) (by decide) ?_
    refine v_iload_n X dX3_giveIt_26 rfl ?_
    refine v_iadd X dX3_giveIt_27 ?_
    refine tw_ast0 (j := 4) X hT dX3_giveIt_28 rfl (by omega) (fun h1 hT1 => ?_)
    refine v_aload_n X dX3_giveIt_29 rfl ?_
    refine v_get (v := .ref (ad 0)) X dX3_giveIt_30 fr_X3_9 hT1.o rfl ?_
    refine v_iconst (v := nI 4) X dX3_giveIt_33 rfl ?_
    refine v_iald (f := upd m0 4 ((m0 4) + x)) (j := 4) X dX3_giveIt_34 hT1.a0 rfl (by omega) (by decide) ?_
    refine v_eqi (y := (m0 4) + x) (by rw [pk_us]) ?_
    exact v_iret (x := (m0 4) + x) X dX3_giveIt_35 rfl rfl (Nat.le_refl _) (Nat.le_refl _) (pIt_r (a := (m0 4) + x) (f := upd m0 4 ((m0 4) + x)) (if_neg (nf c9)) hT1)
  · refine v_aload_n X dX3_giveIt_12 rfl ?_
    refine v_iconst (v := nI 3) X dX3_giveIt_13 rfl ?_
    refine v_iload_n X dX3_giveIt_14 rfl ?_
    refine v_callV (st := []) X dX3_giveIt_15 (t3_refuse E0 h hT (nI 3) x) mr_X3_94 hT.o rfl rfl rfl (Nat.le_of_ble_eq_true rfl) ⟨rfl, rfl⟩ ⟨Nat.le_of_ble_eq_true rfl, Nat.le_of_ble_eq_true rfl⟩ ⟨Nat.le_refl _, Nat.le_refl _⟩ (fun _ _ _ hx => v_nox hx) (fun v9 h2 hp => ?_)
    obtain ⟨rfl, hT2⟩ := hp
    have hT2 : TW G hx h2 M ad w4 w6 (nI 1) (nI 3) x (nI 0) w11 w13 w19 w20 w21 w22 w24 m0 m1 m2 m3 m5 m12 m14 m15 m16 m17 m18 m23 := hT2
    exact v_iret (x := nI 0) X dX3_giveIt_18 rfl rfl (Nat.le_refl _) (Nat.le_refl _) (pIt_l (if_pos c9) hT2)

set_option maxHeartbeats 4000000 in
set_option maxRecDepth 100000 in
theorem t3_level {l : Launch} {G : GT} {bb : Nat} {s0 : State} (E0 : EN l G bb s0) (h : HF) {hx : HF} {M : Nat} {ad : Nat → Nat} {w4 w6 w7 w8 w9 w10 w11 w13 w19 w20 w21 w22 w24 : Int32} {m0 m1 m2 m3 m5 m12 m14 m15 m16 m17 m18 m23 : FA} (hT : TW G hx h M ad w4 w6 w7 w8 w9 w10 w11 w13 w19 w20 w21 w22 w24 m0 m1 m2 m3 m5 m12 m14 m15 m16 m17 m18 m23) (hg : Gn (m0)) (ch : Nat) (hch : w6 = nI ch) (hch8 : ch ≤ 8) (x : Int32) : HM l G s0 yX3_level [Cond.code yX3_level cX3_level 2 (some .int)] { frames := 3, cells := 0, slots := 0, locals := 65 } [.ref M, .int x] h (pOp G hx M ad w4 w6 w7 w8 w9 w10 w11 w13 w19 w20 w21 w22 w24 m0 m1 m2 m3 m5 m12 m14 m15 m16 m17 m18 m23 ch (o_level (m0) x)) nox 0 0 := by
  refine HM.of (cc := cX3_level) (nL := 2) (own := RX3) (nm := "level") (lv := [(0, .ref M), (1, .int x)]) (by decide) rfl rfl E0 (Nat.le_of_ble_eq_true rfl) rfl (fun p e s m args below meth c X => ?_)
  have hgr := hg.rb
  have hgo := hg.ob
  have hgv := hg.vb
  have hgn := hg.nb
  refine v_aload_n X dX3_level_0 rfl ?_
  refine v_callV (st := []) X dX3_level_1 (t3_layAside E0 h hT ) mr_X3_89 hT.o rfl rfl rfl (Nat.le_of_ble_eq_true rfl) ⟨rfl, rfl⟩ ⟨Nat.le_of_ble_eq_true rfl, Nat.le_of_ble_eq_true rfl⟩ ⟨Nat.le_refl _, Nat.le_refl _⟩ (fun _ _ _ hx => v_nox hx) (fun v9 h1 hp => ?_)
  obtain ⟨rfl, hT1⟩ := hp
  have hT1 : TW G hx h1 M ad w4 w6 (nI 0) w8 w9 w10 w11 w13 w19 w20 w21 w22 w24 m0 (cpy 295 m0 m1) m2 m3 m5 m12 m14 m15 m16 m17 m18 m23 := hT1
  refine v_aload_n X dX3_level_4 rfl ?_
  refine v_aload_n X dX3_level_5 rfl ?_
  refine v_iload_n X dX3_level_6 rfl ?_
  refine v_callV (st := [.ref M]) X dX3_level_7 (t3_levelIt E0 h1 hT1 x) mr_X3_124 hT1.o rfl rfl rfl (Nat.le_of_ble_eq_true rfl) ⟨rfl, rfl⟩ ⟨Nat.le_of_ble_eq_true rfl, Nat.le_of_ble_eq_true rfl⟩ ⟨Nat.le_refl _, Nat.le_refl _⟩ (fun _ _ _ hx => v_nox hx) (fun v9 h2 hp => ?_)
  rcases OUT_cases (o_level m0 x) with ⟨x2, ho2⟩ | ⟨y2, ho2⟩
  · obtain ⟨rfl, hT2⟩ := hp.1 x2 ho2
    have hT2 : TW G hx h2 M ad w4 w6 (nI 1) x2.1 x2.2 (nI 0) w11 w13 w19 w20 w21 w22 w24 m0 (cpy 295 m0 m1) m2 m3 m5 m12 m14 m15 m16 m17 m18 m23 := hT2
    refine v_callV (st := []) X dX3_level_10 (t3_changed1 E0 h2 hT2 (nI 0) rfl) mr_X3_100 hT2.o rfl rfl rfl (Nat.le_of_ble_eq_true rfl) ⟨rfl, rfl⟩ ⟨Nat.le_of_ble_eq_true rfl, Nat.le_of_ble_eq_true rfl⟩ ⟨Nat.le_refl _, Nat.le_refl _⟩ (fun _ _ _ hx => v_nox hx) (fun v9 h9 hp => ?_)
    obtain ⟨rfl, rfl⟩ := hp
    exact v_iret (x := nI 0) X dX3_level_13 rfl rfl (Nat.le_refl _) (Nat.le_refl _) (pOp_l (a := x2.1) (b := x2.2) ho2 hT2)
  · obtain ⟨rfl, hT2⟩ := hp.2 y2 ho2
    have hT2 : TW G hx h2 M ad w4 w6 (nI 0) w8 w9 w10 w11 w13 w19 w20 w21 w22 w24 y2.2 (cpy 295 m0 m1) m2 m3 m5 m12 m14 m15 m16 m17 m18 m23 := hT2
    refine v_callV (st := []) X dX3_level_10 (t3_changed0 E0 h2 hT2 y2.1 rfl ch hch hch8) mr_X3_100 hT2.o rfl rfl rfl (Nat.le_of_ble_eq_true rfl) ⟨rfl, rfl⟩ ⟨Nat.le_of_ble_eq_true rfl, Nat.le_of_ble_eq_true rfl⟩ ⟨Nat.le_refl _, Nat.le_refl _⟩ (fun _ _ _ hx => v_nox hx) (fun v9 h3 hp => ?_)
    obtain ⟨rfl, hT3⟩ := hp
    have hT3 : TW G hx h3 M ad w4 (nI (pushN ch)) (nI 0) w8 w9 w10 w11 w13 w19 w20 w21 w22 w24 y2.2 (cpy 295 m0 m1) m2 m3 (pushP m5 (cpy 295 m0 m1) ch) m12 m14 m15 m16 m17 m18 m23 := hT3
    exact v_iret (x := y2.1) X dX3_level_13 rfl rfl (Nat.le_refl _) (Nat.le_refl _) (pOp_r (a := y2.1) (f := y2.2) ho2 hT3)

set_option maxHeartbeats 4000000 in
set_option maxRecDepth 100000 in
theorem t3_give {l : Launch} {G : GT} {bb : Nat} {s0 : State} (E0 : EN l G bb s0) (h : HF) {hx : HF} {M : Nat} {ad : Nat → Nat} {w4 w6 w7 w8 w9 w10 w11 w13 w19 w20 w21 w22 w24 : Int32} {m0 m1 m2 m3 m5 m12 m14 m15 m16 m17 m18 m23 : FA} (hT : TW G hx h M ad w4 w6 w7 w8 w9 w10 w11 w13 w19 w20 w21 w22 w24 m0 m1 m2 m3 m5 m12 m14 m15 m16 m17 m18 m23) (hg : Gn (m0)) (ch : Nat) (hch : w6 = nI ch) (hch8 : ch ≤ 8) (x : Int32) : HM l G s0 yX3_give [Cond.code yX3_give cX3_give 2 (some .int)] { frames := 3, cells := 0, slots := 0, locals := 64 } [.ref M, .int x] h (pOp G hx M ad w4 w6 w7 w8 w9 w10 w11 w13 w19 w20 w21 w22 w24 m0 m1 m2 m3 m5 m12 m14 m15 m16 m17 m18 m23 ch (o_give (m0) x)) nox 0 0 := by
  refine HM.of (cc := cX3_give) (nL := 2) (own := RX3) (nm := "give") (lv := [(0, .ref M), (1, .int x)]) (by decide) rfl rfl E0 (Nat.le_of_ble_eq_true rfl) rfl (fun p e s m args below meth c X => ?_)
  have hgr := hg.rb
  have hgo := hg.ob
  have hgv := hg.vb
  have hgn := hg.nb
  refine v_aload_n X dX3_give_0 rfl ?_
  refine v_callV (st := []) X dX3_give_1 (t3_layAside E0 h hT ) mr_X3_89 hT.o rfl rfl rfl (Nat.le_of_ble_eq_true rfl) ⟨rfl, rfl⟩ ⟨Nat.le_of_ble_eq_true rfl, Nat.le_of_ble_eq_true rfl⟩ ⟨Nat.le_refl _, Nat.le_refl _⟩ (fun _ _ _ hx => v_nox hx) (fun v9 h1 hp => ?_)
  obtain ⟨rfl, hT1⟩ := hp
  have hT1 : TW G hx h1 M ad w4 w6 (nI 0) w8 w9 w10 w11 w13 w19 w20 w21 w22 w24 m0 (cpy 295 m0 m1) m2 m3 m5 m12 m14 m15 m16 m17 m18 m23 := hT1
  refine v_aload_n X dX3_give_4 rfl ?_
  refine v_aload_n X dX3_give_5 rfl ?_
  refine v_iload_n X dX3_give_6 rfl ?_
  refine v_callV (st := [.ref M]) X dX3_give_7 (t3_giveIt E0 h1 hT1 x) mr_X3_129 hT1.o rfl rfl rfl (Nat.le_of_ble_eq_true rfl) ⟨rfl, rfl⟩ ⟨Nat.le_of_ble_eq_true rfl, Nat.le_of_ble_eq_true rfl⟩ ⟨Nat.le_refl _, Nat.le_refl _⟩ (fun _ _ _ hx => v_nox hx) (fun v9 h2 hp => ?_)
  rcases OUT_cases (o_give m0 x) with ⟨x2, ho2⟩ | ⟨y2, ho2⟩
  · obtain ⟨rfl, hT2⟩ := hp.1 x2 ho2
    have hT2 : TW G hx h2 M ad w4 w6 (nI 1) x2.1 x2.2 (nI 0) w11 w13 w19 w20 w21 w22 w24 m0 (cpy 295 m0 m1) m2 m3 m5 m12 m14 m15 m16 m17 m18 m23 := hT2
    refine v_callV (st := []) X dX3_give_10 (t3_changed1 E0 h2 hT2 (nI 0) rfl) mr_X3_100 hT2.o rfl rfl rfl (Nat.le_of_ble_eq_true rfl) ⟨rfl, rfl⟩ ⟨Nat.le_of_ble_eq_true rfl, Nat.le_of_ble_eq_true rfl⟩ ⟨Nat.le_refl _, Nat.le_refl _⟩ (fun _ _ _ hx => v_nox hx) (fun v9 h9 hp => ?_)
    obtain ⟨rfl, rfl⟩ := hp
    exact v_iret (x := nI 0) X dX3_give_13 rfl rfl (Nat.le_refl _) (Nat.le_refl _) (pOp_l (a := x2.1) (b := x2.2) ho2 hT2)
  · obtain ⟨rfl, hT2⟩ := hp.2 y2 ho2
    have hT2 : TW G hx h2 M ad w4 w6 (nI 0) w8 w9 w10 w11 w13 w19 w20 w21 w22 w24 y2.2 (cpy 295 m0 m1) m2 m3 m5 m12 m14 m15 m16 m17 m18 m23 := hT2
    refine v_callV (st := []) X dX3_give_10 (t3_changed0 E0 h2 hT2 y2.1 rfl ch hch hch8) mr_X3_100 hT2.o rfl rfl rfl (Nat.le_of_ble_eq_true rfl) ⟨rfl, rfl⟩ ⟨Nat.le_of_ble_eq_true rfl, Nat.le_of_ble_eq_true rfl⟩ ⟨Nat.le_refl _, Nat.le_refl _⟩ (fun _ _ _ hx => v_nox hx) (fun v9 h3 hp => ?_)
    obtain ⟨rfl, hT3⟩ := hp
    have hT3 : TW G hx h3 M ad w4 (nI (pushN ch)) (nI 0) w8 w9 w10 w11 w13 w19 w20 w21 w22 w24 y2.2 (cpy 295 m0 m1) m2 m3 (pushP m5 (cpy 295 m0 m1) ch) m12 m14 m15 m16 m17 m18 m23 := hT3
    exact v_iret (x := y2.1) X dX3_give_13 rfl rfl (Nat.le_refl _) (Nat.le_refl _) (pOp_r (a := y2.1) (f := y2.2) ho2 hT3)

set_option maxHeartbeats 4000000 in
set_option maxRecDepth 100000 in
theorem t3_shutIt {l : Launch} {G : GT} {bb : Nat} {s0 : State} (E0 : EN l G bb s0) (h : HF) {hx : HF} {M : Nat} {ad : Nat → Nat} {w4 w6 w7 w8 w9 w10 w11 w13 w19 w20 w21 w22 w24 : Int32} {m0 m1 m2 m3 m5 m12 m14 m15 m16 m17 m18 m23 : FA} (hT : TW G hx h M ad w4 w6 w7 w8 w9 w10 w11 w13 w19 w20 w21 w22 w24 m0 m1 m2 m3 m5 m12 m14 m15 m16 m17 m18 m23) (hg : Gn (m0)) (x : Int32) : HM l G s0 yX3_shutIt [Cond.code yX3_shutIt cX3_shutIt 3 (some .int)] { frames := 2, cells := 0, slots := 0, locals := 46 } [.ref M, .int x] h (pIt G hx M ad w4 w6 w7 w8 w9 w10 w11 w13 w19 w20 w21 w22 w24 m0 m1 m2 m3 m5 m12 m14 m15 m16 m17 m18 m23 (o_shut (m0) x)) nox 0 0 := by
  refine HM.of (cc := cX3_shutIt) (nL := 3) (own := RX3) (nm := "shutIt") (lv := [(0, .ref M), (1, .int x)]) (by decide) rfl rfl E0 (Nat.le_of_ble_eq_true rfl) rfl (fun p e s m args below meth c X => ?_)
  have hgr := hg.rb
  have hgo := hg.ob
  have hgv := hg.vb
  have hgn := hg.nb
  refine v_aload_n X dX3_shutIt_0 rfl ?_
  refine v_iload_n X dX3_shutIt_1 rfl ?_
  refine v_callV (st := []) X dX3_shutIt_2 (t3_isReach E0 h hT hg x) mr_X3_103 hT.o rfl rfl rfl (Nat.le_of_ble_eq_true rfl) ⟨rfl, rfl⟩ ⟨Nat.le_of_ble_eq_true rfl, Nat.le_of_ble_eq_true rfl⟩ ⟨Nat.le_refl _, Nat.le_refl _⟩ (fun _ _ _ hx => v_nox hx) (fun v9 h9 hp => ?_)
  obtain ⟨rfl, rfl⟩ := hp
  refine v_if_neB (tgt := 15) (b := (isR m0 x)) X dX3_shutIt_5 (by decide) rfl (fun c5 => ?_) (fun c5 => ?_)
  · obtain ⟨j, hj, ej⟩ := (isR_iff hg).mp c5
    have nj : x.toNatClampNeg = j := by rw [ej]; exact nI_clamp (by omega)
    refine v_lveq (lv' := [(0, .ref M), (1, .int (nI j))]) (by rw [ej]) ?_
    refine v_iload_n X dX3_shutIt_15 rfl ?_
    refine v_callS (st := []) X dX3_shutIt_16 (t3_at E0 h j) mr_X3_86 rfl rfl (Nat.le_of_ble_eq_true rfl) ⟨rfl, rfl⟩ ⟨Nat.le_of_ble_eq_true rfl, Nat.le_of_ble_eq_true rfl⟩ ⟨Nat.le_refl _, Nat.le_refl _⟩ (fun _ _ _ hx => v_nox hx) (fun v9 h9 hp => ?_)
    obtain ⟨rfl, rfl⟩ := hp
    refine v_istore_n (lv' := [(2, .int (nI (12 + 9 * j))), (0, .ref M), (1, .int (nI j))]) X dX3_shutIt_19 (by decide) rfl ?_
    refine v_aload_n X dX3_shutIt_20 rfl ?_
    refine v_iload_n X dX3_shutIt_21 rfl ?_
    refine v_callV (st := []) X dX3_shutIt_22 (t3_hasBridge E0 h hT j (by omega)) mr_X3_132 hT.o rfl rfl rfl (Nat.le_of_ble_eq_true rfl) ⟨rfl, rfl⟩ ⟨Nat.le_of_ble_eq_true rfl, Nat.le_of_ble_eq_true rfl⟩ ⟨Nat.le_refl _, Nat.le_refl _⟩ (fun _ _ _ hx => v_nox hx) (fun v9 h9 hp => ?_)
    obtain ⟨rfl, rfl⟩ := hp
    refine v_if_neB (tgt := 43) (b := (bridge m0 j)) X dX3_shutIt_25 (by decide) rfl (fun c25 => ?_) (fun c25 => ?_)
    · refine v_aload_n X dX3_shutIt_43 rfl ?_
      refine v_get (v := .ref (ad 0)) X dX3_shutIt_44 fr_X3_9 hT.o rfl ?_
      refine v_iload_n X dX3_shutIt_47 rfl ?_
      refine v_iconst (v := nI 4) X dX3_shutIt_48 rfl ?_
      refine v_iaddN (a := 12 + 9 * j) (b := 4) X dX3_shutIt_49 rfl rfl ?_
      refine v_iald (f := m0) (j := 12 + 9 * j + 4) X dX3_shutIt_50 hT.a0 rfl (by omega) (by decide) ?_
      refine v_if_ne (tgt := 69) X dX3_shutIt_51 (by decide) (fun c51 => ?_) (fun c51 => ?_)
      · refine v_aload_n X dX3_shutIt_69 rfl ?_
        refine v_get (v := .ref (ad 0)) X dX3_shutIt_70 fr_X3_9 hT.o rfl ?_
        refine v_iconst (v := nI 4) X dX3_shutIt_73 rfl ?_
        refine v_iald (f := m0) (j := 4) X dX3_shutIt_74 hT.a0 rfl (by omega) (by decide) ?_
        refine v_bipush (v := nI 25) X dX3_shutIt_75 rfl ?_
        refine v_icmp_ge (tgt := 96) X dX3_shutIt_77 (by decide) (fun c77 => ?_) (fun c77 => ?_)
        · refine v_aload_n X dX3_shutIt_96 rfl ?_
          refine v_get (v := .ref (ad 0)) X dX3_shutIt_97 fr_X3_9 hT.o rfl ?_
          refine v_iconst (v := nI 4) X dX3_shutIt_100 rfl ?_
          refine v_dup2 X dX3_shutIt_101 rfl rfl ?_
          refine v_iald (f := m0) (j := 4) X dX3_shutIt_102 hT.a0 rfl (by omega) (by decide) ?_
          refine v_bipush (v := nI 25) X dX3_shutIt_103 rfl ?_
          refine v_isub X dX3_shutIt_105 ?_
          refine tw_ast0 (j := 4) X hT dX3_shutIt_106 rfl (by omega) (fun h1 hT1 => ?_)
          refine v_aload_n X dX3_shutIt_107 rfl ?_
          refine v_get (v := .ref (ad 0)) X dX3_shutIt_108 fr_X3_9 hT1.o rfl ?_
          refine v_iload_n X dX3_shutIt_111 rfl ?_
          refine v_iconst (v := nI 4) X dX3_shutIt_112 rfl ?_
          refine v_iaddN (a := 12 + 9 * j) (b := 4) X dX3_shutIt_113 rfl rfl ?_
          refine v_iconst (v := nI 0) X dX3_shutIt_114 rfl ?_
          refine tw_ast0 (j := 12 + 9 * j + 4) X hT1 dX3_shutIt_115 rfl (by omega) (fun h2 hT2 => ?_)
          refine v_aload_n X dX3_shutIt_116 rfl ?_
          refine v_callV (st := []) X dX3_shutIt_117 (t3_openDips E0 h2 hT2 (((Hd.rf.tr (Hd.up (by omega))).tr (Hd.up (by omega))).G hg)) mr_X3_135 hT2.o rfl rfl rfl (Nat.le_of_ble_eq_true rfl) ⟨rfl, rfl⟩ ⟨Nat.le_of_ble_eq_true rfl, Nat.le_of_ble_eq_true rfl⟩ ⟨Nat.le_refl _, Nat.le_refl _⟩ (fun _ _ _ hx => v_nox hx) (fun v9 h9 hp => ?_)
          obtain ⟨rfl, rfl⟩ := hp
          exact v_iret (x := openDips (upd (upd m0 4 ((m0 4) - (nI 25))) (12 + 9 * j + 4) (nI 0))) X dX3_shutIt_120 rfl rfl (Nat.le_refl _) (Nat.le_refl _) (pIt_r (a := openDips (upd (upd m0 4 ((m0 4) - (nI 25))) (12 + 9 * j + 4) (nI 0))) (f := upd (upd m0 4 ((m0 4) - (nI 25))) (12 + 9 * j + 4) (nI 0)) (by unfold o_shut; rw [if_neg (nf c5), nj, if_neg (nf c25), if_neg c51, if_neg (Int32.not_lt.mpr c77)]; rfl) hT2)
        · refine v_aload_n X dX3_shutIt_80 rfl ?_
          refine v_bipush (v := nI 9) X dX3_shutIt_81 rfl ?_
          refine v_bipush (v := nI 25) X dX3_shutIt_83 rfl ?_
          refine v_aload_n X dX3_shutIt_85 rfl ?_
          refine v_get (v := .ref (ad 0)) X dX3_shutIt_86 fr_X3_9 hT.o rfl ?_
          refine v_iconst (v := nI 4) X dX3_shutIt_89 rfl ?_
          refine v_iald (f := m0) (j := 4) X dX3_shutIt_90 hT.a0 rfl (by omega) (by decide) ?_
          refine v_isub X dX3_shutIt_91 ?_
          refine v_callV (st := []) X dX3_shutIt_92 (t3_refuse E0 h hT (nI 9) ((nI 25) - (m0 4))) mr_X3_94 hT.o rfl rfl rfl (Nat.le_of_ble_eq_true rfl) ⟨rfl, rfl⟩ ⟨Nat.le_of_ble_eq_true rfl, Nat.le_of_ble_eq_true rfl⟩ ⟨Nat.le_refl _, Nat.le_refl _⟩ (fun _ _ _ hx => v_nox hx) (fun v9 h3 hp => ?_)
          obtain ⟨rfl, hT3⟩ := hp
          have hT3 : TW G hx h3 M ad w4 w6 (nI 1) (nI 9) ((nI 25) - (m0 4)) (nI 0) w11 w13 w19 w20 w21 w22 w24 m0 m1 m2 m3 m5 m12 m14 m15 m16 m17 m18 m23 := hT3
          exact v_iret (x := nI 0) X dX3_shutIt_95 rfl rfl (Nat.le_refl _) (Nat.le_refl _) (pIt_l (by unfold o_shut; rw [if_neg (nf c5), nj, if_neg (nf c25), if_neg c51, if_pos (Int32.not_le.mp c77)]) hT3)
      · refine v_aload_n X dX3_shutIt_54 rfl ?_
        refine v_bipush (v := nI 8) X dX3_shutIt_55 rfl ?_
        refine v_aload_n X dX3_shutIt_57 rfl ?_
        refine v_get (v := .ref (ad 0)) X dX3_shutIt_58 fr_X3_9 hT.o rfl ?_
        refine v_iload_n X dX3_shutIt_61 rfl ?_
        refine v_iconst (v := nI 3) X dX3_shutIt_62 rfl ?_
        refine v_iaddN (a := 12 + 9 * j) (b := 3) X dX3_shutIt_63 rfl rfl ?_
        refine v_iald (f := m0) (j := 12 + 9 * j + 3) X dX3_shutIt_64 hT.a0 rfl (by omega) (by decide) ?_
        refine v_callV (st := []) X dX3_shutIt_65 (t3_refuse E0 h hT (nI 8) (m0 (12 + 9 * j + 3))) mr_X3_94 hT.o rfl rfl rfl (Nat.le_of_ble_eq_true rfl) ⟨rfl, rfl⟩ ⟨Nat.le_of_ble_eq_true rfl, Nat.le_of_ble_eq_true rfl⟩ ⟨Nat.le_refl _, Nat.le_refl _⟩ (fun _ _ _ hx => v_nox hx) (fun v9 h4 hp => ?_)
        obtain ⟨rfl, hT4⟩ := hp
        have hT4 : TW G hx h4 M ad w4 w6 (nI 1) (nI 8) (m0 (12 + 9 * j + 3)) (nI 0) w11 w13 w19 w20 w21 w22 w24 m0 m1 m2 m3 m5 m12 m14 m15 m16 m17 m18 m23 := hT4
        exact v_iret (x := nI 0) X dX3_shutIt_68 rfl rfl (Nat.le_refl _) (Nat.le_refl _) (pIt_l (by unfold o_shut; rw [if_neg (nf c5), nj, if_neg (nf c25), if_pos c51]) hT4)
    · refine v_aload_n X dX3_shutIt_28 rfl ?_
      refine v_bipush (v := nI 7) X dX3_shutIt_29 rfl ?_
      refine v_aload_n X dX3_shutIt_31 rfl ?_
      refine v_get (v := .ref (ad 0)) X dX3_shutIt_32 fr_X3_9 hT.o rfl ?_
      refine v_iload_n X dX3_shutIt_35 rfl ?_
      refine v_iconst (v := nI 0) X dX3_shutIt_36 rfl ?_
      refine v_iaddN (a := 12 + 9 * j) (b := 0) X dX3_shutIt_37 rfl rfl ?_
      refine v_iald (f := m0) (j := 12 + 9 * j) X dX3_shutIt_38 hT.a0 rfl (by omega) (by decide) ?_
      refine v_callV (st := []) X dX3_shutIt_39 (t3_refuse E0 h hT (nI 7) (m0 (12 + 9 * j))) mr_X3_94 hT.o rfl rfl rfl (Nat.le_of_ble_eq_true rfl) ⟨rfl, rfl⟩ ⟨Nat.le_of_ble_eq_true rfl, Nat.le_of_ble_eq_true rfl⟩ ⟨Nat.le_refl _, Nat.le_refl _⟩ (fun _ _ _ hx => v_nox hx) (fun v9 h5 hp => ?_)
      obtain ⟨rfl, hT5⟩ := hp
      have hT5 : TW G hx h5 M ad w4 w6 (nI 1) (nI 7) (m0 (12 + 9 * j)) (nI 0) w11 w13 w19 w20 w21 w22 w24 m0 m1 m2 m3 m5 m12 m14 m15 m16 m17 m18 m23 := hT5
      exact v_iret (x := nI 0) X dX3_shutIt_42 rfl rfl (Nat.le_refl _) (Nat.le_refl _) (pIt_l (by unfold o_shut; rw [if_neg (nf c5), nj, if_pos c25]) hT5)
  · refine v_aload_n X dX3_shutIt_8 rfl ?_
    refine v_iconst (v := nI 2) X dX3_shutIt_9 rfl ?_
    refine v_iload_n X dX3_shutIt_10 rfl ?_
    refine v_callV (st := []) X dX3_shutIt_11 (t3_refuse E0 h hT (nI 2) x) mr_X3_94 hT.o rfl rfl rfl (Nat.le_of_ble_eq_true rfl) ⟨rfl, rfl⟩ ⟨Nat.le_of_ble_eq_true rfl, Nat.le_of_ble_eq_true rfl⟩ ⟨Nat.le_refl _, Nat.le_refl _⟩ (fun _ _ _ hx => v_nox hx) (fun v9 h6 hp => ?_)
    obtain ⟨rfl, hT6⟩ := hp
    have hT6 : TW G hx h6 M ad w4 w6 (nI 1) (nI 2) x (nI 0) w11 w13 w19 w20 w21 w22 w24 m0 m1 m2 m3 m5 m12 m14 m15 m16 m17 m18 m23 := hT6
    exact v_iret (x := nI 0) X dX3_shutIt_14 rfl rfl (Nat.le_refl _) (Nat.le_refl _) (pIt_l (if_pos c5) hT6)

set_option maxHeartbeats 4000000 in
set_option maxRecDepth 100000 in
theorem t3_shut {l : Launch} {G : GT} {bb : Nat} {s0 : State} (E0 : EN l G bb s0) (h : HF) {hx : HF} {M : Nat} {ad : Nat → Nat} {w4 w6 w7 w8 w9 w10 w11 w13 w19 w20 w21 w22 w24 : Int32} {m0 m1 m2 m3 m5 m12 m14 m15 m16 m17 m18 m23 : FA} (hT : TW G hx h M ad w4 w6 w7 w8 w9 w10 w11 w13 w19 w20 w21 w22 w24 m0 m1 m2 m3 m5 m12 m14 m15 m16 m17 m18 m23) (hg : Gn (m0)) (ch : Nat) (hch : w6 = nI ch) (hch8 : ch ≤ 8) (x : Int32) : HM l G s0 yX3_shut [Cond.code yX3_shut cX3_shut 2 (some .int)] { frames := 3, cells := 0, slots := 0, locals := 68 } [.ref M, .int x] h (pOp G hx M ad w4 w6 w7 w8 w9 w10 w11 w13 w19 w20 w21 w22 w24 m0 m1 m2 m3 m5 m12 m14 m15 m16 m17 m18 m23 ch (o_shut (m0) x)) nox 0 0 := by
  refine HM.of (cc := cX3_shut) (nL := 2) (own := RX3) (nm := "shut") (lv := [(0, .ref M), (1, .int x)]) (by decide) rfl rfl E0 (Nat.le_of_ble_eq_true rfl) rfl (fun p e s m args below meth c X => ?_)
  have hgr := hg.rb
  have hgo := hg.ob
  have hgv := hg.vb
  have hgn := hg.nb
  refine v_aload_n X dX3_shut_0 rfl ?_
  refine v_callV (st := []) X dX3_shut_1 (t3_layAside E0 h hT ) mr_X3_89 hT.o rfl rfl rfl (Nat.le_of_ble_eq_true rfl) ⟨rfl, rfl⟩ ⟨Nat.le_of_ble_eq_true rfl, Nat.le_of_ble_eq_true rfl⟩ ⟨Nat.le_refl _, Nat.le_refl _⟩ (fun _ _ _ hx => v_nox hx) (fun v9 h1 hp => ?_)
  obtain ⟨rfl, hT1⟩ := hp
  have hT1 : TW G hx h1 M ad w4 w6 (nI 0) w8 w9 w10 w11 w13 w19 w20 w21 w22 w24 m0 (cpy 295 m0 m1) m2 m3 m5 m12 m14 m15 m16 m17 m18 m23 := hT1
  refine v_aload_n X dX3_shut_4 rfl ?_
  refine v_aload_n X dX3_shut_5 rfl ?_
  refine v_iload_n X dX3_shut_6 rfl ?_
  refine v_callV (st := [.ref M]) X dX3_shut_7 (t3_shutIt E0 h1 hT1 hg x) mr_X3_139 hT1.o rfl rfl rfl (Nat.le_of_ble_eq_true rfl) ⟨rfl, rfl⟩ ⟨Nat.le_of_ble_eq_true rfl, Nat.le_of_ble_eq_true rfl⟩ ⟨Nat.le_refl _, Nat.le_refl _⟩ (fun _ _ _ hx => v_nox hx) (fun v9 h2 hp => ?_)
  rcases OUT_cases (o_shut m0 x) with ⟨x2, ho2⟩ | ⟨y2, ho2⟩
  · obtain ⟨rfl, hT2⟩ := hp.1 x2 ho2
    have hT2 : TW G hx h2 M ad w4 w6 (nI 1) x2.1 x2.2 (nI 0) w11 w13 w19 w20 w21 w22 w24 m0 (cpy 295 m0 m1) m2 m3 m5 m12 m14 m15 m16 m17 m18 m23 := hT2
    refine v_callV (st := []) X dX3_shut_10 (t3_changed1 E0 h2 hT2 (nI 0) rfl) mr_X3_100 hT2.o rfl rfl rfl (Nat.le_of_ble_eq_true rfl) ⟨rfl, rfl⟩ ⟨Nat.le_of_ble_eq_true rfl, Nat.le_of_ble_eq_true rfl⟩ ⟨Nat.le_refl _, Nat.le_refl _⟩ (fun _ _ _ hx => v_nox hx) (fun v9 h9 hp => ?_)
    obtain ⟨rfl, rfl⟩ := hp
    exact v_iret (x := nI 0) X dX3_shut_13 rfl rfl (Nat.le_refl _) (Nat.le_refl _) (pOp_l (a := x2.1) (b := x2.2) ho2 hT2)
  · obtain ⟨rfl, hT2⟩ := hp.2 y2 ho2
    have hT2 : TW G hx h2 M ad w4 w6 (nI 0) w8 w9 w10 w11 w13 w19 w20 w21 w22 w24 y2.2 (cpy 295 m0 m1) m2 m3 m5 m12 m14 m15 m16 m17 m18 m23 := hT2
    refine v_callV (st := []) X dX3_shut_10 (t3_changed0 E0 h2 hT2 y2.1 rfl ch hch hch8) mr_X3_100 hT2.o rfl rfl rfl (Nat.le_of_ble_eq_true rfl) ⟨rfl, rfl⟩ ⟨Nat.le_of_ble_eq_true rfl, Nat.le_of_ble_eq_true rfl⟩ ⟨Nat.le_refl _, Nat.le_refl _⟩ (fun _ _ _ hx => v_nox hx) (fun v9 h3 hp => ?_)
    obtain ⟨rfl, hT3⟩ := hp
    have hT3 : TW G hx h3 M ad w4 (nI (pushN ch)) (nI 0) w8 w9 w10 w11 w13 w19 w20 w21 w22 w24 y2.2 (cpy 295 m0 m1) m2 m3 (pushP m5 (cpy 295 m0 m1) ch) m12 m14 m15 m16 m17 m18 m23 := hT3
    exact v_iret (x := y2.1) X dX3_shut_13 rfl rfl (Nat.le_refl _) (Nat.le_refl _) (pOp_r (a := y2.1) (f := y2.2) ho2 hT3)

set_option maxHeartbeats 4000000 in
set_option maxRecDepth 100000 in
theorem t3_reach {l : Launch} {G : GT} {bb : Nat} {s0 : State} (E0 : EN l G bb s0) (h : HF) {hx : HF} {M : Nat} {ad : Nat → Nat} {w4 w6 w7 w8 w9 w10 w11 w13 w19 w20 w21 w22 w24 : Int32} {m0 m1 m2 m3 m5 m12 m14 m15 m16 m17 m18 m23 : FA} (hT : TW G hx h M ad w4 w6 w7 w8 w9 w10 w11 w13 w19 w20 w21 w22 w24 m0 m1 m2 m3 m5 m12 m14 m15 m16 m17 m18 m23) (hg : Gn (m0)) (ch : Nat) (hch : w6 = nI ch) (hch8 : ch ≤ 8) (cv hd : Int32) : HM l G s0 yX3_reach [Cond.code yX3_reach cX3_reach 5 (some .int)] { frames := 2, cells := 0, slots := 0, locals := 43 } [.ref M, .int cv, .int hd] h (pOp G hx M ad w4 w6 w7 w8 w9 w10 w11 w13 w19 w20 w21 w22 w24 m0 m1 m2 m3 m5 m12 m14 m15 m16 m17 m18 m23 ch (o_reach (m0) cv hd)) nox 0 0 := by
  refine HM.of (cc := cX3_reach) (nL := 5) (own := RX3) (nm := "reach") (lv := [(0, .ref M), (1, .int cv), (2, .int hd)]) (by decide) rfl rfl E0 (Nat.le_of_ble_eq_true rfl) rfl (fun p e s m args below meth c X => ?_)
  have hgr := hg.rb
  have hgo := hg.ob
  have hgv := hg.vb
  have hgn := hg.nb
  refine v_aload_n X dX3_reach_0 rfl ?_
  refine v_callV (st := []) X dX3_reach_1 (t3_layAside E0 h hT ) mr_X3_89 hT.o rfl rfl rfl (Nat.le_of_ble_eq_true rfl) ⟨rfl, rfl⟩ ⟨Nat.le_of_ble_eq_true rfl, Nat.le_of_ble_eq_true rfl⟩ ⟨Nat.le_refl _, Nat.le_refl _⟩ (fun _ _ _ hx => v_nox hx) (fun v9 h1 hp => ?_)
  obtain ⟨rfl, hT1⟩ := hp
  have hT1 : TW G hx h1 M ad w4 w6 (nI 0) w8 w9 w10 w11 w13 w19 w20 w21 w22 w24 m0 (cpy 295 m0 m1) m2 m3 m5 m12 m14 m15 m16 m17 m18 m23 := hT1
  refine v_iload_n X dX3_reach_4 rfl ?_
  refine v_i2l (v := cv.toInt64) X dX3_reach_5 rfl ?_
  refine v_lconst (v := (nI 0).toInt64) X dX3_reach_6 (by decide) ?_
  refine v_ldc2 (v := 9) X dX3_reach_7 q2153 ?_
  refine v_eql (y := (nI 9).toInt64) (by decide) ?_
  refine v_callS (st := []) X dX3_reach_10 (t3_in E0 h1 cv (nI 0) (nI 9)) mr_X3_71 rfl rfl (Nat.le_of_ble_eq_true rfl) ⟨rfl, rfl⟩ ⟨Nat.le_of_ble_eq_true rfl, Nat.le_of_ble_eq_true rfl⟩ ⟨Nat.le_refl _, Nat.le_refl _⟩ (fun _ _ _ hx => v_nox hx) (fun v9 h9 hp => ?_)
  obtain ⟨rfl, rfl⟩ := hp
  refine v_if_neB (tgt := 23) (b := (t_in cv (nI 0) (nI 9))) X dX3_reach_13 (by decide) rfl (fun c13 => ?_) (fun c13 => ?_)
  · refine v_iload_n X dX3_reach_23 rfl ?_
    refine v_i2l (v := hd.toInt64) X dX3_reach_24 rfl ?_
    refine v_ldc2 (v := (-1)) X dX3_reach_25 q2165 ?_
    refine v_eql (y := (-1 : Int32).toInt64) (by decide) ?_
    refine v_ldc2 (v := 9) X dX3_reach_28 q2153 ?_
    refine v_eql (y := (nI 9).toInt64) (by decide) ?_
    refine v_callS (st := []) X dX3_reach_31 (t3_in E0 h1 hd (-1 : Int32) (nI 9)) mr_X3_71 rfl rfl (Nat.le_of_ble_eq_true rfl) ⟨rfl, rfl⟩ ⟨Nat.le_of_ble_eq_true rfl, Nat.le_of_ble_eq_true rfl⟩ ⟨Nat.le_refl _, Nat.le_refl _⟩ (fun _ _ _ hx => v_nox hx) (fun v9 h9 hp => ?_)
    obtain ⟨rfl, rfl⟩ := hp
    refine v_if_neB (tgt := 44) (b := (t_in hd (-1 : Int32) (nI 9))) X dX3_reach_34 (by decide) rfl (fun c34 => ?_) (fun c34 => ?_)
    · refine v_aload_n X dX3_reach_44 rfl ?_
      refine v_get (v := .ref (ad 0)) X dX3_reach_45 fr_X3_9 hT1.o rfl ?_
      refine v_iconst (v := nI 0) X dX3_reach_48 rfl ?_
      refine v_iald (f := m0) (j := 0) X dX3_reach_49 hT1.a0 rfl (by omega) (by decide) ?_
      refine v_eqi hg.r ?_
      refine v_bipush (v := nI 12) X dX3_reach_50 rfl ?_
      refine v_icmp_neN (tgt := 63) (a := nR (m0)) (b := 12) X dX3_reach_52 (by decide) rfl rfl (by omega) (by omega) (fun c52 => ?_) (fun c52 => ?_)
      · refine v_aload_n X dX3_reach_63 rfl ?_
        refine v_get (v := .ref (ad 0)) X dX3_reach_64 fr_X3_9 hT1.o rfl ?_
        refine v_iconst (v := nI 0) X dX3_reach_67 rfl ?_
        refine v_iald (f := m0) (j := 0) X dX3_reach_68 hT1.a0 rfl (by omega) (by decide) ?_
        refine v_eqi hg.r ?_
        refine v_callS (st := []) X dX3_reach_69 (t3_at E0 h1 (nR (m0))) mr_X3_86 rfl rfl (Nat.le_of_ble_eq_true rfl) ⟨rfl, rfl⟩ ⟨Nat.le_of_ble_eq_true rfl, Nat.le_of_ble_eq_true rfl⟩ ⟨Nat.le_refl _, Nat.le_refl _⟩ (fun _ _ _ hx => v_nox hx) (fun v9 h9 hp => ?_)
        obtain ⟨rfl, rfl⟩ := hp
        refine v_istore_n (lv' := [(3, .int (nI (12 + 9 * nR (m0)))), (0, .ref M), (1, .int cv), (2, .int hd)]) X dX3_reach_72 (by decide) rfl ?_
        refine v_iconst (v := nI 0) X dX3_reach_73 rfl ?_
        refine v_istore (lv' := [(4, .int (nI 0)), (3, .int (nI (12 + 9 * nR (m0)))), (0, .ref M), (1, .int cv), (2, .int hd)]) X dX3_reach_74 (by decide) rfl ?_
        have L76 : ∀ (N76 : Nat) (i : Nat) (h8 : HF) (hm76 : 9 - i < N76) (hi : i ≤ 9) (hTl : TW G hx h8 M ad w4 w6 (nI 0) w8 w9 w10 w11 w13 w19 w20 w21 w22 w24 (z9 (m0) (12 + 9 * nR (m0)) i) (cpy 295 m0 m1) m2 m3 m5 m12 m14 m15 m16 m17 m18 m23), V p l e { frames := 2, cells := 0, slots := 0, locals := 43 } s m args below meth c (VQ below args s G s0 (pOp G hx M ad w4 w6 w7 w8 w9 w10 w11 w13 w19 w20 w21 w22 w24 m0 m1 m2 m3 m5 m12 m14 m15 m16 m17 m18 m23 ch (o_reach (m0) cv hd)) nox 0 0) G s0.heap.size 5 76 [(4, .int (nI i)), (3, .int (nI (12 + 9 * nR (m0)))), (0, .ref M), (1, .int cv), (2, .int hd)] [] h8 0 0 := by
          intro N76
          induction N76 with
          | zero =>
            intro i h8 hm76
            exact absurd hm76 (Nat.not_lt_zero _)
          | succ N76 ih76 =>
            intro i h8 hm76 hi hTl
            refine v_iload X dX3_reach_76 rfl ?_
            refine v_bipush (v := nI 9) X dX3_reach_78 rfl ?_
            refine v_icmp_geN (tgt := 99) (a := i) (b := 9) X dX3_reach_80 (by decide) rfl rfl (by omega) (by omega) (fun c80 => ?_) (fun c80 => ?_)
            · refine v_aload_n X dX3_reach_99 rfl ?_
              refine v_get (v := .ref (ad 0)) X dX3_reach_100 fr_X3_9 hTl.o rfl ?_
              refine v_iload_n X dX3_reach_103 rfl ?_
              refine v_iconst (v := nI 0) X dX3_reach_104 rfl ?_
              refine v_iaddN (a := 12 + 9 * nR (m0)) (b := 0) X dX3_reach_105 rfl rfl ?_
              refine v_iload_n X dX3_reach_106 rfl ?_
              refine tw_ast0 (j := 12 + 9 * nR (m0)) X hTl dX3_reach_107 rfl (by omega) (fun h2 hT2 => ?_)
              refine v_aload_n X dX3_reach_108 rfl ?_
              refine v_get (v := .ref (ad 0)) X dX3_reach_109 fr_X3_9 hT2.o rfl ?_
              refine v_iload_n X dX3_reach_112 rfl ?_
              refine v_iconst (v := nI 1) X dX3_reach_113 rfl ?_
              refine v_iaddN (a := 12 + 9 * nR (m0)) (b := 1) X dX3_reach_114 rfl rfl ?_
              refine v_iload_n X dX3_reach_115 rfl ?_
              refine tw_ast0 (j := 12 + 9 * nR (m0) + 1) X hT2 dX3_reach_116 rfl (by omega) (fun h3 hT3 => ?_)
              refine v_aload_n X dX3_reach_117 rfl ?_
              refine v_get (v := .ref (ad 0)) X dX3_reach_118 fr_X3_9 hT3.o rfl ?_
              refine v_iload_n X dX3_reach_121 rfl ?_
              refine v_iconst (v := nI 4) X dX3_reach_122 rfl ?_
              refine v_iaddN (a := 12 + 9 * nR (m0)) (b := 4) X dX3_reach_123 rfl rfl ?_
              refine v_iload_n X dX3_reach_124 rfl ?_
              refine v_iconst (v := (-1)) X dX3_reach_125 rfl ?_
              refine v_icmp_ne (tgt := 133) X dX3_reach_126 (by decide) (fun c126 => ?_) (fun c126 => ?_)
              · refine v_iconst (v := nI 1) X dX3_reach_133 rfl ?_
                refine tw_ast0 (j := 12 + 9 * nR (m0) + 4) X hT3 dX3_reach_134 rfl (by omega) (fun h4 hT4 => ?_)
                refine v_aload_n X dX3_reach_135 rfl ?_
                refine v_get (v := .ref (ad 0)) X dX3_reach_136 fr_X3_9 hT4.o rfl ?_
                refine v_iload_n X dX3_reach_139 rfl ?_
                refine v_bipush (v := nI 8) X dX3_reach_140 rfl ?_
                refine v_iaddN (a := 12 + 9 * nR (m0)) (b := 8) X dX3_reach_142 rfl rfl ?_
                refine v_iconst (v := (-1)) X dX3_reach_143 rfl ?_
                refine tw_ast0 (j := 12 + 9 * nR (m0) + 8) X hT4 dX3_reach_144 rfl (by omega) (fun h5 hT5 => ?_)
                refine v_aload_n X dX3_reach_145 rfl ?_
                refine v_get (v := .ref (ad 0)) X dX3_reach_146 fr_X3_9 hT5.o rfl ?_
                refine v_iconst (v := nI 0) X dX3_reach_149 rfl ?_
                refine v_dup2 X dX3_reach_150 rfl rfl ?_
                refine v_iald (f := upd (upd (upd (upd (z9 (m0) (12 + 9 * nR (m0)) i) (12 + 9 * nR (m0)) cv) (12 + 9 * nR (m0) + 1) hd) (12 + 9 * nR (m0) + 4) (nI 1)) (12 + 9 * nR (m0) + 8) (-1)) (j := 0) X dX3_reach_151 hT5.a0 rfl (by omega) (by decide) ?_
                refine v_eqi (y := nI (nR (m0))) (by rw [pk_un (by omega), pk_un (by omega), pk_un (by omega), pk_un (by omega), ((z9_lo _ _ _ _ (by omega)).trans hg.r)]) ?_
                refine v_iconst (v := nI 1) X dX3_reach_152 rfl ?_
                refine v_iaddN (a := nR (m0)) (b := 1) X dX3_reach_153 rfl rfl ?_
                refine tw_ast0 (j := 0) X hT5 dX3_reach_154 rfl (by omega) (fun h6 hT6 => ?_)
                refine v_aload_n X dX3_reach_155 rfl ?_
                refine v_aload_n X dX3_reach_156 rfl ?_
                refine v_get (v := .ref (ad 0)) X dX3_reach_157 fr_X3_9 hT6.o rfl ?_
                refine v_iconst (v := nI 0) X dX3_reach_160 rfl ?_
                refine v_iald (f := upd (upd (upd (upd (upd (z9 (m0) (12 + 9 * nR (m0)) i) (12 + 9 * nR (m0)) cv) (12 + 9 * nR (m0) + 1) hd) (12 + 9 * nR (m0) + 4) (nI 1)) (12 + 9 * nR (m0) + 8) (-1)) 0 (nI (nR (m0) + 1))) (j := 0) X dX3_reach_161 hT6.a0 rfl (by omega) (by decide) ?_
                refine v_eqi (y := nI (nR (m0) + 1)) (by rw [pk_us]) ?_
                refine v_iconst (v := nI 1) X dX3_reach_162 rfl ?_
                refine v_isubN (a := nR (m0) + 1) (b := 1) X dX3_reach_163 rfl rfl (by omega) ?_
                refine v_callV (st := []) X dX3_reach_164 (t3_changed0 E0 h6 hT6 (nI (nR (m0) + 1 - 1)) rfl ch hch hch8) mr_X3_100 hT6.o rfl rfl rfl (Nat.le_of_ble_eq_true rfl) ⟨rfl, rfl⟩ ⟨Nat.le_of_ble_eq_true rfl, Nat.le_of_ble_eq_true rfl⟩ ⟨Nat.le_refl _, Nat.le_refl _⟩ (fun _ _ _ hx => v_nox hx) (fun v9 h7 hp => ?_)
                obtain ⟨rfl, hT7⟩ := hp
                have hT7 : TW G hx h7 M ad w4 (nI (pushN ch)) (nI 0) w8 w9 w10 w11 w13 w19 w20 w21 w22 w24 (upd (upd (upd (upd (upd (z9 (m0) (12 + 9 * nR (m0)) i) (12 + 9 * nR (m0)) cv) (12 + 9 * nR (m0) + 1) hd) (12 + 9 * nR (m0) + 4) (nI 1)) (12 + 9 * nR (m0) + 8) (-1)) 0 (nI (nR (m0) + 1))) (cpy 295 m0 m1) m2 m3 (pushP m5 (cpy 295 m0 m1) ch) m12 m14 m15 m16 m17 m18 m23 := hT7
                exact v_iret (x := nI (nR (m0) + 1 - 1)) X dX3_reach_167 rfl rfl (Nat.le_refl _) (Nat.le_refl _) (pOp_r (a := nI (nR (m0) + 1 - 1)) (f := reachF (m0) cv hd) ((if_neg (nf c13)).trans ((if_neg (nf c34)).trans (if_neg c52))) (hT7.eq0 (by show (upd (upd (upd (upd (upd (z9 (m0) (12 + 9 * nR (m0)) i) (12 + 9 * nR (m0)) cv) (12 + 9 * nR (m0) + 1) hd) (12 + 9 * nR (m0) + 4) (nI 1)) (12 + 9 * nR (m0) + 8) (-1)) 0 (nI (nR (m0) + 1))) = reachF (m0) cv hd; unfold reachF; rw [if_neg c126, show i = 9 by omega])))
              · refine v_iconst (v := nI 0) X dX3_reach_129 rfl ?_
                refine v_goto (tgt := 134) X dX3_reach_130 (by decide) ?_
                refine tw_ast0 (j := 12 + 9 * nR (m0) + 4) X hT3 dX3_reach_134 rfl (by omega) (fun h8 hT8 => ?_)
                refine v_aload_n X dX3_reach_135 rfl ?_
                refine v_get (v := .ref (ad 0)) X dX3_reach_136 fr_X3_9 hT8.o rfl ?_
                refine v_iload_n X dX3_reach_139 rfl ?_
                refine v_bipush (v := nI 8) X dX3_reach_140 rfl ?_
                refine v_iaddN (a := 12 + 9 * nR (m0)) (b := 8) X dX3_reach_142 rfl rfl ?_
                refine v_iconst (v := (-1)) X dX3_reach_143 rfl ?_
                refine tw_ast0 (j := 12 + 9 * nR (m0) + 8) X hT8 dX3_reach_144 rfl (by omega) (fun h9 hT9 => ?_)
                refine v_aload_n X dX3_reach_145 rfl ?_
                refine v_get (v := .ref (ad 0)) X dX3_reach_146 fr_X3_9 hT9.o rfl ?_
                refine v_iconst (v := nI 0) X dX3_reach_149 rfl ?_
                refine v_dup2 X dX3_reach_150 rfl rfl ?_
                refine v_iald (f := upd (upd (upd (upd (z9 (m0) (12 + 9 * nR (m0)) i) (12 + 9 * nR (m0)) cv) (12 + 9 * nR (m0) + 1) hd) (12 + 9 * nR (m0) + 4) (nI 0)) (12 + 9 * nR (m0) + 8) (-1)) (j := 0) X dX3_reach_151 hT9.a0 rfl (by omega) (by decide) ?_
                refine v_eqi (y := nI (nR (m0))) (by rw [pk_un (by omega), pk_un (by omega), pk_un (by omega), pk_un (by omega), ((z9_lo _ _ _ _ (by omega)).trans hg.r)]) ?_
                refine v_iconst (v := nI 1) X dX3_reach_152 rfl ?_
                refine v_iaddN (a := nR (m0)) (b := 1) X dX3_reach_153 rfl rfl ?_
                refine tw_ast0 (j := 0) X hT9 dX3_reach_154 rfl (by omega) (fun h10 hT10 => ?_)
                refine v_aload_n X dX3_reach_155 rfl ?_
                refine v_aload_n X dX3_reach_156 rfl ?_
                refine v_get (v := .ref (ad 0)) X dX3_reach_157 fr_X3_9 hT10.o rfl ?_
                refine v_iconst (v := nI 0) X dX3_reach_160 rfl ?_
                refine v_iald (f := upd (upd (upd (upd (upd (z9 (m0) (12 + 9 * nR (m0)) i) (12 + 9 * nR (m0)) cv) (12 + 9 * nR (m0) + 1) hd) (12 + 9 * nR (m0) + 4) (nI 0)) (12 + 9 * nR (m0) + 8) (-1)) 0 (nI (nR (m0) + 1))) (j := 0) X dX3_reach_161 hT10.a0 rfl (by omega) (by decide) ?_
                refine v_eqi (y := nI (nR (m0) + 1)) (by rw [pk_us]) ?_
                refine v_iconst (v := nI 1) X dX3_reach_162 rfl ?_
                refine v_isubN (a := nR (m0) + 1) (b := 1) X dX3_reach_163 rfl rfl (by omega) ?_
                refine v_callV (st := []) X dX3_reach_164 (t3_changed0 E0 h10 hT10 (nI (nR (m0) + 1 - 1)) rfl ch hch hch8) mr_X3_100 hT10.o rfl rfl rfl (Nat.le_of_ble_eq_true rfl) ⟨rfl, rfl⟩ ⟨Nat.le_of_ble_eq_true rfl, Nat.le_of_ble_eq_true rfl⟩ ⟨Nat.le_refl _, Nat.le_refl _⟩ (fun _ _ _ hx => v_nox hx) (fun v9 h11 hp => ?_)
                obtain ⟨rfl, hT11⟩ := hp
                have hT11 : TW G hx h11 M ad w4 (nI (pushN ch)) (nI 0) w8 w9 w10 w11 w13 w19 w20 w21 w22 w24 (upd (upd (upd (upd (upd (z9 (m0) (12 + 9 * nR (m0)) i) (12 + 9 * nR (m0)) cv) (12 + 9 * nR (m0) + 1) hd) (12 + 9 * nR (m0) + 4) (nI 0)) (12 + 9 * nR (m0) + 8) (-1)) 0 (nI (nR (m0) + 1))) (cpy 295 m0 m1) m2 m3 (pushP m5 (cpy 295 m0 m1) ch) m12 m14 m15 m16 m17 m18 m23 := hT11
                exact v_iret (x := nI (nR (m0) + 1 - 1)) X dX3_reach_167 rfl rfl (Nat.le_refl _) (Nat.le_refl _) (pOp_r (a := nI (nR (m0) + 1 - 1)) (f := reachF (m0) cv hd) ((if_neg (nf c13)).trans ((if_neg (nf c34)).trans (if_neg c52))) (hT11.eq0 (by show (upd (upd (upd (upd (upd (z9 (m0) (12 + 9 * nR (m0)) i) (12 + 9 * nR (m0)) cv) (12 + 9 * nR (m0) + 1) hd) (12 + 9 * nR (m0) + 4) (nI 0)) (12 + 9 * nR (m0) + 8) (-1)) 0 (nI (nR (m0) + 1))) = reachF (m0) cv hd; unfold reachF; rw [if_pos c126, show i = 9 by omega])))
            · refine v_aload_n X dX3_reach_83 rfl ?_
              refine v_get (v := .ref (ad 0)) X dX3_reach_84 fr_X3_9 hTl.o rfl ?_
              refine v_iload_n X dX3_reach_87 rfl ?_
              refine v_iload X dX3_reach_88 rfl ?_
              refine v_iaddN (a := 12 + 9 * nR (m0)) (b := i) X dX3_reach_90 rfl rfl ?_
              refine v_iconst (v := nI 0) X dX3_reach_91 rfl ?_
              refine tw_ast0 (j := 12 + 9 * nR (m0) + i) X hTl dX3_reach_92 rfl (by omega) (fun h12 hT12 => ?_)
              refine v_iinc (kx := 0) (v := nI (i + 1)) (lv' := [(4, .int (nI (i + 1))), (3, .int (nI (12 + 9 * nR (m0)))), (0, .ref M), (1, .int cv), (2, .int hd)]) X dX3_reach_93 rfl (nI_1 _) (by decide) rfl ?_
              refine v_goto (tgt := 76) X dX3_reach_96 (by decide) ?_
              exact ih76 (i + 1) h12 (by omega) (by omega) hT12
        exact L76 _ 0 h1 (Nat.lt_succ_self _) (Nat.zero_le _) hT1
      · refine v_aload_n X dX3_reach_55 rfl ?_
        refine v_iconst (v := nI 1) X dX3_reach_56 rfl ?_
        refine v_bipush (v := nI 12) X dX3_reach_57 rfl ?_
        refine v_callV (st := []) X dX3_reach_59 (t3_refuse E0 h1 hT1 (nI 1) (nI 12)) mr_X3_94 hT1.o rfl rfl rfl (Nat.le_of_ble_eq_true rfl) ⟨rfl, rfl⟩ ⟨Nat.le_of_ble_eq_true rfl, Nat.le_of_ble_eq_true rfl⟩ ⟨Nat.le_refl _, Nat.le_refl _⟩ (fun _ _ _ hx => v_nox hx) (fun v9 h13 hp => ?_)
        obtain ⟨rfl, hT13⟩ := hp
        have hT13 : TW G hx h13 M ad w4 w6 (nI 1) (nI 1) (nI 12) (nI 0) w11 w13 w19 w20 w21 w22 w24 m0 (cpy 295 m0 m1) m2 m3 m5 m12 m14 m15 m16 m17 m18 m23 := hT13
        exact v_iret (x := nI 0) X dX3_reach_62 rfl rfl (Nat.le_refl _) (Nat.le_refl _) (pOp_l (a := nI 1) (b := nI 12) ((if_neg (nf c13)).trans ((if_neg (nf c34)).trans (if_pos c52))) hT13)
    · refine v_aload_n X dX3_reach_37 rfl ?_
      refine v_iconst (v := nI 3) X dX3_reach_38 rfl ?_
      refine v_iload_n X dX3_reach_39 rfl ?_
      refine v_callV (st := []) X dX3_reach_40 (t3_refuse E0 h1 hT1 (nI 3) hd) mr_X3_94 hT1.o rfl rfl rfl (Nat.le_of_ble_eq_true rfl) ⟨rfl, rfl⟩ ⟨Nat.le_of_ble_eq_true rfl, Nat.le_of_ble_eq_true rfl⟩ ⟨Nat.le_refl _, Nat.le_refl _⟩ (fun _ _ _ hx => v_nox hx) (fun v9 h14 hp => ?_)
      obtain ⟨rfl, hT14⟩ := hp
      have hT14 : TW G hx h14 M ad w4 w6 (nI 1) (nI 3) hd (nI 0) w11 w13 w19 w20 w21 w22 w24 m0 (cpy 295 m0 m1) m2 m3 m5 m12 m14 m15 m16 m17 m18 m23 := hT14
      exact v_iret (x := nI 0) X dX3_reach_43 rfl rfl (Nat.le_refl _) (Nat.le_refl _) (pOp_l (a := nI 3) (b := hd) ((if_neg (nf c13)).trans (if_pos c34)) hT14)
  · refine v_aload_n X dX3_reach_16 rfl ?_
    refine v_iconst (v := nI 3) X dX3_reach_17 rfl ?_
    refine v_iload_n X dX3_reach_18 rfl ?_
    refine v_callV (st := []) X dX3_reach_19 (t3_refuse E0 h1 hT1 (nI 3) cv) mr_X3_94 hT1.o rfl rfl rfl (Nat.le_of_ble_eq_true rfl) ⟨rfl, rfl⟩ ⟨Nat.le_of_ble_eq_true rfl, Nat.le_of_ble_eq_true rfl⟩ ⟨Nat.le_refl _, Nat.le_refl _⟩ (fun _ _ _ hx => v_nox hx) (fun v9 h15 hp => ?_)
    obtain ⟨rfl, hT15⟩ := hp
    have hT15 : TW G hx h15 M ad w4 w6 (nI 1) (nI 3) cv (nI 0) w11 w13 w19 w20 w21 w22 w24 m0 (cpy 295 m0 m1) m2 m3 m5 m12 m14 m15 m16 m17 m18 m23 := hT15
    exact v_iret (x := nI 0) X dX3_reach_22 rfl rfl (Nat.le_refl _) (Nat.le_refl _) (pOp_l (a := nI 3) (b := cv) (if_pos c13) hT15)

set_option maxHeartbeats 4000000 in
set_option maxRecDepth 100000 in
theorem t3_holt {l : Launch} {G : GT} {bb : Nat} {s0 : State} (E0 : EN l G bb s0) (h : HF) {hx : HF} {M : Nat} {ad : Nat → Nat} {w4 w6 w7 w8 w9 w10 w11 w13 w19 w20 w21 w22 w24 : Int32} {m0 m1 m2 m3 m5 m12 m14 m15 m16 m17 m18 m23 : FA} (hT : TW G hx h M ad w4 w6 w7 w8 w9 w10 w11 w13 w19 w20 w21 w22 w24 m0 m1 m2 m3 m5 m12 m14 m15 m16 m17 m18 m23) (hg : Gn (m0)) (ch : Nat) (hch : w6 = nI ch) (hch8 : ch ≤ 8) (x : Int32) : HM l G s0 yX3_holt [Cond.code yX3_holt cX3_holt 2 (some .int)] { frames := 4, cells := 0, slots := 0, locals := 86 } [.ref M, .int x] h (pOp G hx M ad w4 w6 w7 w8 w9 w10 w11 w13 w19 w20 w21 w22 w24 m0 m1 m2 m3 m5 m12 m14 m15 m16 m17 m18 m23 ch (o_holt (m0) x)) nox 0 0 := by
  refine HM.of (cc := cX3_holt) (nL := 2) (own := RX3) (nm := "holt") (lv := [(0, .ref M), (1, .int x)]) (by decide) rfl rfl E0 (Nat.le_of_ble_eq_true rfl) rfl (fun p e s m args below meth c X => ?_)
  have hgr := hg.rb
  have hgo := hg.ob
  have hgv := hg.vb
  have hgn := hg.nb
  refine v_aload_n X dX3_holt_0 rfl ?_
  refine v_callV (st := []) X dX3_holt_1 (t3_layAside E0 h hT ) mr_X3_89 hT.o rfl rfl rfl (Nat.le_of_ble_eq_true rfl) ⟨rfl, rfl⟩ ⟨Nat.le_of_ble_eq_true rfl, Nat.le_of_ble_eq_true rfl⟩ ⟨Nat.le_refl _, Nat.le_refl _⟩ (fun _ _ _ hx => v_nox hx) (fun v9 h1 hp => ?_)
  obtain ⟨rfl, hT1⟩ := hp
  have hT1 : TW G hx h1 M ad w4 w6 (nI 0) w8 w9 w10 w11 w13 w19 w20 w21 w22 w24 m0 (cpy 295 m0 m1) m2 m3 m5 m12 m14 m15 m16 m17 m18 m23 := hT1
  refine v_aload_n X dX3_holt_4 rfl ?_
  refine v_iload_n X dX3_holt_5 rfl ?_
  refine v_callV (st := []) X dX3_holt_6 (t3_isReach E0 h1 hT1 hg x) mr_X3_103 hT1.o rfl rfl rfl (Nat.le_of_ble_eq_true rfl) ⟨rfl, rfl⟩ ⟨Nat.le_of_ble_eq_true rfl, Nat.le_of_ble_eq_true rfl⟩ ⟨Nat.le_refl _, Nat.le_refl _⟩ (fun _ _ _ hx => v_nox hx) (fun v9 h9 hp => ?_)
  obtain ⟨rfl, rfl⟩ := hp
  refine v_if_neB (tgt := 19) (b := (isR m0 x)) X dX3_holt_9 (by decide) rfl (fun c9 => ?_) (fun c9 => ?_)
  · obtain ⟨j, hj, ej⟩ := (isR_iff hg).mp c9
    have nj : x.toNatClampNeg = j := by rw [ej]; exact nI_clamp (by omega)
    refine v_lveq (lv' := [(0, .ref M), (1, .int (nI j))]) (by rw [ej]) ?_
    refine v_aload_n X dX3_holt_19 rfl ?_
    refine v_iload_n X dX3_holt_20 rfl ?_
    refine v_callV (st := []) X dX3_holt_21 (t3_hasHolt E0 h1 hT1 j (by omega)) mr_X3_106 hT1.o rfl rfl rfl (Nat.le_of_ble_eq_true rfl) ⟨rfl, rfl⟩ ⟨Nat.le_of_ble_eq_true rfl, Nat.le_of_ble_eq_true rfl⟩ ⟨Nat.le_refl _, Nat.le_refl _⟩ (fun _ _ _ hx => v_nox hx) (fun v9 h9 hp => ?_)
    obtain ⟨rfl, rfl⟩ := hp
    refine v_if_eqB (tgt := 38) (b := (holt m0 j)) X dX3_holt_24 (by decide) rfl (fun c24 => ?_) (fun c24 => ?_)
    · refine v_aload_n X dX3_holt_38 rfl ?_
      refine v_get (v := .ref (ad 0)) X dX3_holt_39 fr_X3_9 hT1.o rfl ?_
      refine v_iload_n X dX3_holt_42 rfl ?_
      refine v_callS (st := [.ref (ad 0)]) X dX3_holt_43 (t3_at E0 h1 j) mr_X3_86 rfl rfl (Nat.le_of_ble_eq_true rfl) ⟨rfl, rfl⟩ ⟨Nat.le_of_ble_eq_true rfl, Nat.le_of_ble_eq_true rfl⟩ ⟨Nat.le_refl _, Nat.le_refl _⟩ (fun _ _ _ hx => v_nox hx) (fun v9 h9 hp => ?_)
      obtain ⟨rfl, rfl⟩ := hp
      refine v_iconst (v := nI 5) X dX3_holt_46 rfl ?_
      refine v_iaddN (a := 12 + 9 * j) (b := 5) X dX3_holt_47 rfl rfl ?_
      refine v_iconst (v := nI 1) X dX3_holt_48 rfl ?_
      refine tw_ast0 (j := 12 + 9 * j + 5) X hT1 dX3_holt_49 rfl (by omega) (fun h2 hT2 => ?_)
      refine v_aload_n X dX3_holt_50 rfl ?_
      refine v_aload_n X dX3_holt_51 rfl ?_
      refine v_iload_n X dX3_holt_52 rfl ?_
      refine v_callV (st := [.ref M]) X dX3_holt_53 (t3_quality E0 h2 hT2 ((Hd.rf.tr (Hd.up (by omega))).G hg) j (by show j < nR (upd m0 (12 + 9 * j + 5) (nI 1)); rw [((Hd.rf.tr (Hd.up (by omega)))).R]; omega)) mr_X3_112 hT2.o rfl rfl rfl (Nat.le_of_ble_eq_true rfl) ⟨rfl, rfl⟩ ⟨Nat.le_of_ble_eq_true rfl, Nat.le_of_ble_eq_true rfl⟩ ⟨Nat.le_refl _, Nat.le_refl _⟩ (fun _ _ _ hx => v_nox hx) (fun v9 h9 hp => ?_)
      obtain ⟨rfl, rfl⟩ := hp
      refine v_callV (st := []) X dX3_holt_56 (t3_changed0 E0 h2 hT2 (quality (upd m0 (12 + 9 * j + 5) (nI 1)) j) rfl ch hch hch8) mr_X3_100 hT2.o rfl rfl rfl (Nat.le_of_ble_eq_true rfl) ⟨rfl, rfl⟩ ⟨Nat.le_of_ble_eq_true rfl, Nat.le_of_ble_eq_true rfl⟩ ⟨Nat.le_refl _, Nat.le_refl _⟩ (fun _ _ _ hx => v_nox hx) (fun v9 h3 hp => ?_)
      obtain ⟨rfl, hT3⟩ := hp
      have hT3 : TW G hx h3 M ad w4 (nI (pushN ch)) (nI 0) w8 w9 w10 w11 w13 w19 w20 w21 w22 w24 (upd m0 (12 + 9 * j + 5) (nI 1)) (cpy 295 m0 m1) m2 m3 (pushP m5 (cpy 295 m0 m1) ch) m12 m14 m15 m16 m17 m18 m23 := hT3
      exact v_iret (x := quality (upd m0 (12 + 9 * j + 5) (nI 1)) j) X dX3_holt_59 rfl rfl (Nat.le_refl _) (Nat.le_refl _) (pOp_r (a := quality (upd m0 (12 + 9 * j + 5) (nI 1)) j) (f := upd (m0) (12 + 9 * j + 5) (nI 1)) (by unfold o_holt; rw [if_neg (nf c9), nj, if_neg (tf_ c24)]) hT3)
    · refine v_aload_n X dX3_holt_27 rfl ?_
      refine v_iconst (v := nI 4) X dX3_holt_28 rfl ?_
      refine v_aload_n X dX3_holt_29 rfl ?_
      refine v_iload_n X dX3_holt_30 rfl ?_
      refine v_callV (st := [.int (nI 4), .ref M]) X dX3_holt_31 (t3_otters E0 h1 hT1 hg (nI j)) mr_X3_109 hT1.o rfl rfl rfl (Nat.le_of_ble_eq_true rfl) ⟨rfl, rfl⟩ ⟨Nat.le_of_ble_eq_true rfl, Nat.le_of_ble_eq_true rfl⟩ ⟨Nat.le_refl _, Nat.le_refl _⟩ (fun _ _ _ hx => v_nox hx) (fun v9 h9 hp => ?_)
      obtain ⟨rfl, rfl⟩ := hp
      have hb31 := otters_b hg (nI j)
      refine v_callV (st := []) X dX3_holt_34 (t3_refuse E0 h1 hT1 (nI 4) (nI (otters m0 (nI j)))) mr_X3_94 hT1.o rfl rfl rfl (Nat.le_of_ble_eq_true rfl) ⟨rfl, rfl⟩ ⟨Nat.le_of_ble_eq_true rfl, Nat.le_of_ble_eq_true rfl⟩ ⟨Nat.le_refl _, Nat.le_refl _⟩ (fun _ _ _ hx => v_nox hx) (fun v9 h4 hp => ?_)
      obtain ⟨rfl, hT4⟩ := hp
      have hT4 : TW G hx h4 M ad w4 w6 (nI 1) (nI 4) (nI (otters m0 (nI j))) (nI 0) w11 w13 w19 w20 w21 w22 w24 m0 (cpy 295 m0 m1) m2 m3 m5 m12 m14 m15 m16 m17 m18 m23 := hT4
      exact v_iret (x := nI 0) X dX3_holt_37 rfl rfl (Nat.le_refl _) (Nat.le_refl _) (pOp_l (a := nI 4) (b := nI (otters m0 (nI j))) (by unfold o_holt; rw [if_neg (nf c9), nj, if_pos c24, ej]) hT4)
  · refine v_aload_n X dX3_holt_12 rfl ?_
    refine v_iconst (v := nI 2) X dX3_holt_13 rfl ?_
    refine v_iload_n X dX3_holt_14 rfl ?_
    refine v_callV (st := []) X dX3_holt_15 (t3_refuse E0 h1 hT1 (nI 2) x) mr_X3_94 hT1.o rfl rfl rfl (Nat.le_of_ble_eq_true rfl) ⟨rfl, rfl⟩ ⟨Nat.le_of_ble_eq_true rfl, Nat.le_of_ble_eq_true rfl⟩ ⟨Nat.le_refl _, Nat.le_refl _⟩ (fun _ _ _ hx => v_nox hx) (fun v9 h5 hp => ?_)
    obtain ⟨rfl, hT5⟩ := hp
    have hT5 : TW G hx h5 M ad w4 w6 (nI 1) (nI 2) x (nI 0) w11 w13 w19 w20 w21 w22 w24 m0 (cpy 295 m0 m1) m2 m3 m5 m12 m14 m15 m16 m17 m18 m23 := hT5
    exact v_iret (x := nI 0) X dX3_holt_18 rfl rfl (Nat.le_refl _) (Nat.le_refl _) (pOp_l (a := nI 2) (b := x) (if_pos c9) hT5)

set_option maxHeartbeats 4000000 in
set_option maxRecDepth 100000 in
theorem t3_comes {l : Launch} {G : GT} {bb : Nat} {s0 : State} (E0 : EN l G bb s0) (h : HF) {hx : HF} {M : Nat} {ad : Nat → Nat} {w4 w6 w7 w8 w9 w10 w11 w13 w19 w20 w21 w22 w24 : Int32} {m0 m1 m2 m3 m5 m12 m14 m15 m16 m17 m18 m23 : FA} (hT : TW G hx h M ad w4 w6 w7 w8 w9 w10 w11 w13 w19 w20 w21 w22 w24 m0 m1 m2 m3 m5 m12 m14 m15 m16 m17 m18 m23) (hg : Gn (m0)) (x : Int32) (hO : nO (m0) < 30) : HM l G s0 yX3_comes [Cond.code yX3_comes cX3_comes 3 (some .int)] { frames := 1, cells := 0, slots := 0, locals := 20 } [.ref M, .int x] h (fun v h9 => v = some (.int (nI (nO (m0)))) ∧ TW G hx h9 M ad w4 w6 w7 w8 w9 w10 w11 w13 w19 w20 w21 w22 w24 (comesF m0 x) m1 m2 m3 m5 m12 m14 m15 m16 m17 m18 m23) nox 0 0 := by
  refine HM.of (cc := cX3_comes) (nL := 3) (own := RX3) (nm := "comes") (lv := [(0, .ref M), (1, .int x)]) (by decide) rfl rfl E0 (Nat.le_of_ble_eq_true rfl) rfl (fun p e s m args below meth c X => ?_)
  have hgr := hg.rb
  have hgo := hg.ob
  have hgv := hg.vb
  have hgn := hg.nb
  refine v_aload_n X dX3_comes_0 rfl ?_
  refine v_get (v := .ref (ad 0)) X dX3_comes_1 fr_X3_9 hT.o rfl ?_
  refine v_iconst (v := nI 1) X dX3_comes_4 rfl ?_
  refine v_iald (f := m0) (j := 1) X dX3_comes_5 hT.a0 rfl (by omega) (by decide) ?_
  refine v_eqi hg.o ?_
  refine v_callS (st := []) X dX3_comes_6 (t3_of E0 h (nO (m0))) mr_X3_75 rfl rfl (Nat.le_of_ble_eq_true rfl) ⟨rfl, rfl⟩ ⟨Nat.le_of_ble_eq_true rfl, Nat.le_of_ble_eq_true rfl⟩ ⟨Nat.le_refl _, Nat.le_refl _⟩ (fun _ _ _ hx => v_nox hx) (fun v9 h9 hp => ?_)
  obtain ⟨rfl, rfl⟩ := hp
  refine v_istore_n (lv' := [(2, .int (nI (120 + 5 * nO (m0)))), (0, .ref M), (1, .int x)]) X dX3_comes_9 (by decide) rfl ?_
  refine v_aload_n X dX3_comes_10 rfl ?_
  refine v_get (v := .ref (ad 0)) X dX3_comes_11 fr_X3_9 hT.o rfl ?_
  refine v_iload_n X dX3_comes_14 rfl ?_
  refine v_iconst (v := nI 0) X dX3_comes_15 rfl ?_
  refine v_iaddN (a := 120 + 5 * nO (m0)) (b := 0) X dX3_comes_16 rfl rfl ?_
  refine v_iload_n X dX3_comes_17 rfl ?_
  refine v_iconst (v := (-1)) X dX3_comes_18 rfl ?_
  refine v_icmp_ne (tgt := 26) X dX3_comes_19 (by decide) (fun c19 => ?_) (fun c19 => ?_)
  · refine v_iconst (v := nI 0) X dX3_comes_26 rfl ?_
    refine tw_ast0 (j := 120 + 5 * nO (m0)) X hT dX3_comes_27 rfl (by omega) (fun h1 hT1 => ?_)
    refine v_aload_n X dX3_comes_28 rfl ?_
    refine v_get (v := .ref (ad 0)) X dX3_comes_29 fr_X3_9 hT1.o rfl ?_
    refine v_iload_n X dX3_comes_32 rfl ?_
    refine v_iconst (v := nI 1) X dX3_comes_33 rfl ?_
    refine v_iaddN (a := 120 + 5 * nO (m0)) (b := 1) X dX3_comes_34 rfl rfl ?_
    refine v_iload_n X dX3_comes_35 rfl ?_
    refine tw_ast0 (j := 120 + 5 * nO (m0) + 1) X hT1 dX3_comes_36 rfl (by omega) (fun h2 hT2 => ?_)
    refine v_aload_n X dX3_comes_37 rfl ?_
    refine v_get (v := .ref (ad 0)) X dX3_comes_38 fr_X3_9 hT2.o rfl ?_
    refine v_iload_n X dX3_comes_41 rfl ?_
    refine v_iconst (v := nI 2) X dX3_comes_42 rfl ?_
    refine v_iaddN (a := 120 + 5 * nO (m0)) (b := 2) X dX3_comes_43 rfl rfl ?_
    refine v_iconst (v := nI 0) X dX3_comes_44 rfl ?_
    refine tw_ast0 (j := 120 + 5 * nO (m0) + 2) X hT2 dX3_comes_45 rfl (by omega) (fun h3 hT3 => ?_)
    refine v_aload_n X dX3_comes_46 rfl ?_
    refine v_get (v := .ref (ad 0)) X dX3_comes_47 fr_X3_9 hT3.o rfl ?_
    refine v_iload_n X dX3_comes_50 rfl ?_
    refine v_iconst (v := nI 3) X dX3_comes_51 rfl ?_
    refine v_iaddN (a := 120 + 5 * nO (m0)) (b := 3) X dX3_comes_52 rfl rfl ?_
    refine v_iconst (v := nI 0) X dX3_comes_53 rfl ?_
    refine tw_ast0 (j := 120 + 5 * nO (m0) + 3) X hT3 dX3_comes_54 rfl (by omega) (fun h4 hT4 => ?_)
    refine v_aload_n X dX3_comes_55 rfl ?_
    refine v_get (v := .ref (ad 0)) X dX3_comes_56 fr_X3_9 hT4.o rfl ?_
    refine v_iload_n X dX3_comes_59 rfl ?_
    refine v_iconst (v := nI 4) X dX3_comes_60 rfl ?_
    refine v_iaddN (a := 120 + 5 * nO (m0)) (b := 4) X dX3_comes_61 rfl rfl ?_
    refine v_aload_n X dX3_comes_62 rfl ?_
    refine v_get (v := .ref (ad 0)) X dX3_comes_63 fr_X3_9 hT4.o rfl ?_
    refine v_iconst (v := nI 5) X dX3_comes_66 rfl ?_
    refine v_iald (f := upd (upd (upd (upd m0 (120 + 5 * nO (m0)) (nI 0)) (120 + 5 * nO (m0) + 1) x) (120 + 5 * nO (m0) + 2) (nI 0)) (120 + 5 * nO (m0) + 3) (nI 0)) (j := 5) X dX3_comes_67 hT4.a0 rfl (by omega) (by decide) ?_
    refine v_eqi (y := nI (nN (m0))) (by rw [pk_un (by omega), pk_un (by omega), pk_un (by omega), pk_un (by omega), hg.n]) ?_
    refine tw_ast0 (j := 120 + 5 * nO (m0) + 4) X hT4 dX3_comes_68 rfl (by omega) (fun h5 hT5 => ?_)
    refine v_aload_n X dX3_comes_69 rfl ?_
    refine v_get (v := .ref (ad 0)) X dX3_comes_70 fr_X3_9 hT5.o rfl ?_
    refine v_iconst (v := nI 1) X dX3_comes_73 rfl ?_
    refine v_dup2 X dX3_comes_74 rfl rfl ?_
    refine v_iald (f := upd (upd (upd (upd (upd m0 (120 + 5 * nO (m0)) (nI 0)) (120 + 5 * nO (m0) + 1) x) (120 + 5 * nO (m0) + 2) (nI 0)) (120 + 5 * nO (m0) + 3) (nI 0)) (120 + 5 * nO (m0) + 4) (nI (nN (m0)))) (j := 1) X dX3_comes_75 hT5.a0 rfl (by omega) (by decide) ?_
    refine v_eqi (y := nI (nO (m0))) (by rw [pk_un (by omega), pk_un (by omega), pk_un (by omega), pk_un (by omega), pk_un (by omega), hg.o]) ?_
    refine v_iconst (v := nI 1) X dX3_comes_76 rfl ?_
    refine v_iaddN (a := nO (m0)) (b := 1) X dX3_comes_77 rfl rfl ?_
    refine tw_ast0 (j := 1) X hT5 dX3_comes_78 rfl (by omega) (fun h6 hT6 => ?_)
    refine v_aload_n X dX3_comes_79 rfl ?_
    refine v_get (v := .ref (ad 0)) X dX3_comes_80 fr_X3_9 hT6.o rfl ?_
    refine v_iconst (v := nI 1) X dX3_comes_83 rfl ?_
    refine v_iald (f := upd (upd (upd (upd (upd (upd m0 (120 + 5 * nO (m0)) (nI 0)) (120 + 5 * nO (m0) + 1) x) (120 + 5 * nO (m0) + 2) (nI 0)) (120 + 5 * nO (m0) + 3) (nI 0)) (120 + 5 * nO (m0) + 4) (nI (nN (m0)))) 1 (nI (nO (m0) + 1))) (j := 1) X dX3_comes_84 hT6.a0 rfl (by omega) (by decide) ?_
    refine v_eqi (y := nI (nO (m0) + 1)) (by rw [pk_us]) ?_
    refine v_iconst (v := nI 1) X dX3_comes_85 rfl ?_
    refine v_isubN (a := nO (m0) + 1) (b := 1) X dX3_comes_86 rfl rfl (by omega) ?_
    exact v_iret (x := nI (nO (m0) + 1 - 1)) X dX3_comes_87 rfl rfl (Nat.le_refl _) (Nat.le_refl _) ⟨by rw [Nat.add_sub_cancel], (hT6.eq0 (by show (upd (upd (upd (upd (upd (upd (m0) (120 + 5 * nO (m0)) (nI 0)) (120 + 5 * nO (m0) + 1) x) (120 + 5 * nO (m0) + 2) (nI 0)) (120 + 5 * nO (m0) + 3) (nI 0)) (120 + 5 * nO (m0) + 4) (nI (nN (m0)))) 1 (nI (nO (m0) + 1))) = comesF (m0) x; unfold comesF; rw [if_neg c19]))⟩
  · refine v_iconst (v := nI 2) X dX3_comes_22 rfl ?_
    refine v_goto (tgt := 27) X dX3_comes_23 (by decide) ?_
    refine tw_ast0 (j := 120 + 5 * nO (m0)) X hT dX3_comes_27 rfl (by omega) (fun h7 hT7 => ?_)
    refine v_aload_n X dX3_comes_28 rfl ?_
    refine v_get (v := .ref (ad 0)) X dX3_comes_29 fr_X3_9 hT7.o rfl ?_
    refine v_iload_n X dX3_comes_32 rfl ?_
    refine v_iconst (v := nI 1) X dX3_comes_33 rfl ?_
    refine v_iaddN (a := 120 + 5 * nO (m0)) (b := 1) X dX3_comes_34 rfl rfl ?_
    refine v_iload_n X dX3_comes_35 rfl ?_
    refine tw_ast0 (j := 120 + 5 * nO (m0) + 1) X hT7 dX3_comes_36 rfl (by omega) (fun h8 hT8 => ?_)
    refine v_aload_n X dX3_comes_37 rfl ?_
    refine v_get (v := .ref (ad 0)) X dX3_comes_38 fr_X3_9 hT8.o rfl ?_
    refine v_iload_n X dX3_comes_41 rfl ?_
    refine v_iconst (v := nI 2) X dX3_comes_42 rfl ?_
    refine v_iaddN (a := 120 + 5 * nO (m0)) (b := 2) X dX3_comes_43 rfl rfl ?_
    refine v_iconst (v := nI 0) X dX3_comes_44 rfl ?_
    refine tw_ast0 (j := 120 + 5 * nO (m0) + 2) X hT8 dX3_comes_45 rfl (by omega) (fun h9 hT9 => ?_)
    refine v_aload_n X dX3_comes_46 rfl ?_
    refine v_get (v := .ref (ad 0)) X dX3_comes_47 fr_X3_9 hT9.o rfl ?_
    refine v_iload_n X dX3_comes_50 rfl ?_
    refine v_iconst (v := nI 3) X dX3_comes_51 rfl ?_
    refine v_iaddN (a := 120 + 5 * nO (m0)) (b := 3) X dX3_comes_52 rfl rfl ?_
    refine v_iconst (v := nI 0) X dX3_comes_53 rfl ?_
    refine tw_ast0 (j := 120 + 5 * nO (m0) + 3) X hT9 dX3_comes_54 rfl (by omega) (fun h10 hT10 => ?_)
    refine v_aload_n X dX3_comes_55 rfl ?_
    refine v_get (v := .ref (ad 0)) X dX3_comes_56 fr_X3_9 hT10.o rfl ?_
    refine v_iload_n X dX3_comes_59 rfl ?_
    refine v_iconst (v := nI 4) X dX3_comes_60 rfl ?_
    refine v_iaddN (a := 120 + 5 * nO (m0)) (b := 4) X dX3_comes_61 rfl rfl ?_
    refine v_aload_n X dX3_comes_62 rfl ?_
    refine v_get (v := .ref (ad 0)) X dX3_comes_63 fr_X3_9 hT10.o rfl ?_
    refine v_iconst (v := nI 5) X dX3_comes_66 rfl ?_
    refine v_iald (f := upd (upd (upd (upd m0 (120 + 5 * nO (m0)) (nI 2)) (120 + 5 * nO (m0) + 1) x) (120 + 5 * nO (m0) + 2) (nI 0)) (120 + 5 * nO (m0) + 3) (nI 0)) (j := 5) X dX3_comes_67 hT10.a0 rfl (by omega) (by decide) ?_
    refine v_eqi (y := nI (nN (m0))) (by rw [pk_un (by omega), pk_un (by omega), pk_un (by omega), pk_un (by omega), hg.n]) ?_
    refine tw_ast0 (j := 120 + 5 * nO (m0) + 4) X hT10 dX3_comes_68 rfl (by omega) (fun h11 hT11 => ?_)
    refine v_aload_n X dX3_comes_69 rfl ?_
    refine v_get (v := .ref (ad 0)) X dX3_comes_70 fr_X3_9 hT11.o rfl ?_
    refine v_iconst (v := nI 1) X dX3_comes_73 rfl ?_
    refine v_dup2 X dX3_comes_74 rfl rfl ?_
    refine v_iald (f := upd (upd (upd (upd (upd m0 (120 + 5 * nO (m0)) (nI 2)) (120 + 5 * nO (m0) + 1) x) (120 + 5 * nO (m0) + 2) (nI 0)) (120 + 5 * nO (m0) + 3) (nI 0)) (120 + 5 * nO (m0) + 4) (nI (nN (m0)))) (j := 1) X dX3_comes_75 hT11.a0 rfl (by omega) (by decide) ?_
    refine v_eqi (y := nI (nO (m0))) (by rw [pk_un (by omega), pk_un (by omega), pk_un (by omega), pk_un (by omega), pk_un (by omega), hg.o]) ?_
    refine v_iconst (v := nI 1) X dX3_comes_76 rfl ?_
    refine v_iaddN (a := nO (m0)) (b := 1) X dX3_comes_77 rfl rfl ?_
    refine tw_ast0 (j := 1) X hT11 dX3_comes_78 rfl (by omega) (fun h12 hT12 => ?_)
    refine v_aload_n X dX3_comes_79 rfl ?_
    refine v_get (v := .ref (ad 0)) X dX3_comes_80 fr_X3_9 hT12.o rfl ?_
    refine v_iconst (v := nI 1) X dX3_comes_83 rfl ?_
    refine v_iald (f := upd (upd (upd (upd (upd (upd m0 (120 + 5 * nO (m0)) (nI 2)) (120 + 5 * nO (m0) + 1) x) (120 + 5 * nO (m0) + 2) (nI 0)) (120 + 5 * nO (m0) + 3) (nI 0)) (120 + 5 * nO (m0) + 4) (nI (nN (m0)))) 1 (nI (nO (m0) + 1))) (j := 1) X dX3_comes_84 hT12.a0 rfl (by omega) (by decide) ?_
    refine v_eqi (y := nI (nO (m0) + 1)) (by rw [pk_us]) ?_
    refine v_iconst (v := nI 1) X dX3_comes_85 rfl ?_
    refine v_isubN (a := nO (m0) + 1) (b := 1) X dX3_comes_86 rfl rfl (by omega) ?_
    exact v_iret (x := nI (nO (m0) + 1 - 1)) X dX3_comes_87 rfl rfl (Nat.le_refl _) (Nat.le_refl _) ⟨by rw [Nat.add_sub_cancel], (hT12.eq0 (by show (upd (upd (upd (upd (upd (upd (m0) (120 + 5 * nO (m0)) (nI 2)) (120 + 5 * nO (m0) + 1) x) (120 + 5 * nO (m0) + 2) (nI 0)) (120 + 5 * nO (m0) + 3) (nI 0)) (120 + 5 * nO (m0) + 4) (nI (nN (m0)))) 1 (nI (nO (m0) + 1))) = comesF (m0) x; unfold comesF; rw [if_pos c19]))⟩

set_option maxHeartbeats 4000000 in
set_option maxRecDepth 100000 in
theorem t3_otter {l : Launch} {G : GT} {bb : Nat} {s0 : State} (E0 : EN l G bb s0) (h : HF) {hx : HF} {M : Nat} {ad : Nat → Nat} {w4 w6 w7 w8 w9 w10 w11 w13 w19 w20 w21 w22 w24 : Int32} {m0 m1 m2 m3 m5 m12 m14 m15 m16 m17 m18 m23 : FA} (hT : TW G hx h M ad w4 w6 w7 w8 w9 w10 w11 w13 w19 w20 w21 w22 w24 m0 m1 m2 m3 m5 m12 m14 m15 m16 m17 m18 m23) (hg : Gn (m0)) (ch : Nat) (hch : w6 = nI ch) (hch8 : ch ≤ 8) (x : Int32) : HM l G s0 yX3_otter [Cond.code yX3_otter cX3_otter 2 (some .int)] { frames := 4, cells := 0, slots := 0, locals := 86 } [.ref M, .int x] h (pOp G hx M ad w4 w6 w7 w8 w9 w10 w11 w13 w19 w20 w21 w22 w24 m0 m1 m2 m3 m5 m12 m14 m15 m16 m17 m18 m23 ch (o_otter (m0) x)) nox 0 0 := by
  refine HM.of (cc := cX3_otter) (nL := 2) (own := RX3) (nm := "otter") (lv := [(0, .ref M), (1, .int x)]) (by decide) rfl rfl E0 (Nat.le_of_ble_eq_true rfl) rfl (fun p e s m args below meth c X => ?_)
  have hgr := hg.rb
  have hgo := hg.ob
  have hgv := hg.vb
  have hgn := hg.nb
  refine v_aload_n X dX3_otter_0 rfl ?_
  refine v_callV (st := []) X dX3_otter_1 (t3_layAside E0 h hT ) mr_X3_89 hT.o rfl rfl rfl (Nat.le_of_ble_eq_true rfl) ⟨rfl, rfl⟩ ⟨Nat.le_of_ble_eq_true rfl, Nat.le_of_ble_eq_true rfl⟩ ⟨Nat.le_refl _, Nat.le_refl _⟩ (fun _ _ _ hx => v_nox hx) (fun v9 h1 hp => ?_)
  obtain ⟨rfl, hT1⟩ := hp
  have hT1 : TW G hx h1 M ad w4 w6 (nI 0) w8 w9 w10 w11 w13 w19 w20 w21 w22 w24 m0 (cpy 295 m0 m1) m2 m3 m5 m12 m14 m15 m16 m17 m18 m23 := hT1
  refine v_aload_n X dX3_otter_4 rfl ?_
  refine v_iload_n X dX3_otter_5 rfl ?_
  refine v_callV (st := []) X dX3_otter_6 (t3_isReach E0 h1 hT1 hg x) mr_X3_103 hT1.o rfl rfl rfl (Nat.le_of_ble_eq_true rfl) ⟨rfl, rfl⟩ ⟨Nat.le_of_ble_eq_true rfl, Nat.le_of_ble_eq_true rfl⟩ ⟨Nat.le_refl _, Nat.le_refl _⟩ (fun _ _ _ hx => v_nox hx) (fun v9 h9 hp => ?_)
  obtain ⟨rfl, rfl⟩ := hp
  refine v_if_neB (tgt := 19) (b := (isR m0 x)) X dX3_otter_9 (by decide) rfl (fun c9 => ?_) (fun c9 => ?_)
  · obtain ⟨j, hj, ej⟩ := (isR_iff hg).mp c9
    have nj : x.toNatClampNeg = j := by rw [ej]; exact nI_clamp (by omega)
    refine v_lveq (lv' := [(0, .ref M), (1, .int (nI j))]) (by rw [ej]) ?_
    refine v_aload_n X dX3_otter_19 rfl ?_
    refine v_iload_n X dX3_otter_20 rfl ?_
    refine v_callV (st := []) X dX3_otter_21 (t3_hasHolt E0 h1 hT1 j (by omega)) mr_X3_106 hT1.o rfl rfl rfl (Nat.le_of_ble_eq_true rfl) ⟨rfl, rfl⟩ ⟨Nat.le_of_ble_eq_true rfl, Nat.le_of_ble_eq_true rfl⟩ ⟨Nat.le_refl _, Nat.le_refl _⟩ (fun _ _ _ hx => v_nox hx) (fun v9 h9 hp => ?_)
    obtain ⟨rfl, rfl⟩ := hp
    refine v_if_neB (tgt := 44) (b := (holt m0 j)) X dX3_otter_24 (by decide) rfl (fun c24 => ?_) (fun c24 => ?_)
    · refine v_aload_n X dX3_otter_44 rfl ?_
      refine v_iload_n X dX3_otter_45 rfl ?_
      refine v_callV (st := []) X dX3_otter_46 (t3_otters E0 h1 hT1 hg (nI j)) mr_X3_109 hT1.o rfl rfl rfl (Nat.le_of_ble_eq_true rfl) ⟨rfl, rfl⟩ ⟨Nat.le_of_ble_eq_true rfl, Nat.le_of_ble_eq_true rfl⟩ ⟨Nat.le_refl _, Nat.le_refl _⟩ (fun _ _ _ hx => v_nox hx) (fun v9 h9 hp => ?_)
      obtain ⟨rfl, rfl⟩ := hp
      have hb46 := otters_b hg (nI j)
      refine v_iconst (v := nI 1) X dX3_otter_49 rfl ?_
      refine v_icmp_leN (tgt := 65) (a := otters m0 (nI j)) (b := 1) X dX3_otter_50 (by decide) rfl rfl (by omega) (by omega) (fun c50 => ?_) (fun c50 => ?_)
      · refine v_aload_n X dX3_otter_65 rfl ?_
        refine v_get (v := .ref (ad 0)) X dX3_otter_66 fr_X3_9 hT1.o rfl ?_
        refine v_iconst (v := nI 1) X dX3_otter_69 rfl ?_
        refine v_iald (f := m0) (j := 1) X dX3_otter_70 hT1.a0 rfl (by omega) (by decide) ?_
        refine v_eqi hg.o ?_
        refine v_bipush (v := nI 30) X dX3_otter_71 rfl ?_
        refine v_icmp_neN (tgt := 84) (a := nO (m0)) (b := 30) X dX3_otter_73 (by decide) rfl rfl (by omega) (by omega) (fun c73 => ?_) (fun c73 => ?_)
        · refine v_aload_n X dX3_otter_84 rfl ?_
          refine v_aload_n X dX3_otter_85 rfl ?_
          refine v_iload_n X dX3_otter_86 rfl ?_
          refine v_callV (st := [.ref M]) X dX3_otter_87 (t3_comes E0 h1 hT1 hg (nI j) (by show nO m0 < 30; omega)) mr_X3_118 hT1.o rfl rfl rfl (Nat.le_of_ble_eq_true rfl) ⟨rfl, rfl⟩ ⟨Nat.le_of_ble_eq_true rfl, Nat.le_of_ble_eq_true rfl⟩ ⟨Nat.le_refl _, Nat.le_refl _⟩ (fun _ _ _ hx => v_nox hx) (fun v9 h2 hp => ?_)
          obtain ⟨rfl, hT2⟩ := hp
          have hT2 : TW G hx h2 M ad w4 w6 (nI 0) w8 w9 w10 w11 w13 w19 w20 w21 w22 w24 (comesF m0 (nI j)) (cpy 295 m0 m1) m2 m3 m5 m12 m14 m15 m16 m17 m18 m23 := hT2
          refine v_callV (st := []) X dX3_otter_90 (t3_changed0 E0 h2 hT2 (nI (nO m0)) rfl ch hch hch8) mr_X3_100 hT2.o rfl rfl rfl (Nat.le_of_ble_eq_true rfl) ⟨rfl, rfl⟩ ⟨Nat.le_of_ble_eq_true rfl, Nat.le_of_ble_eq_true rfl⟩ ⟨Nat.le_refl _, Nat.le_refl _⟩ (fun _ _ _ hx => v_nox hx) (fun v9 h3 hp => ?_)
          obtain ⟨rfl, hT3⟩ := hp
          have hT3 : TW G hx h3 M ad w4 (nI (pushN ch)) (nI 0) w8 w9 w10 w11 w13 w19 w20 w21 w22 w24 (comesF m0 (nI j)) (cpy 295 m0 m1) m2 m3 (pushP m5 (cpy 295 m0 m1) ch) m12 m14 m15 m16 m17 m18 m23 := hT3
          exact v_iret (x := nI (nO m0)) X dX3_otter_93 rfl rfl (Nat.le_refl _) (Nat.le_refl _) (pOp_r (a := nI (nO m0)) (f := comesF (m0) (nI j)) (by unfold o_otter; rw [if_neg (nf c9), nj, if_neg (nf c24), if_neg (by rw [ej]; omega), if_neg c73, ej]) hT3)
        · refine v_aload_n X dX3_otter_76 rfl ?_
          refine v_iconst (v := nI 1) X dX3_otter_77 rfl ?_
          refine v_bipush (v := nI 30) X dX3_otter_78 rfl ?_
          refine v_callV (st := []) X dX3_otter_80 (t3_refuse E0 h1 hT1 (nI 1) (nI 30)) mr_X3_94 hT1.o rfl rfl rfl (Nat.le_of_ble_eq_true rfl) ⟨rfl, rfl⟩ ⟨Nat.le_of_ble_eq_true rfl, Nat.le_of_ble_eq_true rfl⟩ ⟨Nat.le_refl _, Nat.le_refl _⟩ (fun _ _ _ hx => v_nox hx) (fun v9 h4 hp => ?_)
          obtain ⟨rfl, hT4⟩ := hp
          have hT4 : TW G hx h4 M ad w4 w6 (nI 1) (nI 1) (nI 30) (nI 0) w11 w13 w19 w20 w21 w22 w24 m0 (cpy 295 m0 m1) m2 m3 m5 m12 m14 m15 m16 m17 m18 m23 := hT4
          exact v_iret (x := nI 0) X dX3_otter_83 rfl rfl (Nat.le_refl _) (Nat.le_refl _) (pOp_l (a := nI 1) (b := nI 30) (by unfold o_otter; rw [if_neg (nf c9), nj, if_neg (nf c24), if_neg (by rw [ej]; omega), if_pos c73]) hT4)
      · refine v_aload_n X dX3_otter_53 rfl ?_
        refine v_bipush (v := nI 6) X dX3_otter_54 rfl ?_
        refine v_aload_n X dX3_otter_56 rfl ?_
        refine v_iload_n X dX3_otter_57 rfl ?_
        refine v_callV (st := [.int (nI 6), .ref M]) X dX3_otter_58 (t3_lowestAt E0 h1 hT1 hg (nI j) (by show 0 < otters m0 (nI j); omega)) mr_X3_115 hT1.o rfl rfl rfl (Nat.le_of_ble_eq_true rfl) ⟨rfl, rfl⟩ ⟨Nat.le_of_ble_eq_true rfl, Nat.le_of_ble_eq_true rfl⟩ ⟨Nat.le_refl _, Nat.le_refl _⟩ (fun _ _ _ hx => v_nox hx) (fun v9 h9 hp => ?_)
        obtain ⟨rfl, rfl⟩ := hp
        refine v_callV (st := []) X dX3_otter_61 (t3_refuse E0 h1 hT1 (nI 6) (nI (lowest m0 (nI j)))) mr_X3_94 hT1.o rfl rfl rfl (Nat.le_of_ble_eq_true rfl) ⟨rfl, rfl⟩ ⟨Nat.le_of_ble_eq_true rfl, Nat.le_of_ble_eq_true rfl⟩ ⟨Nat.le_refl _, Nat.le_refl _⟩ (fun _ _ _ hx => v_nox hx) (fun v9 h5 hp => ?_)
        obtain ⟨rfl, hT5⟩ := hp
        have hT5 : TW G hx h5 M ad w4 w6 (nI 1) (nI 6) (nI (lowest m0 (nI j))) (nI 0) w11 w13 w19 w20 w21 w22 w24 m0 (cpy 295 m0 m1) m2 m3 m5 m12 m14 m15 m16 m17 m18 m23 := hT5
        exact v_iret (x := nI 0) X dX3_otter_64 rfl rfl (Nat.le_refl _) (Nat.le_refl _) (pOp_l (a := nI 6) (b := nI (lowest m0 (nI j))) (by unfold o_otter; rw [if_neg (nf c9), nj, if_neg (nf c24), if_pos (by rw [ej]; exact c50), ej]) hT5)
    · refine v_aload_n X dX3_otter_27 rfl ?_
      refine v_iconst (v := nI 5) X dX3_otter_28 rfl ?_
      refine v_aload_n X dX3_otter_29 rfl ?_
      refine v_get (v := .ref (ad 0)) X dX3_otter_30 fr_X3_9 hT1.o rfl ?_
      refine v_iload_n X dX3_otter_33 rfl ?_
      refine v_callS (st := [.ref (ad 0), .int (nI 5), .ref M]) X dX3_otter_34 (t3_at E0 h1 j) mr_X3_86 rfl rfl (Nat.le_of_ble_eq_true rfl) ⟨rfl, rfl⟩ ⟨Nat.le_of_ble_eq_true rfl, Nat.le_of_ble_eq_true rfl⟩ ⟨Nat.le_refl _, Nat.le_refl _⟩ (fun _ _ _ hx => v_nox hx) (fun v9 h9 hp => ?_)
      obtain ⟨rfl, rfl⟩ := hp
      refine v_iconst (v := nI 0) X dX3_otter_37 rfl ?_
      refine v_iaddN (a := 12 + 9 * j) (b := 0) X dX3_otter_38 rfl rfl ?_
      refine v_iald (f := m0) (j := 12 + 9 * j) X dX3_otter_39 hT1.a0 rfl (by omega) (by decide) ?_
      refine v_callV (st := []) X dX3_otter_40 (t3_refuse E0 h1 hT1 (nI 5) (m0 (12 + 9 * j))) mr_X3_94 hT1.o rfl rfl rfl (Nat.le_of_ble_eq_true rfl) ⟨rfl, rfl⟩ ⟨Nat.le_of_ble_eq_true rfl, Nat.le_of_ble_eq_true rfl⟩ ⟨Nat.le_refl _, Nat.le_refl _⟩ (fun _ _ _ hx => v_nox hx) (fun v9 h6 hp => ?_)
      obtain ⟨rfl, hT6⟩ := hp
      have hT6 : TW G hx h6 M ad w4 w6 (nI 1) (nI 5) (m0 (12 + 9 * j)) (nI 0) w11 w13 w19 w20 w21 w22 w24 m0 (cpy 295 m0 m1) m2 m3 m5 m12 m14 m15 m16 m17 m18 m23 := hT6
      exact v_iret (x := nI 0) X dX3_otter_43 rfl rfl (Nat.le_refl _) (Nat.le_refl _) (pOp_l (a := nI 5) (b := m0 (12 + 9 * j)) (by unfold o_otter; rw [if_neg (nf c9), nj, if_pos c24]) hT6)
  · refine v_aload_n X dX3_otter_12 rfl ?_
    refine v_iconst (v := nI 2) X dX3_otter_13 rfl ?_
    refine v_iload_n X dX3_otter_14 rfl ?_
    refine v_callV (st := []) X dX3_otter_15 (t3_refuse E0 h1 hT1 (nI 2) x) mr_X3_94 hT1.o rfl rfl rfl (Nat.le_of_ble_eq_true rfl) ⟨rfl, rfl⟩ ⟨Nat.le_of_ble_eq_true rfl, Nat.le_of_ble_eq_true rfl⟩ ⟨Nat.le_refl _, Nat.le_refl _⟩ (fun _ _ _ hx => v_nox hx) (fun v9 h7 hp => ?_)
    obtain ⟨rfl, hT7⟩ := hp
    have hT7 : TW G hx h7 M ad w4 w6 (nI 1) (nI 2) x (nI 0) w11 w13 w19 w20 w21 w22 w24 m0 (cpy 295 m0 m1) m2 m3 m5 m12 m14 m15 m16 m17 m18 m23 := hT7
    exact v_iret (x := nI 0) X dX3_otter_18 rfl rfl (Nat.le_refl _) (Nat.le_refl _) (pOp_l (a := nI 2) (b := x) (if_pos c9) hT7)

set_option maxHeartbeats 4000000 in
set_option maxRecDepth 100000 in
theorem t3_volunteer {l : Launch} {G : GT} {bb : Nat} {s0 : State} (E0 : EN l G bb s0) (h : HF) {hx : HF} {M : Nat} {ad : Nat → Nat} {w4 w6 w7 w8 w9 w10 w11 w13 w19 w20 w21 w22 w24 : Int32} {m0 m1 m2 m3 m5 m12 m14 m15 m16 m17 m18 m23 : FA} (hT : TW G hx h M ad w4 w6 w7 w8 w9 w10 w11 w13 w19 w20 w21 w22 w24 m0 m1 m2 m3 m5 m12 m14 m15 m16 m17 m18 m23) (hg : Gn (m0)) (ch : Nat) (hch : w6 = nI ch) (hch8 : ch ≤ 8) (a b : Int32) : HM l G s0 yX3_volunteer [Cond.code yX3_volunteer cX3_volunteer 4 (some .int)] { frames := 2, cells := 0, slots := 0, locals := 46 } [.ref M, .int a, .int b] h (pOp G hx M ad w4 w6 w7 w8 w9 w10 w11 w13 w19 w20 w21 w22 w24 m0 m1 m2 m3 m5 m12 m14 m15 m16 m17 m18 m23 ch (o_vol (m0) a b)) nox 0 0 := by
  refine HM.of (cc := cX3_volunteer) (nL := 4) (own := RX3) (nm := "volunteer") (lv := [(0, .ref M), (1, .int a), (2, .int b)]) (by decide) rfl rfl E0 (Nat.le_of_ble_eq_true rfl) rfl (fun p e s m args below meth c X => ?_)
  have hgr := hg.rb
  have hgo := hg.ob
  have hgv := hg.vb
  have hgn := hg.nb
  refine v_aload_n X dX3_volunteer_0 rfl ?_
  refine v_callV (st := []) X dX3_volunteer_1 (t3_layAside E0 h hT ) mr_X3_89 hT.o rfl rfl rfl (Nat.le_of_ble_eq_true rfl) ⟨rfl, rfl⟩ ⟨Nat.le_of_ble_eq_true rfl, Nat.le_of_ble_eq_true rfl⟩ ⟨Nat.le_refl _, Nat.le_refl _⟩ (fun _ _ _ hx => v_nox hx) (fun v9 h1 hp => ?_)
  obtain ⟨rfl, hT1⟩ := hp
  have hT1 : TW G hx h1 M ad w4 w6 (nI 0) w8 w9 w10 w11 w13 w19 w20 w21 w22 w24 m0 (cpy 295 m0 m1) m2 m3 m5 m12 m14 m15 m16 m17 m18 m23 := hT1
  refine v_aload_n X dX3_volunteer_4 rfl ?_
  refine v_iload_n X dX3_volunteer_5 rfl ?_
  refine v_callV (st := []) X dX3_volunteer_6 (t3_isReach E0 h1 hT1 hg a) mr_X3_103 hT1.o rfl rfl rfl (Nat.le_of_ble_eq_true rfl) ⟨rfl, rfl⟩ ⟨Nat.le_of_ble_eq_true rfl, Nat.le_of_ble_eq_true rfl⟩ ⟨Nat.le_refl _, Nat.le_refl _⟩ (fun _ _ _ hx => v_nox hx) (fun v9 h9 hp => ?_)
  obtain ⟨rfl, rfl⟩ := hp
  refine v_if_eqB (tgt := 20) (b := (isR m0 a)) X dX3_volunteer_9 (by decide) rfl (fun c9 => ?_) (fun c9 => ?_)
  · refine v_aload_n X dX3_volunteer_20 rfl ?_
    refine v_iconst (v := nI 2) X dX3_volunteer_21 rfl ?_
    refine v_aload_n X dX3_volunteer_22 rfl ?_
    refine v_iload_n X dX3_volunteer_23 rfl ?_
    refine v_callV (st := [.int (nI 2), .ref M]) X dX3_volunteer_24 (t3_isReach E0 h1 hT1 hg a) mr_X3_103 hT1.o rfl rfl rfl (Nat.le_of_ble_eq_true rfl) ⟨rfl, rfl⟩ ⟨Nat.le_of_ble_eq_true rfl, Nat.le_of_ble_eq_true rfl⟩ ⟨Nat.le_refl _, Nat.le_refl _⟩ (fun _ _ _ hx => v_nox hx) (fun v9 h9 hp => ?_)
    obtain ⟨rfl, rfl⟩ := hp
    refine v_if_eqB (tgt := 34) (b := (isR m0 a)) X dX3_volunteer_27 (by decide) rfl (fun c27 => ?_) (fun c27 => ?_)
    · refine v_iload_n X dX3_volunteer_34 rfl ?_
      refine v_callV (st := []) X dX3_volunteer_35 (t3_refuse E0 h1 hT1 (nI 2) a) mr_X3_94 hT1.o rfl rfl rfl (Nat.le_of_ble_eq_true rfl) ⟨rfl, rfl⟩ ⟨Nat.le_of_ble_eq_true rfl, Nat.le_of_ble_eq_true rfl⟩ ⟨Nat.le_refl _, Nat.le_refl _⟩ (fun _ _ _ hx => v_nox hx) (fun v9 h2 hp => ?_)
      obtain ⟨rfl, hT2⟩ := hp
      have hT2 : TW G hx h2 M ad w4 w6 (nI 1) (nI 2) a (nI 0) w11 w13 w19 w20 w21 w22 w24 m0 (cpy 295 m0 m1) m2 m3 m5 m12 m14 m15 m16 m17 m18 m23 := hT2
      exact v_iret (x := nI 0) X dX3_volunteer_38 rfl rfl (Nat.le_refl _) (Nat.le_refl _) (pOp_l (a := nI 2) (b := a) (if_pos c9) hT2)
    · refine v_iload_n X dX3_volunteer_30 rfl ?_
      refine v_goto (tgt := 35) X dX3_volunteer_31 (by decide) ?_
      refine v_callV (st := []) X dX3_volunteer_35 (t3_refuse E0 h1 hT1 (nI 2) b) mr_X3_94 hT1.o rfl rfl rfl (Nat.le_of_ble_eq_true rfl) ⟨rfl, rfl⟩ ⟨Nat.le_of_ble_eq_true rfl, Nat.le_of_ble_eq_true rfl⟩ ⟨Nat.le_refl _, Nat.le_refl _⟩ (fun _ _ _ hx => v_nox hx) (fun v9 h3 hp => ?_)
      obtain ⟨rfl, hT3⟩ := hp
      have hT3 : TW G hx h3 M ad w4 w6 (nI 1) (nI 2) b (nI 0) w11 w13 w19 w20 w21 w22 w24 m0 (cpy 295 m0 m1) m2 m3 m5 m12 m14 m15 m16 m17 m18 m23 := hT3
      exact v_iret (x := nI 0) X dX3_volunteer_38 rfl rfl (Nat.le_refl _) (Nat.le_refl _) (absurd c27 (tf_ c9))
  · refine v_aload_n X dX3_volunteer_12 rfl ?_
    refine v_iload_n X dX3_volunteer_13 rfl ?_
    refine v_callV (st := []) X dX3_volunteer_14 (t3_isReach E0 h1 hT1 hg b) mr_X3_103 hT1.o rfl rfl rfl (Nat.le_of_ble_eq_true rfl) ⟨rfl, rfl⟩ ⟨Nat.le_of_ble_eq_true rfl, Nat.le_of_ble_eq_true rfl⟩ ⟨Nat.le_refl _, Nat.le_refl _⟩ (fun _ _ _ hx => v_nox hx) (fun v9 h9 hp => ?_)
    obtain ⟨rfl, rfl⟩ := hp
    refine v_if_neB (tgt := 39) (b := (isR m0 b)) X dX3_volunteer_17 (by decide) rfl (fun c17 => ?_) (fun c17 => ?_)
    · refine v_iload_n X dX3_volunteer_39 rfl ?_
      refine v_iload_n X dX3_volunteer_40 rfl ?_
      refine v_icmp_ge (tgt := 51) X dX3_volunteer_41 (by decide) (fun c41 => ?_) (fun c41 => ?_)
      · refine v_aload_n X dX3_volunteer_51 rfl ?_
        refine v_get (v := .ref (ad 0)) X dX3_volunteer_52 fr_X3_9 hT1.o rfl ?_
        refine v_iconst (v := nI 2) X dX3_volunteer_55 rfl ?_
        refine v_iald (f := m0) (j := 2) X dX3_volunteer_56 hT1.a0 rfl (by omega) (by decide) ?_
        refine v_eqi hg.v ?_
        refine v_iconst (v := nI 5) X dX3_volunteer_57 rfl ?_
        refine v_icmp_neN (tgt := 68) (a := nV (m0)) (b := 5) X dX3_volunteer_58 (by decide) rfl rfl (by omega) (by omega) (fun c58 => ?_) (fun c58 => ?_)
        · refine v_aload_n X dX3_volunteer_68 rfl ?_
          refine v_get (v := .ref (ad 0)) X dX3_volunteer_69 fr_X3_9 hT1.o rfl ?_
          refine v_iconst (v := nI 2) X dX3_volunteer_72 rfl ?_
          refine v_iald (f := m0) (j := 2) X dX3_volunteer_73 hT1.a0 rfl (by omega) (by decide) ?_
          refine v_eqi hg.v ?_
          refine v_callS (st := []) X dX3_volunteer_74 (t3_by E0 h1 (nV (m0))) mr_X3_121 rfl rfl (Nat.le_of_ble_eq_true rfl) ⟨rfl, rfl⟩ ⟨Nat.le_of_ble_eq_true rfl, Nat.le_of_ble_eq_true rfl⟩ ⟨Nat.le_refl _, Nat.le_refl _⟩ (fun _ _ _ hx => v_nox hx) (fun v9 h9 hp => ?_)
          obtain ⟨rfl, rfl⟩ := hp
          refine v_istore_n (lv' := [(3, .int (nI (270 + 5 * nV (m0)))), (0, .ref M), (1, .int a), (2, .int b)]) X dX3_volunteer_77 (by decide) rfl ?_
          refine v_aload_n X dX3_volunteer_78 rfl ?_
          refine v_get (v := .ref (ad 0)) X dX3_volunteer_79 fr_X3_9 hT1.o rfl ?_
          refine v_iload_n X dX3_volunteer_82 rfl ?_
          refine v_iload_n X dX3_volunteer_83 rfl ?_
          refine tw_ast0 (j := 270 + 5 * nV (m0)) X hT1 dX3_volunteer_84 rfl (by omega) (fun h4 hT4 => ?_)
          refine v_aload_n X dX3_volunteer_85 rfl ?_
          refine v_get (v := .ref (ad 0)) X dX3_volunteer_86 fr_X3_9 hT4.o rfl ?_
          refine v_iload_n X dX3_volunteer_89 rfl ?_
          refine v_iconst (v := nI 1) X dX3_volunteer_90 rfl ?_
          refine v_iaddN (a := 270 + 5 * nV (m0)) (b := 1) X dX3_volunteer_91 rfl rfl ?_
          refine v_iload_n X dX3_volunteer_92 rfl ?_
          refine tw_ast0 (j := 270 + 5 * nV (m0) + 1) X hT4 dX3_volunteer_93 rfl (by omega) (fun h5 hT5 => ?_)
          refine v_aload_n X dX3_volunteer_94 rfl ?_
          refine v_get (v := .ref (ad 0)) X dX3_volunteer_95 fr_X3_9 hT5.o rfl ?_
          refine v_iload_n X dX3_volunteer_98 rfl ?_
          refine v_iconst (v := nI 2) X dX3_volunteer_99 rfl ?_
          refine v_iaddN (a := 270 + 5 * nV (m0)) (b := 2) X dX3_volunteer_100 rfl rfl ?_
          refine v_iconst (v := nI 0) X dX3_volunteer_101 rfl ?_
          refine tw_ast0 (j := 270 + 5 * nV (m0) + 2) X hT5 dX3_volunteer_102 rfl (by omega) (fun h6 hT6 => ?_)
          refine v_aload_n X dX3_volunteer_103 rfl ?_
          refine v_get (v := .ref (ad 0)) X dX3_volunteer_104 fr_X3_9 hT6.o rfl ?_
          refine v_iload_n X dX3_volunteer_107 rfl ?_
          refine v_iconst (v := nI 3) X dX3_volunteer_108 rfl ?_
          refine v_iaddN (a := 270 + 5 * nV (m0)) (b := 3) X dX3_volunteer_109 rfl rfl ?_
          refine v_iconst (v := nI 0) X dX3_volunteer_110 rfl ?_
          refine tw_ast0 (j := 270 + 5 * nV (m0) + 3) X hT6 dX3_volunteer_111 rfl (by omega) (fun h7 hT7 => ?_)
          refine v_aload_n X dX3_volunteer_112 rfl ?_
          refine v_get (v := .ref (ad 0)) X dX3_volunteer_113 fr_X3_9 hT7.o rfl ?_
          refine v_iload_n X dX3_volunteer_116 rfl ?_
          refine v_iconst (v := nI 4) X dX3_volunteer_117 rfl ?_
          refine v_iaddN (a := 270 + 5 * nV (m0)) (b := 4) X dX3_volunteer_118 rfl rfl ?_
          refine v_iconst (v := nI 0) X dX3_volunteer_119 rfl ?_
          refine tw_ast0 (j := 270 + 5 * nV (m0) + 4) X hT7 dX3_volunteer_120 rfl (by omega) (fun h8 hT8 => ?_)
          refine v_aload_n X dX3_volunteer_121 rfl ?_
          refine v_get (v := .ref (ad 0)) X dX3_volunteer_122 fr_X3_9 hT8.o rfl ?_
          refine v_iconst (v := nI 2) X dX3_volunteer_125 rfl ?_
          refine v_dup2 X dX3_volunteer_126 rfl rfl ?_
          refine v_iald (f := upd (upd (upd (upd (upd m0 (270 + 5 * nV (m0)) a) (270 + 5 * nV (m0) + 1) b) (270 + 5 * nV (m0) + 2) (nI 0)) (270 + 5 * nV (m0) + 3) (nI 0)) (270 + 5 * nV (m0) + 4) (nI 0)) (j := 2) X dX3_volunteer_127 hT8.a0 rfl (by omega) (by decide) ?_
          refine v_eqi (y := nI (nV (m0))) (by rw [pk_un (by omega), pk_un (by omega), pk_un (by omega), pk_un (by omega), pk_un (by omega), hg.v]) ?_
          refine v_iconst (v := nI 1) X dX3_volunteer_128 rfl ?_
          refine v_iaddN (a := nV (m0)) (b := 1) X dX3_volunteer_129 rfl rfl ?_
          refine tw_ast0 (j := 2) X hT8 dX3_volunteer_130 rfl (by omega) (fun h9 hT9 => ?_)
          refine v_aload_n X dX3_volunteer_131 rfl ?_
          refine v_aload_n X dX3_volunteer_132 rfl ?_
          refine v_get (v := .ref (ad 0)) X dX3_volunteer_133 fr_X3_9 hT9.o rfl ?_
          refine v_iconst (v := nI 2) X dX3_volunteer_136 rfl ?_
          refine v_iald (f := upd (upd (upd (upd (upd (upd m0 (270 + 5 * nV (m0)) a) (270 + 5 * nV (m0) + 1) b) (270 + 5 * nV (m0) + 2) (nI 0)) (270 + 5 * nV (m0) + 3) (nI 0)) (270 + 5 * nV (m0) + 4) (nI 0)) 2 (nI (nV (m0) + 1))) (j := 2) X dX3_volunteer_137 hT9.a0 rfl (by omega) (by decide) ?_
          refine v_eqi (y := nI (nV (m0) + 1)) (by rw [pk_us]) ?_
          refine v_iconst (v := nI 1) X dX3_volunteer_138 rfl ?_
          refine v_isubN (a := nV (m0) + 1) (b := 1) X dX3_volunteer_139 rfl rfl (by omega) ?_
          refine v_callV (st := []) X dX3_volunteer_140 (t3_changed0 E0 h9 hT9 (nI (nV (m0) + 1 - 1)) rfl ch hch hch8) mr_X3_100 hT9.o rfl rfl rfl (Nat.le_of_ble_eq_true rfl) ⟨rfl, rfl⟩ ⟨Nat.le_of_ble_eq_true rfl, Nat.le_of_ble_eq_true rfl⟩ ⟨Nat.le_refl _, Nat.le_refl _⟩ (fun _ _ _ hx => v_nox hx) (fun v9 h10 hp => ?_)
          obtain ⟨rfl, hT10⟩ := hp
          have hT10 : TW G hx h10 M ad w4 (nI (pushN ch)) (nI 0) w8 w9 w10 w11 w13 w19 w20 w21 w22 w24 (upd (upd (upd (upd (upd (upd m0 (270 + 5 * nV (m0)) a) (270 + 5 * nV (m0) + 1) b) (270 + 5 * nV (m0) + 2) (nI 0)) (270 + 5 * nV (m0) + 3) (nI 0)) (270 + 5 * nV (m0) + 4) (nI 0)) 2 (nI (nV (m0) + 1))) (cpy 295 m0 m1) m2 m3 (pushP m5 (cpy 295 m0 m1) ch) m12 m14 m15 m16 m17 m18 m23 := hT10
          exact v_iret (x := nI (nV (m0) + 1 - 1)) X dX3_volunteer_143 rfl rfl (Nat.le_refl _) (Nat.le_refl _) (pOp_r (a := nI (nV (m0) + 1 - 1)) (f := volF (m0) a b) ((if_neg (nf c9)).trans ((if_neg (nf c17)).trans ((if_neg (Int32.not_lt.mpr c41)).trans (if_neg c58)))) hT10)
        · refine v_aload_n X dX3_volunteer_61 rfl ?_
          refine v_iconst (v := nI 1) X dX3_volunteer_62 rfl ?_
          refine v_iconst (v := nI 5) X dX3_volunteer_63 rfl ?_
          refine v_callV (st := []) X dX3_volunteer_64 (t3_refuse E0 h1 hT1 (nI 1) (nI 5)) mr_X3_94 hT1.o rfl rfl rfl (Nat.le_of_ble_eq_true rfl) ⟨rfl, rfl⟩ ⟨Nat.le_of_ble_eq_true rfl, Nat.le_of_ble_eq_true rfl⟩ ⟨Nat.le_refl _, Nat.le_refl _⟩ (fun _ _ _ hx => v_nox hx) (fun v9 h11 hp => ?_)
          obtain ⟨rfl, hT11⟩ := hp
          have hT11 : TW G hx h11 M ad w4 w6 (nI 1) (nI 1) (nI 5) (nI 0) w11 w13 w19 w20 w21 w22 w24 m0 (cpy 295 m0 m1) m2 m3 m5 m12 m14 m15 m16 m17 m18 m23 := hT11
          exact v_iret (x := nI 0) X dX3_volunteer_67 rfl rfl (Nat.le_refl _) (Nat.le_refl _) (pOp_l (a := nI 1) (b := nI 5) ((if_neg (nf c9)).trans ((if_neg (nf c17)).trans ((if_neg (Int32.not_lt.mpr c41)).trans (if_pos c58)))) hT11)
      · refine v_aload_n X dX3_volunteer_44 rfl ?_
        refine v_iconst (v := nI 3) X dX3_volunteer_45 rfl ?_
        refine v_iload_n X dX3_volunteer_46 rfl ?_
        refine v_callV (st := []) X dX3_volunteer_47 (t3_refuse E0 h1 hT1 (nI 3) b) mr_X3_94 hT1.o rfl rfl rfl (Nat.le_of_ble_eq_true rfl) ⟨rfl, rfl⟩ ⟨Nat.le_of_ble_eq_true rfl, Nat.le_of_ble_eq_true rfl⟩ ⟨Nat.le_refl _, Nat.le_refl _⟩ (fun _ _ _ hx => v_nox hx) (fun v9 h12 hp => ?_)
        obtain ⟨rfl, hT12⟩ := hp
        have hT12 : TW G hx h12 M ad w4 w6 (nI 1) (nI 3) b (nI 0) w11 w13 w19 w20 w21 w22 w24 m0 (cpy 295 m0 m1) m2 m3 m5 m12 m14 m15 m16 m17 m18 m23 := hT12
        exact v_iret (x := nI 0) X dX3_volunteer_50 rfl rfl (Nat.le_refl _) (Nat.le_refl _) (pOp_l (a := nI 3) (b := b) ((if_neg (nf c9)).trans ((if_neg (nf c17)).trans (if_pos (Int32.not_le.mp c41)))) hT12)
    · refine v_aload_n X dX3_volunteer_20 rfl ?_
      refine v_iconst (v := nI 2) X dX3_volunteer_21 rfl ?_
      refine v_aload_n X dX3_volunteer_22 rfl ?_
      refine v_iload_n X dX3_volunteer_23 rfl ?_
      refine v_callV (st := [.int (nI 2), .ref M]) X dX3_volunteer_24 (t3_isReach E0 h1 hT1 hg a) mr_X3_103 hT1.o rfl rfl rfl (Nat.le_of_ble_eq_true rfl) ⟨rfl, rfl⟩ ⟨Nat.le_of_ble_eq_true rfl, Nat.le_of_ble_eq_true rfl⟩ ⟨Nat.le_refl _, Nat.le_refl _⟩ (fun _ _ _ hx => v_nox hx) (fun v9 h9 hp => ?_)
      obtain ⟨rfl, rfl⟩ := hp
      refine v_if_eqB (tgt := 34) (b := (isR m0 a)) X dX3_volunteer_27 (by decide) rfl (fun c27 => ?_) (fun c27 => ?_)
      · refine v_iload_n X dX3_volunteer_34 rfl ?_
        refine v_callV (st := []) X dX3_volunteer_35 (t3_refuse E0 h1 hT1 (nI 2) a) mr_X3_94 hT1.o rfl rfl rfl (Nat.le_of_ble_eq_true rfl) ⟨rfl, rfl⟩ ⟨Nat.le_of_ble_eq_true rfl, Nat.le_of_ble_eq_true rfl⟩ ⟨Nat.le_refl _, Nat.le_refl _⟩ (fun _ _ _ hx => v_nox hx) (fun v9 h13 hp => ?_)
        obtain ⟨rfl, hT13⟩ := hp
        have hT13 : TW G hx h13 M ad w4 w6 (nI 1) (nI 2) a (nI 0) w11 w13 w19 w20 w21 w22 w24 m0 (cpy 295 m0 m1) m2 m3 m5 m12 m14 m15 m16 m17 m18 m23 := hT13
        exact v_iret (x := nI 0) X dX3_volunteer_38 rfl rfl (Nat.le_refl _) (Nat.le_refl _) (absurd c9 (tf_ c27))
      · refine v_iload_n X dX3_volunteer_30 rfl ?_
        refine v_goto (tgt := 35) X dX3_volunteer_31 (by decide) ?_
        refine v_callV (st := []) X dX3_volunteer_35 (t3_refuse E0 h1 hT1 (nI 2) b) mr_X3_94 hT1.o rfl rfl rfl (Nat.le_of_ble_eq_true rfl) ⟨rfl, rfl⟩ ⟨Nat.le_of_ble_eq_true rfl, Nat.le_of_ble_eq_true rfl⟩ ⟨Nat.le_refl _, Nat.le_refl _⟩ (fun _ _ _ hx => v_nox hx) (fun v9 h14 hp => ?_)
        obtain ⟨rfl, hT14⟩ := hp
        have hT14 : TW G hx h14 M ad w4 w6 (nI 1) (nI 2) b (nI 0) w11 w13 w19 w20 w21 w22 w24 m0 (cpy 295 m0 m1) m2 m3 m5 m12 m14 m15 m16 m17 m18 m23 := hT14
        exact v_iret (x := nI 0) X dX3_volunteer_38 rfl rfl (Nat.le_refl _) (Nat.le_refl _) (pOp_l (a := nI 2) (b := b) ((if_neg (nf c9)).trans (if_pos c17)) hT14)
