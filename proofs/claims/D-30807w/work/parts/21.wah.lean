/-! printed: functions and walks -/
set_option maxRecDepth 100000
noncomputable section
theorem fgX7_21 : zFG RX7 21 6 4 (.object "SelahGenerator$Strings") := ⟨(RX7, TX7, 7, tyX7), rfl, by decide, in_X7, rfl, "SelahGenerator$Pairs", Or.inl rfl, Or.inl q1417⟩
theorem fgX7_25 : zFG RX7 25 6 5 (.object "SelahGenerator$Strings") := ⟨(RX7, TX7, 7, tyX7), rfl, by decide, in_X7, rfl, "SelahGenerator$Pairs", Or.inl rfl, Or.inl q1418⟩
theorem msX7_68 : zSV RX7 68 RX8 yX8_become_2 cX8_become_2 3 none 1 := ⟨lw_V q1386 q1387 q1388 q169 q1389, (by decide +kernel), (by decide)⟩
theorem msX7_74 : zSV RX7 74 RX8 yX8_become cX8_become 5 none 2 := ⟨lw_V q1370 q1371 q1372 q169 q1373, (by decide +kernel), (by decide)⟩
abbrev mX7_goOn : zM := (cX7_goOn, RX7, 2, none, "goOn", [], "(LSelahGenerator$Strings;)V")
def fX7_goOn_0 (t : Nat) (x1 : Option Nat)  (G : GS) : Option (GS) :=
  (zgR G 7 t 5).bind fun r1 => (zgR G 7 t 4).bind fun r3 => r1.bind fun a5 => zk [8] G a5 <| (fX8_become_0 a5 r3 x1 G).bind fun G9 => (zgR G9 7 t 4).bind fun r10 => (zgR G9 7 t 5).bind fun r12 => r10.bind fun a14 => zk [8] G9 a14 <| (fX8_become_2_0 a14 r12 G9).bind fun G18 => some G18
theorem wfX7_goOn_0 {F : zF} (hd : 4 ≤ F.2.2.2) (t : Nat) (x1 : Option Nat)  (G : GS) {a : GS} (h : fX7_goOn_0 t x1  G = some a) (hk : zKV F a) : J mX7_goOn F G 0 [(0, vR (some t)), (1, vR x1)] [] := by
  unfold fX7_goOn_0 at h
  refine j_aload_n (j := 0) dX7_goOn_0 rfl rfl ?_
  replace h := zbE h
  obtain ⟨r1, e2, h⟩ := h
  refine j_getR fgX7_25 (fun _ _ _ => rfl) dX7_goOn_1 e2 ?_
  refine j_aload_n (j := 0) dX7_goOn_4 rfl rfl ?_
  replace h := zbE h
  obtain ⟨r3, e4, h⟩ := h
  refine j_getR fgX7_21 (fun _ _ _ => rfl) dX7_goOn_5 e4 ?_
  refine j_aload_n (j := 1) dX7_goOn_8 rfl rfl ?_
  replace h := zbE h
  obtain ⟨a5, e6, h⟩ := h
  subst e6
  replace h := zkE h
  obtain ⟨e7, h⟩ := h
  replace h := zbE h
  obtain ⟨G9, e8, h⟩ := h
  refine j_cont (zrV (As := [vR r3, vR x1]) msX7_74 (yX8_become_ok e8) (Nat.le_trans (Nat.le_of_ble_eq_true rfl) hd) (zk_8 _ e7) rfl rfl (Nat.le_of_ble_eq_true rfl) dX7_goOn_9) ?_
  refine j_aload_n (j := 0) dX7_goOn_12 rfl rfl ?_
  replace h := zbE h
  obtain ⟨r10, e11, h⟩ := h
  refine j_getR fgX7_21 (fun _ _ _ => rfl) dX7_goOn_13 e11 ?_
  refine j_aload_n (j := 0) dX7_goOn_16 rfl rfl ?_
  replace h := zbE h
  obtain ⟨r12, e13, h⟩ := h
  refine j_getR fgX7_25 (fun _ _ _ => rfl) dX7_goOn_17 e13 ?_
  replace h := zbE h
  obtain ⟨a14, e15, h⟩ := h
  subst e15
  replace h := zkE h
  obtain ⟨e16, h⟩ := h
  replace h := zbE h
  obtain ⟨G18, e17, h⟩ := h
  refine j_cont (zrV (As := [vR r12]) msX7_68 (yX8_become_2_ok e17) (Nat.le_trans (Nat.le_of_ble_eq_true rfl) hd) (zk_8 _ e16) rfl rfl (Nat.le_of_ble_eq_true rfl) dX7_goOn_20) ?_
  obtain rfl := Option.some.inj h
  exact j_vret hk.1 hk.2 rfl dX7_goOn_23
theorem yX7_goOn_ok {t : Nat} {x1 : Option Nat} {G : GS} {G1 : GS} (h : fX7_goOn_0 t x1 G = some G1) : zRuns yX7_goOn (ws_ yX7_goOn cX7_goOn 2 none) [vR (some t), vR x1] (.inl none, G, G1, 4) :=
  zentry (M := mX7_goOn) (plainFor_of_name (by decide +kernel)) ⟨rfl, rfl, rfl, rfl⟩ (Nat.le_of_ble_eq_true rfl) (wfX7_goOn_0 (Nat.le_refl _) t x1 G h ⟨rfl, rfl⟩)
theorem zk_7 : ∀ k, [7].contains k = true → zKc k = some "SelahGenerator$Pairs" := fun k h => by rw [zKc_one h]; rfl
theorem fgX7_11 : zFG RX7 11 6 1 (.array (.object "SelahGenerator$Strings")) := ⟨(RX7, TX7, 7, tyX7), rfl, by decide, in_X7, rfl, "SelahGenerator$Pairs", Or.inl rfl, Or.inl q1412⟩
theorem fgX7_28 : zFG RX7 28 6 6 (.object "SelahGenerator$Strings") := ⟨(RX7, TX7, 7, tyX7), rfl, by decide, in_X7, rfl, "SelahGenerator$Pairs", Or.inl rfl, Or.inl q1419⟩
theorem fgX7_84 : zFG RX7 84 2 1 (.array (.int)) := ⟨(RX3, TX3, 2, tyX3), rfl, by decide, in_X3, rfl, "SelahGenerator$Rule", Or.inl rfl, Or.inr ⟨_, zxw 110 rfl⟩⟩
theorem msX7_64 : zSV RX7 64 RX7 yX7_goOn cX7_goOn 2 none 1 := ⟨lw_V q1366 q1368 qs23 q168 q1369, (by decide +kernel), (by decide)⟩
theorem msX7_77 : zSV RX7 77 RX8 yX8_clear cX8_clear 2 none 0 := ⟨lw_V q1357 q1358 q1359 q169 q1360, (by decide +kernel), (by decide)⟩
theorem msX7_80 : zSV RX7 80 RX8 yX8_add cX8_add 2 none 1 := ⟨lw_V q1361 q1362 q1363 q169 q1364, (by decide +kernel), (by decide)⟩
theorem msX7_88 : zSN RX7 88 yX1_isNonterminal "SelahGenerator" cX1_isNonterminal 1 (some Jvm.ClassFile.FieldType.boolean) 1 := ⟨q402, q123, zxw 108 rfl, (by decide +kernel), (by decide)⟩
abbrev mX7_goThrough : zM := (cX7_goThrough, RX7, 5, none, "goThrough", [], "(LSelahGenerator$Rule;I)V")
def fX7_goThrough_86 (t : Nat) (x1 : Option Nat) (x3 : Int32) (s0 : Option Nat) (s1 : Option Nat) (G : GS) : Option ((Int32 × GS) ⊕ (GS)) :=
  s0.bind fun a1 => zk [7] G a1 <| (fX7_goOn_0 a1 s1 G).bind fun G5 => some (.inl ((x3 + 1), G5))
theorem wfX7_goThrough_86 {F : zF} (hd : 5 ≤ F.2.2.2) (t : Nat) (x1 : Option Nat) (x3 : Int32) (s0 : Option Nat) (s1 : Option Nat) (G : GS) {a : (Int32 × GS) ⊕ (GS)} (h : fX7_goThrough_86 t x1 x3 s0 s1 G = some a) (hk : (zcase (fun s : Int32 × GS => J mX7_goThrough F s.2 17 [(0, vR (some t)), (1, vR x1), (3, vI s.1)] []) (zKV F)) a) : J mX7_goThrough F G 86 [(0, vR (some t)), (1, vR x1), (3, vI x3)] [vR s1, vR s0] := by
  unfold fX7_goThrough_86 at h
  replace h := zbE h
  obtain ⟨a1, e2, h⟩ := h
  subst e2
  replace h := zkE h
  obtain ⟨e3, h⟩ := h
  replace h := zbE h
  obtain ⟨G5, e4, h⟩ := h
  refine j_cont (zrV (As := [vR s1]) msX7_64 (yX7_goOn_ok e4) (Nat.le_trans (Nat.le_of_ble_eq_true rfl) hd) (zk_7 _ e3) rfl rfl (Nat.le_of_ble_eq_true rfl) dX7_goThrough_86) ?_
  refine j_iinc (j := 2) (v := (x3 + 1)) (lv' := [(3, vI (x3 + 1)), (0, vR (some t)), (1, vR x1)]) dX7_goThrough_89 rfl rfl (Nat.le_of_ble_eq_true rfl) rfl ?_
  refine j_goto (tgt := 17) dX7_goThrough_92 (by decide) ?_
  obtain rfl := Option.some.inj h
  exact J.sub (zall [1, 2, 0] rfl) hk
def fX7_goThrough_60 (t : Nat) (x1 : Option Nat) (x3 : Int32) (x4 : Int32)  (G : GS) : Option ((Int32 × GS) ⊕ (GS)) :=
  (fX1_isNonterminal_0 x4 G).bind fun v2 => if v2 = 0 then ((zgR G 7 t 6).bind fun r4 => fX7_goThrough_86 t x1 x3 (some t) r4 G) else ((zgR G 7 t 1).bind fun r6 => r6.bind fun a8 => (zaR G 55 a8 (x4 - 20)).bind fun r10 => fX7_goThrough_86 t x1 x3 (some t) r10 G)
theorem wfX7_goThrough_60 {F : zF} (hd : 5 ≤ F.2.2.2) (t : Nat) (x1 : Option Nat) (x3 : Int32) (x4 : Int32)  (G : GS) {a : (Int32 × GS) ⊕ (GS)} (h : fX7_goThrough_60 t x1 x3 x4  G = some a) (hk : (zcase (fun s : Int32 × GS => J mX7_goThrough F s.2 17 [(0, vR (some t)), (1, vR x1), (3, vI s.1)] []) (zKV F)) a) : J mX7_goThrough F G 60 [(0, vR (some t)), (1, vR x1), (3, vI x3), (4, vI x4)] [] := by
  unfold fX7_goThrough_60 at h
  refine j_aload_n (j := 0) dX7_goThrough_60 rfl rfl ?_
  refine j_iload (j := 3) dX7_goThrough_61 rfl ?_
  replace h := zbE h
  obtain ⟨v2, e1, h⟩ := h
  refine j_cont (zrSN (As := [vI x4]) msX7_88 q401 (yX1_isNonterminal_ok e1) (Nat.le_trans (Nat.le_of_ble_eq_true rfl) hd) rfl rfl (Nat.le_of_ble_eq_true rfl) dX7_goThrough_63) ?_
  refine j_if_eq (tgt := 82) dX7_goThrough_66 (by decide) (fun c3 => ?_) (fun c3 => ?_)
  · rw [if_pos c3] at h
    refine j_aload_n (j := 0) dX7_goThrough_82 rfl rfl ?_
    replace h := zbE h
    obtain ⟨r4, e5, h⟩ := h
    refine j_getR fgX7_28 (fun _ _ _ => rfl) dX7_goThrough_83 e5 ?_
    exact J.sub (zall [0, 1, 2] rfl) (wfX7_goThrough_86 hd t x1 x3 (some t) r4 G h hk)
  · rw [if_neg c3] at h
    refine j_aload_n (j := 0) dX7_goThrough_69 rfl rfl ?_
    replace h := zbE h
    obtain ⟨r6, e7, h⟩ := h
    refine j_getR fgX7_11 (fun _ _ _ => rfl) dX7_goThrough_70 e7 ?_
    refine j_iload (j := 3) dX7_goThrough_73 rfl ?_
    refine j_bipush (v := 20) dX7_goThrough_75 (by decide) ?_
    refine j_isub dX7_goThrough_77 ?_
    replace h := zbE h
    obtain ⟨a8, e9, h⟩ := h
    subst e9
    replace h := zbE h
    obtain ⟨r10, e11, h⟩ := h
    refine j_aald (Or.inr (Or.inl rfl)) e11 dX7_goThrough_78 ?_
    refine j_goto (tgt := 86) dX7_goThrough_79 (by decide) ?_
    exact J.sub (zall [0, 1, 2] rfl) (wfX7_goThrough_86 hd t x1 x3 (some t) r10 G h hk)
def fbX7_goThrough_17 (t : Nat) (x1 : Option Nat) (x3 : Int32)  (G : GS) : Option ((Int32 × GS) ⊕ (GS)) :=
  x1.bind fun a1 => (zgR G 3 a1 1).bind fun r3 => r3.bind fun a5 => (zln G a5).bind fun v7 => if v7 ≤ x3 then (zo (some G)) else ((zgR G 3 a1 1).bind fun r10 => r10.bind fun a12 => (zaI G 50 a12 x3).bind fun v14 => (zgR G 7 t 6).bind fun r16 => r16.bind fun a18 => zk [8] G a18 <| (fX8_clear_0 a18 G).bind fun G22 => (fX1_isNonterminal_0 v14 G22).bind fun v24 => if v24 = 0 then ((zgR G22 7 t 6).bind fun r26 => r26.bind fun a28 => zk [8] G22 a28 <| (fX8_add_0 a28 (1 + v14) G22).bind fun G32 => fX7_goThrough_60 t (some a1) x3 v14 G32) else (fX7_goThrough_60 t (some a1) x3 v14 G22))
def flX7_goThrough_17 (t : Nat) (x1 : Option Nat) (x3 : Int32) (G : GS) : Option (GS) := zloop (fun s : Int32 × GS => fbX7_goThrough_17 t x1 s.1 s.2) (x3, G)
theorem wfbX7_goThrough_17 {F : zF} (hd : 5 ≤ F.2.2.2) (t : Nat) (x1 : Option Nat) (x3 : Int32) (G : GS) {a : (Int32 × GS) ⊕ (GS)} (h : fbX7_goThrough_17 t x1 x3 G = some a) (hk : (zcase (fun s : Int32 × GS => J mX7_goThrough F s.2 17 [(0, vR (some t)), (1, vR x1), (3, vI s.1)] []) (zKV F)) a) : J mX7_goThrough F G 17 [(0, vR (some t)), (1, vR x1), (3, vI x3)] [] := by
  unfold fbX7_goThrough_17 at h
  refine j_iload_n (j := 2) dX7_goThrough_17 rfl rfl ?_
  refine j_aload_n (j := 1) dX7_goThrough_18 rfl rfl ?_
  replace h := zbE h
  obtain ⟨a1, e2, h⟩ := h
  subst e2
  replace h := zbE h
  obtain ⟨r3, e4, h⟩ := h
  refine j_getR fgX7_84 (fun _ _ _ => rfl) dX7_goThrough_19 e4 ?_
  replace h := zbE h
  obtain ⟨a5, e6, h⟩ := h
  subst e6
  replace h := zbE h
  obtain ⟨v7, e8, h⟩ := h
  refine j_alen e8 dX7_goThrough_22 ?_
  refine j_icmp_ge (tgt := 95) dX7_goThrough_23 (by decide) (fun c9 => ?_) (fun c9 => ?_)
  · rw [if_pos c9] at h
    replace h := zoE h
    obtain ⟨a, h, rfl⟩ := h
    replace hk := hk
    obtain rfl := Option.some.inj h
    exact j_vret hk.1 hk.2 rfl dX7_goThrough_95
  · rw [if_neg c9] at h
    refine j_aload_n (j := 1) dX7_goThrough_26 rfl rfl ?_
    replace h := zbE h
    obtain ⟨r10, e11, h⟩ := h
    refine j_getR fgX7_84 (fun _ _ _ => rfl) dX7_goThrough_27 e11 ?_
    refine j_iload_n (j := 2) dX7_goThrough_30 rfl rfl ?_
    replace h := zbE h
    obtain ⟨a12, e13, h⟩ := h
    subst e13
    replace h := zbE h
    obtain ⟨v14, e15, h⟩ := h
    refine j_iald (Or.inl rfl) e15 dX7_goThrough_31 ?_
    refine j_istore (lv' := [(4, vI v14), (0, vR (some t)), (1, vR (some a1)), (3, vI x3)]) dX7_goThrough_32 (Nat.le_of_ble_eq_true rfl) rfl ?_
    refine j_aload_n (j := 1) dX7_goThrough_34 rfl rfl ?_
    replace h := zbE h
    obtain ⟨r16, e17, h⟩ := h
    refine j_getR fgX7_28 (fun _ _ _ => rfl) dX7_goThrough_35 e17 ?_
    replace h := zbE h
    obtain ⟨a18, e19, h⟩ := h
    subst e19
    replace h := zkE h
    obtain ⟨e20, h⟩ := h
    replace h := zbE h
    obtain ⟨G22, e21, h⟩ := h
    refine j_cont (zrV (As := []) msX7_77 (yX8_clear_ok e21) (Nat.le_trans (Nat.le_of_ble_eq_true rfl) hd) (zk_8 _ e20) rfl rfl (Nat.le_of_ble_eq_true rfl) dX7_goThrough_38) ?_
    refine j_iload (j := 0) dX7_goThrough_41 rfl ?_
    replace h := zbE h
    obtain ⟨v24, e23, h⟩ := h
    refine j_cont (zrSN (As := [vI v14]) msX7_88 q401 (yX1_isNonterminal_ok e23) (Nat.le_trans (Nat.le_of_ble_eq_true rfl) hd) rfl rfl (Nat.le_of_ble_eq_true rfl) dX7_goThrough_43) ?_
    refine j_if_ne (tgt := 60) dX7_goThrough_46 (by decide) (fun c25 => ?_) (fun c25 => ?_)
    · rw [if_pos c25] at h
      refine j_aload_n (j := 1) dX7_goThrough_49 rfl rfl ?_
      replace h := zbE h
      obtain ⟨r26, e27, h⟩ := h
      refine j_getR fgX7_28 (fun _ _ _ => rfl) dX7_goThrough_50 e27 ?_
      refine j_iconst (v := 1) dX7_goThrough_53 (by decide) ?_
      refine j_iload (j := 0) dX7_goThrough_54 rfl ?_
      refine j_iadd dX7_goThrough_56 ?_
      replace h := zbE h
      obtain ⟨a28, e29, h⟩ := h
      subst e29
      replace h := zkE h
      obtain ⟨e30, h⟩ := h
      replace h := zbE h
      obtain ⟨G32, e31, h⟩ := h
      refine j_cont (zrV (As := [vI (1 + v14)]) msX7_80 (yX8_add_ok e31) (Nat.le_trans (Nat.le_of_ble_eq_true rfl) hd) (zk_8 _ e30) rfl rfl (Nat.le_of_ble_eq_true rfl) dX7_goThrough_57) ?_
      exact J.sub (zall [1, 2, 3, 0] rfl) (wfX7_goThrough_60 hd t (some a1) x3 v14  G32 h hk)
    · rw [if_neg c25] at h
      exact J.sub (zall [1, 2, 3, 0] rfl) (wfX7_goThrough_60 hd t (some a1) x3 v14  G22 h hk)
theorem wflX7_goThrough_17 {F : zF} (hd : 5 ≤ F.2.2.2) (t : Nat) (x1 : Option Nat) (x3 : Int32) (G : GS) {a : GS} (h : flX7_goThrough_17 t x1 x3 G = some a) (hk : zKV F a) : J mX7_goThrough F G 17 [(0, vR (some t)), (1, vR x1), (3, vI x3)] [] := by
  unfold flX7_goThrough_17 at h
  exact zloop_walk (P := (fun s : Int32 × GS => J mX7_goThrough F s.2 17 [(0, vR (some t)), (1, vR x1), (3, vI s.1)] [])) (fun s b e hk => wfbX7_goThrough_17 hd t x1 s.1 s.2 e hk) (x3, G) _ h hk
def fX7_goThrough_0 (t : Nat) (x1 : Option Nat) (x2 : Int32)  (G : GS) : Option (GS) :=
  (zgR G 7 t 4).bind fun r1 => r1.bind fun a3 => zk [8] G a3 <| (fX8_clear_0 a3 G).bind fun G7 => (zgR G7 7 t 4).bind fun r8 => r8.bind fun a10 => zk [8] G7 a10 <| (fX8_add_0 a10 0 G7).bind fun G14 => flX7_goThrough_17 t x1 x2 G14
theorem wfX7_goThrough_0 {F : zF} (hd : 5 ≤ F.2.2.2) (t : Nat) (x1 : Option Nat) (x2 : Int32)  (G : GS) {a : GS} (h : fX7_goThrough_0 t x1 x2  G = some a) (hk : zKV F a) : J mX7_goThrough F G 0 [(0, vR (some t)), (1, vR x1), (2, vI x2)] [] := by
  unfold fX7_goThrough_0 at h
  refine j_aload_n (j := 0) dX7_goThrough_0 rfl rfl ?_
  replace h := zbE h
  obtain ⟨r1, e2, h⟩ := h
  refine j_getR fgX7_21 (fun _ _ _ => rfl) dX7_goThrough_1 e2 ?_
  replace h := zbE h
  obtain ⟨a3, e4, h⟩ := h
  subst e4
  replace h := zkE h
  obtain ⟨e5, h⟩ := h
  replace h := zbE h
  obtain ⟨G7, e6, h⟩ := h
  refine j_cont (zrV (As := []) msX7_77 (yX8_clear_ok e6) (Nat.le_trans (Nat.le_of_ble_eq_true rfl) hd) (zk_8 _ e5) rfl rfl (Nat.le_of_ble_eq_true rfl) dX7_goThrough_4) ?_
  refine j_aload_n (j := 0) dX7_goThrough_7 rfl rfl ?_
  replace h := zbE h
  obtain ⟨r8, e9, h⟩ := h
  refine j_getR fgX7_21 (fun _ _ _ => rfl) dX7_goThrough_8 e9 ?_
  refine j_iconst (v := 0) dX7_goThrough_11 (by decide) ?_
  replace h := zbE h
  obtain ⟨a10, e11, h⟩ := h
  subst e11
  replace h := zkE h
  obtain ⟨e12, h⟩ := h
  replace h := zbE h
  obtain ⟨G14, e13, h⟩ := h
  refine j_cont (zrV (As := [vI 0]) msX7_80 (yX8_add_ok e13) (Nat.le_trans (Nat.le_of_ble_eq_true rfl) hd) (zk_8 _ e12) rfl rfl (Nat.le_of_ble_eq_true rfl) dX7_goThrough_12) ?_
  refine j_iload_n (j := 2) dX7_goThrough_15 rfl rfl ?_
  refine j_istore_n (lv' := [(3, vI x2), (0, vR (some t)), (1, vR x1), (2, vI x2)]) dX7_goThrough_16 rfl (Nat.le_of_ble_eq_true rfl) rfl ?_
  exact J.sub (zall [1, 2, 0] rfl) (wflX7_goThrough_17 hd t x1 x2  G14 h hk)
theorem yX7_goThrough_ok {t : Nat} {x1 : Option Nat} {x2 : Int32} {G : GS} {G1 : GS} (h : fX7_goThrough_0 t x1 x2 G = some G1) : zRuns yX7_goThrough (ws_ yX7_goThrough cX7_goThrough 5 none) [vR (some t), vR x1, vI x2] (.inl none, G, G1, 5) :=
  zentry (M := mX7_goThrough) (plainFor_of_name (by decide +kernel)) ⟨rfl, rfl, rfl, rfl⟩ (Nat.le_of_ble_eq_true rfl) (wfX7_goThrough_0 (Nat.le_refl _) t x1 x2 G h ⟨rfl, rfl⟩)
theorem fgX7_31 : zFG RX7 31 6 0 (.object "java/util/List") := ⟨(RX7, TX7, 7, tyX7), rfl, by decide, in_X7, rfl, "SelahGenerator$Pairs", Or.inl rfl, Or.inl q1411⟩
theorem fgX7_60 : zFG RX7 60 2 0 (.int) := ⟨(RX3, TX3, 2, tyX3), rfl, by decide, in_X3, rfl, "SelahGenerator$Rule", Or.inl rfl, Or.inr ⟨_, zxw 109 rfl⟩⟩
theorem msX7_102_J19 : zSF RX7 102 RJ19 ⟨"java/util/Iterator", "next", "()Ljava/lang/Object;"⟩ yJ19_next cJ19_next 3 (some (Jvm.ClassFile.FieldType.object "java/lang/Object")) 0 := ⟨lw_F q1351 q359 q361 q147 q363, zfw 17 rfl, ⟨12, _, rfl, rfl⟩, (by decide +kernel), (by decide)⟩
theorem msX7_105 : zSV RX7 105 RX8 yX8_addAll cX8_addAll 4 (some Jvm.ClassFile.FieldType.boolean) 1 := ⟨lw_V q1395 q1391 q1392 q169 q1393, (by decide +kernel), (by decide)⟩
theorem msX7_56 : zSV RX7 56 RX7 yX7_goThrough cX7_goThrough 5 none 2 := ⟨lw_V q1353 q1355 qs22 q168 q1356, (by decide +kernel), (by decide)⟩
theorem msX7_92_J2 : zSF RX7 92 RJ2 ⟨"java/util/List", "iterator", "()Ljava/util/Iterator;"⟩ yJ2_iterator cJ2_iterator 1 (some (Jvm.ClassFile.FieldType.object "java/util/Iterator")) 0 := ⟨lw_F q1347 q288 q290 q126 q292, zfw 11 rfl, ⟨11, _, rfl, rfl⟩, (by decide +kernel), (by decide)⟩
theorem msX7_96_J19 : zSF RX7 96 RJ19 ⟨"java/util/Iterator", "hasNext", "()Z"⟩ yJ19_hasNext cJ19_hasNext 1 (some Jvm.ClassFile.FieldType.boolean) 0 := ⟨lw_F q1349 q323 q325 q147 q327, zfw 16 rfl, ⟨12, _, rfl, rfl⟩, (by decide +kernel), (by decide)⟩
abbrev mX7_findFirst : zM := (cX7_findFirst, RX7, 4, none, "findFirst", [], "()V")
def fX7_findFirst_68 (t : Nat) (x1 : Int32)  (G : GS) : Option ((Int32 × GS) ⊕ (GS)) :=
  some (.inl (x1, G))
theorem wfX7_findFirst_68 {F : zF} (hd : 6 ≤ F.2.2.2) (t : Nat) (x1 : Int32)  (G : GS) {a : (Int32 × GS) ⊕ (GS)} (h : fX7_findFirst_68 t x1  G = some a) (hk : (zcase (fun s : Int32 × GS => J mX7_findFirst F s.2 2 [(0, vR (some t)), (1, vI s.1)] []) (zKV F)) a) : J mX7_findFirst F G 68 [(0, vR (some t)), (1, vI x1)] [] := by
  unfold fX7_findFirst_68 at h
  refine j_goto (tgt := 2) dX7_findFirst_68 (by decide) ?_
  obtain rfl := Option.some.inj h
  exact J.sub (zall [0, 1] rfl) hk
def fbX7_findFirst_18 (t : Nat) (x1 : Int32) (x2 : Option Nat)  (G : GS) : Option ((Int32 × GS) ⊕ ((Int32 × GS) ⊕ (GS))) :=
  x2.bind fun a1 => zk [13] G a1 <| (fJ19_hasNext_0 a1 G).bind fun v5 => if v5 = 0 then (zo (fX7_findFirst_68 t x1 G)) else (zk [13] G a1 <| zb2 (fJ19_next_0 a1 G) fun r9 G10 => zkq [3] G10 r9 (zk [7] G10 t <| (fX7_goThrough_0 t r9 0 G10).bind fun G14 => (zgR G14 7 t 1).bind fun r15 => r9.bind fun a17 => (zgI G14 3 a17 0).bind fun v19 => r15.bind fun a21 => (zaR G14 55 a21 (v19 - 20)).bind fun r23 => (zgR G14 7 t 4).bind fun r25 => r23.bind fun a27 => zk [8] G14 a27 <| zb2 (fX8_addAll_0 a27 r25 G14) fun v31 G32 => some (.inl ((x1 ||| v31), G32))))
def flX7_findFirst_18 (t : Nat) (x1 : Int32) (x2 : Option Nat) (G : GS) : Option ((Int32 × GS) ⊕ (GS)) := zloop (fun s : Int32 × GS => fbX7_findFirst_18 t s.1 x2 s.2) (x1, G)
theorem wfbX7_findFirst_18 {F : zF} (hd : 6 ≤ F.2.2.2) (t : Nat) (x1 : Int32) (x2 : Option Nat) (G : GS) {a : (Int32 × GS) ⊕ ((Int32 × GS) ⊕ (GS))} (h : fbX7_findFirst_18 t x1 x2 G = some a) (hk : (zcase (fun s : Int32 × GS => J mX7_findFirst F s.2 18 [(0, vR (some t)), (1, vI s.1), (2, vR x2)] []) ((zcase (fun s : Int32 × GS => J mX7_findFirst F s.2 2 [(0, vR (some t)), (1, vI s.1)] []) (zKV F)))) a) : J mX7_findFirst F G 18 [(0, vR (some t)), (1, vI x1), (2, vR x2)] [] := by
  unfold fbX7_findFirst_18 at h
  refine j_aload_n (j := 2) dX7_findFirst_18 rfl rfl ?_
  replace h := zbE h
  obtain ⟨a1, e2, h⟩ := h
  subst e2
  replace h := zkE h
  obtain ⟨e3, h⟩ := h
  replace h := zbE h
  obtain ⟨v5, e4, h⟩ := h
  refine j_cont (zrF (As := []) msX7_96_J19 (yJ19_hasNext_ok e4) (Nat.le_trans (Nat.le_of_ble_eq_true rfl) hd) (zk_13 _ e3) rfl rfl (Nat.le_of_ble_eq_true rfl) dX7_findFirst_19) ?_
  refine j_if_eq (tgt := 68) dX7_findFirst_24 (by decide) (fun c6 => ?_) (fun c6 => ?_)
  · rw [if_pos c6] at h
    replace h := zoE h
    obtain ⟨a, h, rfl⟩ := h
    replace hk := hk
    exact J.sub (zall [0, 1] rfl) (wfX7_findFirst_68 hd t x1  G h hk)
  · rw [if_neg c6] at h
    refine j_aload_n (j := 2) dX7_findFirst_27 rfl rfl ?_
    replace h := zkE h
    obtain ⟨e7, h⟩ := h
    replace h := zb2E h
    obtain ⟨r9, G10, e8, h⟩ := h
    refine j_cont (zrF (As := []) msX7_102_J19 (yJ19_next_ok e8) (Nat.le_trans (Nat.le_of_ble_eq_true rfl) hd) (zk_13 _ e7) rfl rfl (Nat.le_of_ble_eq_true rfl) dX7_findFirst_28) ?_
    replace h := zkqE h
    obtain ⟨e11, h⟩ := h
    refine j_castq (fun k => j_castN dX7_findFirst_33 k) (fun b q33 k => j_castS (zk_3 _ (e11 b q33)) ⟨2, _, rfl, rfl⟩ q1352 dX7_findFirst_33 k) ?_
    refine j_astore_n (lv' := [(3, vR r9), (0, vR (some t)), (1, vI x1), (2, vR (some a1))]) dX7_findFirst_36 rfl (Nat.le_of_ble_eq_true rfl) rfl ?_
    refine j_aload_n (j := 1) dX7_findFirst_37 rfl rfl ?_
    refine j_aload_n (j := 0) dX7_findFirst_38 rfl rfl ?_
    refine j_iconst (v := 0) dX7_findFirst_39 (by decide) ?_
    replace h := zkE h
    obtain ⟨e12, h⟩ := h
    replace h := zbE h
    obtain ⟨G14, e13, h⟩ := h
    refine j_cont (zrV (As := [vR r9, vI 0]) msX7_56 (yX7_goThrough_ok e13) (Nat.le_trans (Nat.le_of_ble_eq_true rfl) hd) (zk_7 _ e12) rfl rfl (Nat.le_of_ble_eq_true rfl) dX7_findFirst_40) ?_
    refine j_iload_n (j := 2) dX7_findFirst_43 rfl rfl ?_
    refine j_aload_n (j := 1) dX7_findFirst_44 rfl rfl ?_
    replace h := zbE h
    obtain ⟨r15, e16, h⟩ := h
    refine j_getR fgX7_11 (fun _ _ _ => rfl) dX7_findFirst_45 e16 ?_
    refine j_aload_n (j := 0) dX7_findFirst_48 rfl rfl ?_
    replace h := zbE h
    obtain ⟨a17, e18, h⟩ := h
    subst e18
    replace h := zbE h
    obtain ⟨v19, e20, h⟩ := h
    refine j_getI fgX7_60 (fun _ _ _ => rfl) dX7_findFirst_49 e20 ?_
    refine j_bipush (v := 20) dX7_findFirst_52 (by decide) ?_
    refine j_isub dX7_findFirst_54 ?_
    replace h := zbE h
    obtain ⟨a21, e22, h⟩ := h
    subst e22
    replace h := zbE h
    obtain ⟨r23, e24, h⟩ := h
    refine j_aald (Or.inr (Or.inl rfl)) e24 dX7_findFirst_55 ?_
    refine j_aload_n (j := 1) dX7_findFirst_56 rfl rfl ?_
    replace h := zbE h
    obtain ⟨r25, e26, h⟩ := h
    refine j_getR fgX7_21 (fun _ _ _ => rfl) dX7_findFirst_57 e26 ?_
    replace h := zbE h
    obtain ⟨a27, e28, h⟩ := h
    subst e28
    replace h := zkE h
    obtain ⟨e29, h⟩ := h
    replace h := zb2E h
    obtain ⟨v31, G32, e30, h⟩ := h
    refine j_cont (zrV (As := [vR r25]) msX7_105 (yX8_addAll_ok e30) (Nat.le_trans (Nat.le_of_ble_eq_true rfl) hd) (zk_8 _ e29) rfl rfl (Nat.le_of_ble_eq_true rfl) dX7_findFirst_60) ?_
    refine j_ior dX7_findFirst_63 ?_
    refine j_istore_n (lv' := [(1, vI (x1 ||| v31)), (3, vR (some a17)), (0, vR (some t)), (2, vR (some a1))]) dX7_findFirst_64 rfl (Nat.le_of_ble_eq_true rfl) rfl ?_
    refine j_goto (tgt := 18) dX7_findFirst_65 (by decide) ?_
    obtain rfl := Option.some.inj h
    exact J.sub (zall [2, 0, 3] rfl) hk
theorem wflX7_findFirst_18 {F : zF} (hd : 6 ≤ F.2.2.2) (t : Nat) (x1 : Int32) (x2 : Option Nat) (G : GS) {a : (Int32 × GS) ⊕ (GS)} (h : flX7_findFirst_18 t x1 x2 G = some a) (hk : (zcase (fun s : Int32 × GS => J mX7_findFirst F s.2 2 [(0, vR (some t)), (1, vI s.1)] []) (zKV F)) a) : J mX7_findFirst F G 18 [(0, vR (some t)), (1, vI x1), (2, vR x2)] [] := by
  unfold flX7_findFirst_18 at h
  exact zloop_walk (P := (fun s : Int32 × GS => J mX7_findFirst F s.2 18 [(0, vR (some t)), (1, vI s.1), (2, vR x2)] [])) (fun s b e hk => wfbX7_findFirst_18 hd t s.1 x2 s.2 e hk) (x1, G) _ h hk
def fbX7_findFirst_2 (t : Nat) (x1 : Int32)  (G : GS) : Option ((Int32 × GS) ⊕ (GS)) :=
  if x1 = 0 then (zo (some G)) else ((zgR G 7 t 0).bind fun r2 => r2.bind fun a4 => zk [12] G a4 <| zb2 (fJ2_iterator_0 a4 G) fun r8 G9 => flX7_findFirst_18 t 0 r8 G9)
def flX7_findFirst_2 (t : Nat) (x1 : Int32) (G : GS) : Option (GS) := zloop (fun s : Int32 × GS => fbX7_findFirst_2 t s.1 s.2) (x1, G)
theorem wfbX7_findFirst_2 {F : zF} (hd : 6 ≤ F.2.2.2) (t : Nat) (x1 : Int32) (G : GS) {a : (Int32 × GS) ⊕ (GS)} (h : fbX7_findFirst_2 t x1 G = some a) (hk : (zcase (fun s : Int32 × GS => J mX7_findFirst F s.2 2 [(0, vR (some t)), (1, vI s.1)] []) (zKV F)) a) : J mX7_findFirst F G 2 [(0, vR (some t)), (1, vI x1)] [] := by
  unfold fbX7_findFirst_2 at h
  refine j_iload_n (j := 1) dX7_findFirst_2 rfl rfl ?_
  refine j_if_eq (tgt := 71) dX7_findFirst_3 (by decide) (fun c1 => ?_) (fun c1 => ?_)
  · rw [if_pos c1] at h
    replace h := zoE h
    obtain ⟨a, h, rfl⟩ := h
    replace hk := hk
    obtain rfl := Option.some.inj h
    exact j_vret hk.1 hk.2 rfl dX7_findFirst_71
  · rw [if_neg c1] at h
    refine j_iconst (v := 0) dX7_findFirst_6 (by decide) ?_
    refine j_istore_n (lv' := [(1, vI 0), (0, vR (some t))]) dX7_findFirst_7 rfl (Nat.le_of_ble_eq_true rfl) rfl ?_
    refine j_aload_n (j := 1) dX7_findFirst_8 rfl rfl ?_
    replace h := zbE h
    obtain ⟨r2, e3, h⟩ := h
    refine j_getR fgX7_31 (fun _ _ _ => rfl) dX7_findFirst_9 e3 ?_
    replace h := zbE h
    obtain ⟨a4, e5, h⟩ := h
    subst e5
    replace h := zkE h
    obtain ⟨e6, h⟩ := h
    replace h := zb2E h
    obtain ⟨r8, G9, e7, h⟩ := h
    refine j_cont (zrF (As := []) msX7_92_J2 (yJ2_iterator_ok e7) (Nat.le_trans (Nat.le_of_ble_eq_true rfl) hd) (zk_12 _ e6) rfl rfl (Nat.le_of_ble_eq_true rfl) dX7_findFirst_12) ?_
    refine j_astore_n (lv' := [(2, vR r8), (1, vI 0), (0, vR (some t))]) dX7_findFirst_17 rfl (Nat.le_of_ble_eq_true rfl) rfl ?_
    exact J.sub (zall [2, 1, 0] rfl) (wflX7_findFirst_18 hd t 0 r8  G9 h hk)
theorem wflX7_findFirst_2 {F : zF} (hd : 6 ≤ F.2.2.2) (t : Nat) (x1 : Int32) (G : GS) {a : GS} (h : flX7_findFirst_2 t x1 G = some a) (hk : zKV F a) : J mX7_findFirst F G 2 [(0, vR (some t)), (1, vI x1)] [] := by
  unfold flX7_findFirst_2 at h
  exact zloop_walk (P := (fun s : Int32 × GS => J mX7_findFirst F s.2 2 [(0, vR (some t)), (1, vI s.1)] [])) (fun s b e hk => wfbX7_findFirst_2 hd t s.1 s.2 e hk) (x1, G) _ h hk
def fX7_findFirst_0 (t : Nat)  (G : GS) : Option (GS) :=
  flX7_findFirst_2 t 1 G
theorem wfX7_findFirst_0 {F : zF} (hd : 6 ≤ F.2.2.2) (t : Nat)  (G : GS) {a : GS} (h : fX7_findFirst_0 t  G = some a) (hk : zKV F a) : J mX7_findFirst F G 0 [(0, vR (some t))] [] := by
  unfold fX7_findFirst_0 at h
  refine j_iconst (v := 1) dX7_findFirst_0 (by decide) ?_
  refine j_istore_n (lv' := [(1, vI 1), (0, vR (some t))]) dX7_findFirst_1 rfl (Nat.le_of_ble_eq_true rfl) rfl ?_
  exact J.sub (zall [1, 0] rfl) (wflX7_findFirst_2 hd t 1  G h hk)
theorem yX7_findFirst_ok {t : Nat} {G : GS} {G1 : GS} (h : fX7_findFirst_0 t G = some G1) : zRuns yX7_findFirst (ws_ yX7_findFirst cX7_findFirst 4 none) [vR (some t)] (.inl none, G, G1, 6) :=
  zentry (M := mX7_findFirst) (plainFor_of_name (by decide +kernel)) ⟨rfl, rfl, rfl, rfl⟩ (Nat.le_of_ble_eq_true rfl) (wfX7_findFirst_0 (Nat.le_refl _) t G h ⟨rfl, rfl⟩)
abbrev mX8_keepPairs : zM := (cX8_keepPairs, RX8, 2, none, "keepPairs", [], "()V")
def fbX8_keepPairs_2 (t : Nat) (x1 : Int32)  (G : GS) : Option ((Int32 × GS) ⊕ (GS)) :=
  if 14 ≤ x1 then (zo (some G)) else ((zgR G 8 t 0).bind fun r2 => r2.bind fun a4 => (zaL G 51 a4 (0 : Int32)).bind fun l6 => (zsL G 51 a4 (0 : Int32) (l6 &&& (((1 : Int64) <<< (x1.toInt64 &&& 63)) ^^^ -1))).bind fun G8 => some (.inl ((x1 + 1), G8)))
def flX8_keepPairs_2 (t : Nat) (x1 : Int32) (G : GS) : Option (GS) := zloop (fun s : Int32 × GS => fbX8_keepPairs_2 t s.1 s.2) (x1, G)
theorem wfbX8_keepPairs_2 {F : zF} (hd : 1 ≤ F.2.2.2) (t : Nat) (x1 : Int32) (G : GS) {a : (Int32 × GS) ⊕ (GS)} (h : fbX8_keepPairs_2 t x1 G = some a) (hk : (zcase (fun s : Int32 × GS => J mX8_keepPairs F s.2 2 [(0, vR (some t)), (1, vI s.1)] []) (zKV F)) a) : J mX8_keepPairs F G 2 [(0, vR (some t)), (1, vI x1)] [] := by
  unfold fbX8_keepPairs_2 at h
  refine j_iload_n (j := 1) dX8_keepPairs_2 rfl rfl ?_
  refine j_bipush (v := 14) dX8_keepPairs_3 (by decide) ?_
  refine j_icmp_ge (tgt := 30) dX8_keepPairs_5 (by decide) (fun c1 => ?_) (fun c1 => ?_)
  · rw [if_pos c1] at h
    replace h := zoE h
    obtain ⟨a, h, rfl⟩ := h
    replace hk := hk
    obtain rfl := Option.some.inj h
    exact j_vret hk.1 hk.2 rfl dX8_keepPairs_30
  · rw [if_neg c1] at h
    refine j_aload_n (j := 0) dX8_keepPairs_8 rfl rfl ?_
    replace h := zbE h
    obtain ⟨r2, e3, h⟩ := h
    refine j_getR fgX8_9 (fun _ _ _ => rfl) dX8_keepPairs_9 e3 ?_
    refine j_iconst (v := 0) dX8_keepPairs_12 (by decide) ?_
    refine j_dup2_11 dX8_keepPairs_13 rfl rfl ?_
    replace h := zbE h
    obtain ⟨a4, e5, h⟩ := h
    subst e5
    replace h := zbE h
    obtain ⟨l6, e7, h⟩ := h
    refine j_lald rfl e7 dX8_keepPairs_14 ?_
    refine j_lconst (v := 1) dX8_keepPairs_15 rfl ?_
    refine j_iload_n (j := 1) dX8_keepPairs_16 rfl rfl ?_
    refine j_lshl dX8_keepPairs_17 ?_
    refine j_ldc2 (v := -1) q1394 dX8_keepPairs_18 ?_
    refine j_lxor dX8_keepPairs_21 ?_
    refine j_land dX8_keepPairs_22 ?_
    replace h := zbE h
    obtain ⟨G8, e9, h⟩ := h
    refine j_last e9 dX8_keepPairs_23 ?_
    refine j_iinc (j := 1) (v := (x1 + 1)) (lv' := [(1, vI (x1 + 1)), (0, vR (some t))]) dX8_keepPairs_24 rfl rfl (Nat.le_of_ble_eq_true rfl) rfl ?_
    refine j_goto (tgt := 2) dX8_keepPairs_27 (by decide) ?_
    obtain rfl := Option.some.inj h
    exact J.sub (zall [1, 0] rfl) hk
theorem wflX8_keepPairs_2 {F : zF} (hd : 1 ≤ F.2.2.2) (t : Nat) (x1 : Int32) (G : GS) {a : GS} (h : flX8_keepPairs_2 t x1 G = some a) (hk : zKV F a) : J mX8_keepPairs F G 2 [(0, vR (some t)), (1, vI x1)] [] := by
  unfold flX8_keepPairs_2 at h
  exact zloop_walk (P := (fun s : Int32 × GS => J mX8_keepPairs F s.2 2 [(0, vR (some t)), (1, vI s.1)] [])) (fun s b e hk => wfbX8_keepPairs_2 hd t s.1 s.2 e hk) (x1, G) _ h hk
def fX8_keepPairs_0 (t : Nat)  (G : GS) : Option (GS) :=
  flX8_keepPairs_2 t 0 G
theorem wfX8_keepPairs_0 {F : zF} (hd : 1 ≤ F.2.2.2) (t : Nat)  (G : GS) {a : GS} (h : fX8_keepPairs_0 t  G = some a) (hk : zKV F a) : J mX8_keepPairs F G 0 [(0, vR (some t))] [] := by
  unfold fX8_keepPairs_0 at h
  refine j_iconst (v := 0) dX8_keepPairs_0 (by decide) ?_
  refine j_istore_n (lv' := [(1, vI 0), (0, vR (some t))]) dX8_keepPairs_1 rfl (Nat.le_of_ble_eq_true rfl) rfl ?_
  exact J.sub (zall [1, 0] rfl) (wflX8_keepPairs_2 hd t 0  G h hk)
theorem yX8_keepPairs_ok {t : Nat} {G : GS} {G1 : GS} (h : fX8_keepPairs_0 t G = some G1) : zRuns yX8_keepPairs (ws_ yX8_keepPairs cX8_keepPairs 2 none) [vR (some t)] (.inl none, G, G1, 1) :=
  zentry (M := mX8_keepPairs) (plainFor_of_name (by decide +kernel)) ⟨rfl, rfl, rfl, rfl⟩ (Nat.le_of_ble_eq_true rfl) (wfX8_keepPairs_0 (Nat.le_refl _) t G h ⟨rfl, rfl⟩)
theorem fgX7_17 : zFG RX7 17 6 2 (.array (.object "SelahGenerator$Strings")) := ⟨(RX7, TX7, 7, tyX7), rfl, by decide, in_X7, rfl, "SelahGenerator$Pairs", Or.inl rfl, Or.inl q1413⟩
theorem msX7_71 : zSV RX7 71 RX8 yX8_keepPairs cX8_keepPairs 2 none 0 := ⟨lw_V q1405 q1406 q1407 q169 q1408, (by decide +kernel), (by decide)⟩
abbrev mX7_followIn : zM := (cX7_followIn, RX7, 3, (some Jvm.ClassFile.FieldType.boolean), "followIn", [], "(LSelahGenerator$Rule;I)Z")
def fX7_followIn_0 (t : Nat) (x1 : Option Nat) (x2 : Int32)  (G : GS) : Option ((Int32) × GS) :=
  zk [7] G t <| (fX7_goThrough_0 t x1 (x2 + 1) G).bind fun G3 => (zgR G3 7 t 2).bind fun r4 => x1.bind fun a6 => (zgI G3 3 a6 0).bind fun v8 => r4.bind fun a10 => (zaR G3 55 a10 (v8 - 20)).bind fun r12 => zk [7] G3 t <| (fX7_goOn_0 t r12 G3).bind fun G16 => (zgR G16 7 t 4).bind fun r17 => r17.bind fun a19 => zk [8] G16 a19 <| (fX8_keepPairs_0 a19 G16).bind fun G23 => (zgR G23 7 t 2).bind fun r24 => (zgR G23 3 a6 1).bind fun r26 => r26.bind fun a28 => (zaI G23 50 a28 x2).bind fun v30 => r24.bind fun a32 => (zaR G23 55 a32 (v30 - 20)).bind fun r34 => (zgR G23 7 t 4).bind fun r36 => r34.bind fun a38 => zk [8] G23 a38 <| zb2 (fX8_addAll_0 a38 r36 G23) fun v42 G43 => zcond (zbb v42) (some (v42, G43))
theorem wfX7_followIn_0 {F : zF} (hd : 6 ≤ F.2.2.2) (t : Nat) (x1 : Option Nat) (x2 : Int32)  (G : GS) {a : (Int32) × GS} (h : fX7_followIn_0 t x1 x2  G = some a) (hk : zKI F a) : J mX7_followIn F G 0 [(0, vR (some t)), (1, vR x1), (2, vI x2)] [] := by
  unfold fX7_followIn_0 at h
  refine j_aload_n (j := 0) dX7_followIn_0 rfl rfl ?_
  refine j_aload_n (j := 1) dX7_followIn_1 rfl rfl ?_
  refine j_iload_n (j := 2) dX7_followIn_2 rfl rfl ?_
  refine j_iconst (v := 1) dX7_followIn_3 (by decide) ?_
  refine j_iadd dX7_followIn_4 ?_
  replace h := zkE h
  obtain ⟨e1, h⟩ := h
  replace h := zbE h
  obtain ⟨G3, e2, h⟩ := h
  refine j_cont (zrV (As := [vR x1, vI (x2 + 1)]) msX7_56 (yX7_goThrough_ok e2) (Nat.le_trans (Nat.le_of_ble_eq_true rfl) hd) (zk_7 _ e1) rfl rfl (Nat.le_of_ble_eq_true rfl) dX7_followIn_5) ?_
  refine j_aload_n (j := 0) dX7_followIn_8 rfl rfl ?_
  refine j_aload_n (j := 0) dX7_followIn_9 rfl rfl ?_
  replace h := zbE h
  obtain ⟨r4, e5, h⟩ := h
  refine j_getR fgX7_17 (fun _ _ _ => rfl) dX7_followIn_10 e5 ?_
  refine j_aload_n (j := 1) dX7_followIn_13 rfl rfl ?_
  replace h := zbE h
  obtain ⟨a6, e7, h⟩ := h
  subst e7
  replace h := zbE h
  obtain ⟨v8, e9, h⟩ := h
  refine j_getI fgX7_60 (fun _ _ _ => rfl) dX7_followIn_14 e9 ?_
  refine j_bipush (v := 20) dX7_followIn_17 (by decide) ?_
  refine j_isub dX7_followIn_19 ?_
  replace h := zbE h
  obtain ⟨a10, e11, h⟩ := h
  subst e11
  replace h := zbE h
  obtain ⟨r12, e13, h⟩ := h
  refine j_aald (Or.inr (Or.inl rfl)) e13 dX7_followIn_20 ?_
  replace h := zkE h
  obtain ⟨e14, h⟩ := h
  replace h := zbE h
  obtain ⟨G16, e15, h⟩ := h
  refine j_cont (zrV (As := [vR r12]) msX7_64 (yX7_goOn_ok e15) (Nat.le_trans (Nat.le_of_ble_eq_true rfl) hd) (zk_7 _ e14) rfl rfl (Nat.le_of_ble_eq_true rfl) dX7_followIn_21) ?_
  refine j_aload_n (j := 0) dX7_followIn_24 rfl rfl ?_
  replace h := zbE h
  obtain ⟨r17, e18, h⟩ := h
  refine j_getR fgX7_21 (fun _ _ _ => rfl) dX7_followIn_25 e18 ?_
  replace h := zbE h
  obtain ⟨a19, e20, h⟩ := h
  subst e20
  replace h := zkE h
  obtain ⟨e21, h⟩ := h
  replace h := zbE h
  obtain ⟨G23, e22, h⟩ := h
  refine j_cont (zrV (As := []) msX7_71 (yX8_keepPairs_ok e22) (Nat.le_trans (Nat.le_of_ble_eq_true rfl) hd) (zk_8 _ e21) rfl rfl (Nat.le_of_ble_eq_true rfl) dX7_followIn_28) ?_
  refine j_aload_n (j := 0) dX7_followIn_31 rfl rfl ?_
  replace h := zbE h
  obtain ⟨r24, e25, h⟩ := h
  refine j_getR fgX7_17 (fun _ _ _ => rfl) dX7_followIn_32 e25 ?_
  refine j_aload_n (j := 1) dX7_followIn_35 rfl rfl ?_
  replace h := zbE h
  obtain ⟨r26, e27, h⟩ := h
  refine j_getR fgX7_84 (fun _ _ _ => rfl) dX7_followIn_36 e27 ?_
  refine j_iload_n (j := 2) dX7_followIn_39 rfl rfl ?_
  replace h := zbE h
  obtain ⟨a28, e29, h⟩ := h
  subst e29
  replace h := zbE h
  obtain ⟨v30, e31, h⟩ := h
  refine j_iald (Or.inl rfl) e31 dX7_followIn_40 ?_
  refine j_bipush (v := 20) dX7_followIn_41 (by decide) ?_
  refine j_isub dX7_followIn_43 ?_
  replace h := zbE h
  obtain ⟨a32, e33, h⟩ := h
  subst e33
  replace h := zbE h
  obtain ⟨r34, e35, h⟩ := h
  refine j_aald (Or.inr (Or.inl rfl)) e35 dX7_followIn_44 ?_
  refine j_aload_n (j := 0) dX7_followIn_45 rfl rfl ?_
  replace h := zbE h
  obtain ⟨r36, e37, h⟩ := h
  refine j_getR fgX7_21 (fun _ _ _ => rfl) dX7_followIn_46 e37 ?_
  replace h := zbE h
  obtain ⟨a38, e39, h⟩ := h
  subst e39
  replace h := zkE h
  obtain ⟨e40, h⟩ := h
  replace h := zb2E h
  obtain ⟨v42, G43, e41, h⟩ := h
  refine j_cont (zrV (As := [vR r36]) msX7_105 (yX8_addAll_ok e41) (Nat.le_trans (Nat.le_of_ble_eq_true rfl) hd) (zk_8 _ e40) rfl rfl (Nat.le_of_ble_eq_true rfl) dX7_followIn_49) ?_
  replace h := zcondE h
  obtain ⟨e44, h⟩ := h
  obtain rfl := Option.some.inj h
  exact j_zret hk.1 hk.2 rfl (zbb_n e44) dX7_followIn_52
theorem yX7_followIn_ok {t : Nat} {x1 : Option Nat} {x2 : Int32} {G : GS} {r : Int32} {G1 : GS} (h : fX7_followIn_0 t x1 x2 G = some (r, G1)) : zRuns yX7_followIn (ws_ yX7_followIn cX7_followIn 3 (some Jvm.ClassFile.FieldType.boolean)) [vR (some t), vR x1, vI x2] (.inl (some (vI r)), G, G1, 6) :=
  zentry (M := mX7_followIn) (plainFor_of_name (by decide +kernel)) ⟨rfl, rfl, rfl, rfl⟩ (Nat.le_of_ble_eq_true rfl) (wfX7_followIn_0 (Nat.le_refl _) t x1 x2 G h ⟨rfl, rfl⟩)
theorem msX7_109 : zSS RX7 109 yX8_pair cX8_pair 2 (some Jvm.ClassFile.FieldType.int) 2 := ⟨lw_S q1400 q1384 q169 q1385, (by decide +kernel), (by decide)⟩
theorem msX7_113 : zSV RX7 113 RX7 yX7_followIn cX7_followIn 3 (some Jvm.ClassFile.FieldType.boolean) 2 := ⟨lw_V q1401 q1403 qs25 q168 q1404, (by decide +kernel), (by decide)⟩
abbrev mX7_findFollow : zM := (cX7_findFollow, RX7, 5, none, "findFollow", [], "()V")
def fX7_findFollow_98 (t : Nat) (x1 : Int32)  (G : GS) : Option ((Int32 × GS) ⊕ (GS)) :=
  some (.inl (x1, G))
theorem wfX7_findFollow_98 {F : zF} (hd : 7 ≤ F.2.2.2) (t : Nat) (x1 : Int32)  (G : GS) {a : (Int32 × GS) ⊕ (GS)} (h : fX7_findFollow_98 t x1  G = some a) (hk : (zcase (fun s : Int32 × GS => J mX7_findFollow F s.2 18 [(0, vR (some t)), (1, vI s.1)] []) (zKV F)) a) : J mX7_findFollow F G 98 [(0, vR (some t)), (1, vI x1)] [] := by
  unfold fX7_findFollow_98 at h
  refine j_goto (tgt := 18) dX7_findFollow_98 (by decide) ?_
  obtain rfl := Option.some.inj h
  exact J.sub (zall [0, 1] rfl) hk
def fX7_findFollow_95 (t : Nat) (x1 : Int32) (x2 : Option Nat)  (G : GS) : Option ((Int32 × GS) ⊕ ((Int32 × GS) ⊕ (GS))) :=
  some (.inl (x1, G))
theorem wfX7_findFollow_95 {F : zF} (hd : 7 ≤ F.2.2.2) (t : Nat) (x1 : Int32) (x2 : Option Nat)  (G : GS) {a : (Int32 × GS) ⊕ ((Int32 × GS) ⊕ (GS))} (h : fX7_findFollow_95 t x1 x2  G = some a) (hk : (zcase (fun s : Int32 × GS => J mX7_findFollow F s.2 34 [(0, vR (some t)), (1, vI s.1), (2, vR x2)] []) ((zcase (fun s : Int32 × GS => J mX7_findFollow F s.2 18 [(0, vR (some t)), (1, vI s.1)] []) (zKV F)))) a) : J mX7_findFollow F G 95 [(0, vR (some t)), (1, vI x1), (2, vR x2)] [] := by
  unfold fX7_findFollow_95 at h
  refine j_goto (tgt := 34) dX7_findFollow_95 (by decide) ?_
  obtain rfl := Option.some.inj h
  exact J.sub (zall [0, 1, 2] rfl) hk
def fX7_findFollow_89 (t : Nat) (x1 : Int32) (x2 : Option Nat) (x3 : Option Nat) (x4 : Int32)  (G : GS) : Option ((Int32 × Int32 × GS) ⊕ ((Int32 × GS) ⊕ ((Int32 × GS) ⊕ (GS)))) :=
  some (.inl (x1, (x4 + 1), G))
theorem wfX7_findFollow_89 {F : zF} (hd : 7 ≤ F.2.2.2) (t : Nat) (x1 : Int32) (x2 : Option Nat) (x3 : Option Nat) (x4 : Int32)  (G : GS) {a : (Int32 × Int32 × GS) ⊕ ((Int32 × GS) ⊕ ((Int32 × GS) ⊕ (GS)))} (h : fX7_findFollow_89 t x1 x2 x3 x4  G = some a) (hk : (zcase (fun s : Int32 × Int32 × GS => J mX7_findFollow F s.2.2 56 [(0, vR (some t)), (1, vI s.1), (2, vR x2), (3, vR x3), (4, vI s.2.1)] []) ((zcase (fun s : Int32 × GS => J mX7_findFollow F s.2 34 [(0, vR (some t)), (1, vI s.1), (2, vR x2)] []) ((zcase (fun s : Int32 × GS => J mX7_findFollow F s.2 18 [(0, vR (some t)), (1, vI s.1)] []) (zKV F)))))) a) : J mX7_findFollow F G 89 [(0, vR (some t)), (1, vI x1), (2, vR x2), (3, vR x3), (4, vI x4)] [] := by
  unfold fX7_findFollow_89 at h
  refine j_iinc (j := 4) (v := (x4 + 1)) (lv' := [(4, vI (x4 + 1)), (0, vR (some t)), (1, vI x1), (2, vR x2), (3, vR x3)]) dX7_findFollow_89 rfl rfl (Nat.le_of_ble_eq_true rfl) rfl ?_
  refine j_goto (tgt := 56) dX7_findFollow_92 (by decide) ?_
  obtain rfl := Option.some.inj h
  exact J.sub (zall [1, 2, 3, 4, 0] rfl) hk
def fbX7_findFollow_56 (t : Nat) (x1 : Int32) (x2 : Option Nat) (x3 : Option Nat) (x4 : Int32)  (G : GS) : Option ((Int32 × Int32 × GS) ⊕ ((Int32 × GS) ⊕ ((Int32 × GS) ⊕ (GS)))) :=
  x3.bind fun a1 => (zgR G 3 a1 1).bind fun r3 => r3.bind fun a5 => (zln G a5).bind fun v7 => if v7 ≤ x4 then (zo (fX7_findFollow_95 t x1 x2 G)) else ((zgR G 3 a1 1).bind fun r10 => r10.bind fun a12 => (zaI G 50 a12 x4).bind fun v14 => (fX1_isNonterminal_0 v14 G).bind fun v17 => if v17 = 0 then (fX7_findFollow_89 t x1 x2 (some a1) x4 G) else (zk [7] G t <| zb2 (fX7_followIn_0 t (some a1) x4 G) fun v21 G22 => fX7_findFollow_89 t (x1 ||| v21) x2 (some a1) x4 G22))
def flX7_findFollow_56 (t : Nat) (x1 : Int32) (x2 : Option Nat) (x3 : Option Nat) (x4 : Int32) (G : GS) : Option ((Int32 × GS) ⊕ ((Int32 × GS) ⊕ (GS))) := zloop (fun s : Int32 × Int32 × GS => fbX7_findFollow_56 t s.1 x2 x3 s.2.1 s.2.2) (x1, x4, G)
theorem wfbX7_findFollow_56 {F : zF} (hd : 7 ≤ F.2.2.2) (t : Nat) (x1 : Int32) (x2 : Option Nat) (x3 : Option Nat) (x4 : Int32) (G : GS) {a : (Int32 × Int32 × GS) ⊕ ((Int32 × GS) ⊕ ((Int32 × GS) ⊕ (GS)))} (h : fbX7_findFollow_56 t x1 x2 x3 x4 G = some a) (hk : (zcase (fun s : Int32 × Int32 × GS => J mX7_findFollow F s.2.2 56 [(0, vR (some t)), (1, vI s.1), (2, vR x2), (3, vR x3), (4, vI s.2.1)] []) ((zcase (fun s : Int32 × GS => J mX7_findFollow F s.2 34 [(0, vR (some t)), (1, vI s.1), (2, vR x2)] []) ((zcase (fun s : Int32 × GS => J mX7_findFollow F s.2 18 [(0, vR (some t)), (1, vI s.1)] []) (zKV F)))))) a) : J mX7_findFollow F G 56 [(0, vR (some t)), (1, vI x1), (2, vR x2), (3, vR x3), (4, vI x4)] [] := by
  unfold fbX7_findFollow_56 at h
  refine j_iload (j := 4) dX7_findFollow_56 rfl ?_
  refine j_aload_n (j := 3) dX7_findFollow_58 rfl rfl ?_
  replace h := zbE h
  obtain ⟨a1, e2, h⟩ := h
  subst e2
  replace h := zbE h
  obtain ⟨r3, e4, h⟩ := h
  refine j_getR fgX7_84 (fun _ _ _ => rfl) dX7_findFollow_59 e4 ?_
  replace h := zbE h
  obtain ⟨a5, e6, h⟩ := h
  subst e6
  replace h := zbE h
  obtain ⟨v7, e8, h⟩ := h
  refine j_alen e8 dX7_findFollow_62 ?_
  refine j_icmp_ge (tgt := 95) dX7_findFollow_63 (by decide) (fun c9 => ?_) (fun c9 => ?_)
  · rw [if_pos c9] at h
    replace h := zoE h
    obtain ⟨a, h, rfl⟩ := h
    replace hk := hk
    exact J.sub (zall [0, 1, 2] rfl) (wfX7_findFollow_95 hd t x1 x2  G h hk)
  · rw [if_neg c9] at h
    refine j_aload_n (j := 3) dX7_findFollow_66 rfl rfl ?_
    replace h := zbE h
    obtain ⟨r10, e11, h⟩ := h
    refine j_getR fgX7_84 (fun _ _ _ => rfl) dX7_findFollow_67 e11 ?_
    refine j_iload (j := 4) dX7_findFollow_70 rfl ?_
    replace h := zbE h
    obtain ⟨a12, e13, h⟩ := h
    subst e13
    replace h := zbE h
    obtain ⟨v14, e15, h⟩ := h
    refine j_iald (Or.inl rfl) e15 dX7_findFollow_72 ?_
    replace h := zbE h
    obtain ⟨v17, e16, h⟩ := h
    refine j_cont (zrSN (As := [vI v14]) msX7_88 q401 (yX1_isNonterminal_ok e16) (Nat.le_trans (Nat.le_of_ble_eq_true rfl) hd) rfl rfl (Nat.le_of_ble_eq_true rfl) dX7_findFollow_73) ?_
    refine j_if_eq (tgt := 89) dX7_findFollow_76 (by decide) (fun c18 => ?_) (fun c18 => ?_)
    · rw [if_pos c18] at h
      exact J.sub (zall [0, 1, 2, 3, 4] rfl) (wfX7_findFollow_89 hd t x1 x2 (some a1) x4  G h hk)
    · rw [if_neg c18] at h
      refine j_iload_n (j := 1) dX7_findFollow_79 rfl rfl ?_
      refine j_aload_n (j := 0) dX7_findFollow_80 rfl rfl ?_
      refine j_aload_n (j := 3) dX7_findFollow_81 rfl rfl ?_
      refine j_iload (j := 4) dX7_findFollow_82 rfl ?_
      replace h := zkE h
      obtain ⟨e19, h⟩ := h
      replace h := zb2E h
      obtain ⟨v21, G22, e20, h⟩ := h
      refine j_cont (zrV (As := [vR (some a1), vI x4]) msX7_113 (yX7_followIn_ok e20) (Nat.le_trans (Nat.le_of_ble_eq_true rfl) hd) (zk_7 _ e19) rfl rfl (Nat.le_of_ble_eq_true rfl) dX7_findFollow_84) ?_
      refine j_ior dX7_findFollow_87 ?_
      refine j_istore_n (lv' := [(1, vI (x1 ||| v21)), (0, vR (some t)), (2, vR x2), (3, vR (some a1)), (4, vI x4)]) dX7_findFollow_88 rfl (Nat.le_of_ble_eq_true rfl) rfl ?_
      exact J.sub (zall [1, 0, 2, 3, 4] rfl) (wfX7_findFollow_89 hd t (x1 ||| v21) x2 (some a1) x4  G22 h hk)
theorem wflX7_findFollow_56 {F : zF} (hd : 7 ≤ F.2.2.2) (t : Nat) (x1 : Int32) (x2 : Option Nat) (x3 : Option Nat) (x4 : Int32) (G : GS) {a : (Int32 × GS) ⊕ ((Int32 × GS) ⊕ (GS))} (h : flX7_findFollow_56 t x1 x2 x3 x4 G = some a) (hk : (zcase (fun s : Int32 × GS => J mX7_findFollow F s.2 34 [(0, vR (some t)), (1, vI s.1), (2, vR x2)] []) ((zcase (fun s : Int32 × GS => J mX7_findFollow F s.2 18 [(0, vR (some t)), (1, vI s.1)] []) (zKV F)))) a) : J mX7_findFollow F G 56 [(0, vR (some t)), (1, vI x1), (2, vR x2), (3, vR x3), (4, vI x4)] [] := by
  unfold flX7_findFollow_56 at h
  exact zloop_walk (P := (fun s : Int32 × Int32 × GS => J mX7_findFollow F s.2.2 56 [(0, vR (some t)), (1, vI s.1), (2, vR x2), (3, vR x3), (4, vI s.2.1)] [])) (fun s b e hk => wfbX7_findFollow_56 hd t s.1 x2 x3 s.2.1 s.2.2 e hk) (x1, x4, G) _ h hk
def fbX7_findFollow_34 (t : Nat) (x1 : Int32) (x2 : Option Nat)  (G : GS) : Option ((Int32 × GS) ⊕ ((Int32 × GS) ⊕ (GS))) :=
  x2.bind fun a1 => zk [13] G a1 <| (fJ19_hasNext_0 a1 G).bind fun v5 => if v5 = 0 then (zo (fX7_findFollow_98 t x1 G)) else (zk [13] G a1 <| zb2 (fJ19_next_0 a1 G) fun r9 G10 => zkq [3] G10 r9 (flX7_findFollow_56 t x1 (some a1) r9 0 G10))
def flX7_findFollow_34 (t : Nat) (x1 : Int32) (x2 : Option Nat) (G : GS) : Option ((Int32 × GS) ⊕ (GS)) := zloop (fun s : Int32 × GS => fbX7_findFollow_34 t s.1 x2 s.2) (x1, G)
theorem wfbX7_findFollow_34 {F : zF} (hd : 7 ≤ F.2.2.2) (t : Nat) (x1 : Int32) (x2 : Option Nat) (G : GS) {a : (Int32 × GS) ⊕ ((Int32 × GS) ⊕ (GS))} (h : fbX7_findFollow_34 t x1 x2 G = some a) (hk : (zcase (fun s : Int32 × GS => J mX7_findFollow F s.2 34 [(0, vR (some t)), (1, vI s.1), (2, vR x2)] []) ((zcase (fun s : Int32 × GS => J mX7_findFollow F s.2 18 [(0, vR (some t)), (1, vI s.1)] []) (zKV F)))) a) : J mX7_findFollow F G 34 [(0, vR (some t)), (1, vI x1), (2, vR x2)] [] := by
  unfold fbX7_findFollow_34 at h
  refine j_aload_n (j := 2) dX7_findFollow_34 rfl rfl ?_
  replace h := zbE h
  obtain ⟨a1, e2, h⟩ := h
  subst e2
  replace h := zkE h
  obtain ⟨e3, h⟩ := h
  replace h := zbE h
  obtain ⟨v5, e4, h⟩ := h
  refine j_cont (zrF (As := []) msX7_96_J19 (yJ19_hasNext_ok e4) (Nat.le_trans (Nat.le_of_ble_eq_true rfl) hd) (zk_13 _ e3) rfl rfl (Nat.le_of_ble_eq_true rfl) dX7_findFollow_35) ?_
  refine j_if_eq (tgt := 98) dX7_findFollow_40 (by decide) (fun c6 => ?_) (fun c6 => ?_)
  · rw [if_pos c6] at h
    replace h := zoE h
    obtain ⟨a, h, rfl⟩ := h
    replace hk := hk
    exact J.sub (zall [0, 1] rfl) (wfX7_findFollow_98 hd t x1  G h hk)
  · rw [if_neg c6] at h
    refine j_aload_n (j := 2) dX7_findFollow_43 rfl rfl ?_
    replace h := zkE h
    obtain ⟨e7, h⟩ := h
    replace h := zb2E h
    obtain ⟨r9, G10, e8, h⟩ := h
    refine j_cont (zrF (As := []) msX7_102_J19 (yJ19_next_ok e8) (Nat.le_trans (Nat.le_of_ble_eq_true rfl) hd) (zk_13 _ e7) rfl rfl (Nat.le_of_ble_eq_true rfl) dX7_findFollow_44) ?_
    replace h := zkqE h
    obtain ⟨e11, h⟩ := h
    refine j_castq (fun k => j_castN dX7_findFollow_49 k) (fun b q12 k => j_castS (zk_3 _ (e11 b q12)) ⟨2, _, rfl, rfl⟩ q1352 dX7_findFollow_49 k) ?_
    refine j_astore_n (lv' := [(3, vR r9), (0, vR (some t)), (1, vI x1), (2, vR (some a1))]) dX7_findFollow_52 rfl (Nat.le_of_ble_eq_true rfl) rfl ?_
    refine j_iconst (v := 0) dX7_findFollow_53 (by decide) ?_
    refine j_istore (lv' := [(4, vI 0), (3, vR r9), (0, vR (some t)), (1, vI x1), (2, vR (some a1))]) dX7_findFollow_54 (Nat.le_of_ble_eq_true rfl) rfl ?_
    exact J.sub (zall [2, 3, 4, 1, 0] rfl) (wflX7_findFollow_56 hd t x1 (some a1) r9 0  G10 h hk)
theorem wflX7_findFollow_34 {F : zF} (hd : 7 ≤ F.2.2.2) (t : Nat) (x1 : Int32) (x2 : Option Nat) (G : GS) {a : (Int32 × GS) ⊕ (GS)} (h : flX7_findFollow_34 t x1 x2 G = some a) (hk : (zcase (fun s : Int32 × GS => J mX7_findFollow F s.2 18 [(0, vR (some t)), (1, vI s.1)] []) (zKV F)) a) : J mX7_findFollow F G 34 [(0, vR (some t)), (1, vI x1), (2, vR x2)] [] := by
  unfold flX7_findFollow_34 at h
  exact zloop_walk (P := (fun s : Int32 × GS => J mX7_findFollow F s.2 34 [(0, vR (some t)), (1, vI s.1), (2, vR x2)] [])) (fun s b e hk => wfbX7_findFollow_34 hd t s.1 x2 s.2 e hk) (x1, G) _ h hk
def fbX7_findFollow_18 (t : Nat) (x1 : Int32)  (G : GS) : Option ((Int32 × GS) ⊕ (GS)) :=
  if x1 = 0 then (zo (some G)) else ((zgR G 7 t 0).bind fun r2 => r2.bind fun a4 => zk [12] G a4 <| zb2 (fJ2_iterator_0 a4 G) fun r8 G9 => flX7_findFollow_34 t 0 r8 G9)
def flX7_findFollow_18 (t : Nat) (x1 : Int32) (G : GS) : Option (GS) := zloop (fun s : Int32 × GS => fbX7_findFollow_18 t s.1 s.2) (x1, G)
theorem wfbX7_findFollow_18 {F : zF} (hd : 7 ≤ F.2.2.2) (t : Nat) (x1 : Int32) (G : GS) {a : (Int32 × GS) ⊕ (GS)} (h : fbX7_findFollow_18 t x1 G = some a) (hk : (zcase (fun s : Int32 × GS => J mX7_findFollow F s.2 18 [(0, vR (some t)), (1, vI s.1)] []) (zKV F)) a) : J mX7_findFollow F G 18 [(0, vR (some t)), (1, vI x1)] [] := by
  unfold fbX7_findFollow_18 at h
  refine j_iload_n (j := 1) dX7_findFollow_18 rfl rfl ?_
  refine j_if_eq (tgt := 101) dX7_findFollow_19 (by decide) (fun c1 => ?_) (fun c1 => ?_)
  · rw [if_pos c1] at h
    replace h := zoE h
    obtain ⟨a, h, rfl⟩ := h
    replace hk := hk
    obtain rfl := Option.some.inj h
    exact j_vret hk.1 hk.2 rfl dX7_findFollow_101
  · rw [if_neg c1] at h
    refine j_iconst (v := 0) dX7_findFollow_22 (by decide) ?_
    refine j_istore_n (lv' := [(1, vI 0), (0, vR (some t))]) dX7_findFollow_23 rfl (Nat.le_of_ble_eq_true rfl) rfl ?_
    refine j_aload_n (j := 1) dX7_findFollow_24 rfl rfl ?_
    replace h := zbE h
    obtain ⟨r2, e3, h⟩ := h
    refine j_getR fgX7_31 (fun _ _ _ => rfl) dX7_findFollow_25 e3 ?_
    replace h := zbE h
    obtain ⟨a4, e5, h⟩ := h
    subst e5
    replace h := zkE h
    obtain ⟨e6, h⟩ := h
    replace h := zb2E h
    obtain ⟨r8, G9, e7, h⟩ := h
    refine j_cont (zrF (As := []) msX7_92_J2 (yJ2_iterator_ok e7) (Nat.le_trans (Nat.le_of_ble_eq_true rfl) hd) (zk_12 _ e6) rfl rfl (Nat.le_of_ble_eq_true rfl) dX7_findFollow_28) ?_
    refine j_astore_n (lv' := [(2, vR r8), (1, vI 0), (0, vR (some t))]) dX7_findFollow_33 rfl (Nat.le_of_ble_eq_true rfl) rfl ?_
    exact J.sub (zall [2, 1, 0] rfl) (wflX7_findFollow_34 hd t 0 r8  G9 h hk)
theorem wflX7_findFollow_18 {F : zF} (hd : 7 ≤ F.2.2.2) (t : Nat) (x1 : Int32) (G : GS) {a : GS} (h : flX7_findFollow_18 t x1 G = some a) (hk : zKV F a) : J mX7_findFollow F G 18 [(0, vR (some t)), (1, vI x1)] [] := by
  unfold flX7_findFollow_18 at h
  exact zloop_walk (P := (fun s : Int32 × GS => J mX7_findFollow F s.2 18 [(0, vR (some t)), (1, vI s.1)] [])) (fun s b e hk => wfbX7_findFollow_18 hd t s.1 s.2 e hk) (x1, G) _ h hk
def fX7_findFollow_0 (t : Nat)  (G : GS) : Option (GS) :=
  (zgR G 7 t 2).bind fun r1 => r1.bind fun a3 => (zaR G 55 a3 (0 : Int32)).bind fun r5 => (fX8_pair_0 12 12 G).bind fun v8 => r5.bind fun a9 => zk [8] G a9 <| (fX8_add_0 a9 v8 G).bind fun G13 => flX7_findFollow_18 t 1 G13
theorem wfX7_findFollow_0 {F : zF} (hd : 7 ≤ F.2.2.2) (t : Nat)  (G : GS) {a : GS} (h : fX7_findFollow_0 t  G = some a) (hk : zKV F a) : J mX7_findFollow F G 0 [(0, vR (some t))] [] := by
  unfold fX7_findFollow_0 at h
  refine j_aload_n (j := 0) dX7_findFollow_0 rfl rfl ?_
  replace h := zbE h
  obtain ⟨r1, e2, h⟩ := h
  refine j_getR fgX7_17 (fun _ _ _ => rfl) dX7_findFollow_1 e2 ?_
  refine j_iconst (v := 0) dX7_findFollow_4 (by decide) ?_
  replace h := zbE h
  obtain ⟨a3, e4, h⟩ := h
  subst e4
  replace h := zbE h
  obtain ⟨r5, e6, h⟩ := h
  refine j_aald (Or.inr (Or.inl rfl)) e6 dX7_findFollow_5 ?_
  refine j_bipush (v := 12) dX7_findFollow_6 (by decide) ?_
  refine j_bipush (v := 12) dX7_findFollow_8 (by decide) ?_
  replace h := zbE h
  obtain ⟨v8, e7, h⟩ := h
  refine j_cont (zrS (As := [vI 12, vI 12]) msX7_109 (yX8_pair_ok e7) (Nat.le_trans (Nat.le_of_ble_eq_true rfl) hd) rfl rfl (Nat.le_of_ble_eq_true rfl) dX7_findFollow_10) ?_
  replace h := zbE h
  obtain ⟨a9, e10, h⟩ := h
  subst e10
  replace h := zkE h
  obtain ⟨e11, h⟩ := h
  replace h := zbE h
  obtain ⟨G13, e12, h⟩ := h
  refine j_cont (zrV (As := [vI v8]) msX7_80 (yX8_add_ok e12) (Nat.le_trans (Nat.le_of_ble_eq_true rfl) hd) (zk_8 _ e11) rfl rfl (Nat.le_of_ble_eq_true rfl) dX7_findFollow_13) ?_
  refine j_iconst (v := 1) dX7_findFollow_16 (by decide) ?_
  refine j_istore_n (lv' := [(1, vI 1), (0, vR (some t))]) dX7_findFollow_17 rfl (Nat.le_of_ble_eq_true rfl) rfl ?_
  exact J.sub (zall [1, 0] rfl) (wflX7_findFollow_18 hd t 1  G13 h hk)
theorem yX7_findFollow_ok {t : Nat} {G : GS} {G1 : GS} (h : fX7_findFollow_0 t G = some G1) : zRuns yX7_findFollow (ws_ yX7_findFollow cX7_findFollow 5 none) [vR (some t)] (.inl none, G, G1, 7) :=
  zentry (M := mX7_findFollow) (plainFor_of_name (by decide +kernel)) ⟨rfl, rfl, rfl, rfl⟩ (Nat.le_of_ble_eq_true rfl) (wfX7_findFollow_0 (Nat.le_refl _) t G h ⟨rfl, rfl⟩)
theorem fgX7_41 : zFG RX7 41 6 3 (.array (.object "SelahGenerator$Strings")) := ⟨(RX7, TX7, 7, tyX7), rfl, by decide, in_X7, rfl, "SelahGenerator$Pairs", Or.inl rfl, Or.inl q1414⟩
theorem fpX7_11_X7 : zFP RX7 11 6 1 (.array (.object "SelahGenerator$Strings")) true := ⟨(RX7, TX7, 7, tyX7), rfl, by decide, in_X7, tyX7_ok, nmX7, rfl, rfl, (by intro _; rfl), "SelahGenerator$Pairs", Or.inl rfl, q1412⟩
theorem fpX7_17_X7 : zFP RX7 17 6 2 (.array (.object "SelahGenerator$Strings")) true := ⟨(RX7, TX7, 7, tyX7), rfl, by decide, in_X7, tyX7_ok, nmX7, rfl, rfl, (by intro _; rfl), "SelahGenerator$Pairs", Or.inl rfl, q1413⟩
theorem fpX7_21_X7 : zFP RX7 21 6 4 (.object "SelahGenerator$Strings") true := ⟨(RX7, TX7, 7, tyX7), rfl, by decide, in_X7, tyX7_ok, nmX7, rfl, rfl, (by intro _; rfl), "SelahGenerator$Pairs", Or.inl rfl, q1417⟩
theorem fpX7_25_X7 : zFP RX7 25 6 5 (.object "SelahGenerator$Strings") true := ⟨(RX7, TX7, 7, tyX7), rfl, by decide, in_X7, tyX7_ok, nmX7, rfl, rfl, (by intro _; rfl), "SelahGenerator$Pairs", Or.inl rfl, q1418⟩
theorem fpX7_28_X7 : zFP RX7 28 6 6 (.object "SelahGenerator$Strings") true := ⟨(RX7, TX7, 7, tyX7), rfl, by decide, in_X7, tyX7_ok, nmX7, rfl, rfl, (by intro _; rfl), "SelahGenerator$Pairs", Or.inl rfl, q1419⟩
theorem fpX7_31_X7 : zFP RX7 31 6 0 (.object "java/util/List") true := ⟨(RX7, TX7, 7, tyX7), rfl, by decide, in_X7, tyX7_ok, nmX7, rfl, rfl, (by intro _; rfl), "SelahGenerator$Pairs", Or.inl rfl, q1411⟩
theorem fpX7_41_X7 : zFP RX7 41 6 3 (.array (.object "SelahGenerator$Strings")) true := ⟨(RX7, TX7, 7, tyX7), rfl, by decide, in_X7, tyX7_ok, nmX7, rfl, rfl, (by intro _; rfl), "SelahGenerator$Pairs", Or.inl rfl, q1414⟩
theorem msX7_20 : zSN RX7 20 yX8_init "SelahGenerator" cX8_init 1 none 0 := ⟨q1333, q169, zxw 107 rfl, (by decide +kernel), (by decide)⟩
theorem msX7_35_J2 : zSF RX7 35 RJ2 ⟨"java/util/List", "size", "()I"⟩ yJ2_size cJ2_size 1 (some Jvm.ClassFile.FieldType.int) 0 := ⟨lw_F q1341 q272 q274 q126 q276, zfw 15 rfl, ⟨11, _, rfl, rfl⟩, (by decide +kernel), (by decide)⟩
theorem msX7_44 : zSV RX7 44 RX7 yX7_findFirst cX7_findFirst 4 none 0 := ⟨lw_V q1342 q1344 qs21 q168 q1345, (by decide +kernel), (by decide)⟩
theorem msX7_47 : zSV RX7 47 RX7 yX7_findFollow cX7_findFollow 5 none 0 := ⟨lw_V q1396 q1398 qs24 q168 q1399, (by decide +kernel), (by decide)⟩
theorem msX7_50_J2 : zSF RX7 50 RJ2 ⟨"java/util/List", "get", "(I)Ljava/lang/Object;"⟩ yJ2_get cJ2_get 2 (some (Jvm.ClassFile.FieldType.object "java/lang/Object")) 1 := ⟨lw_F q1410 q1019 q1021 q126 q1023, zfw 8 rfl, ⟨11, _, rfl, rfl⟩, (by decide +kernel), (by decide)⟩
abbrev mX7_init : zM := (cX7_init, RX7, 4, none, "<init>", [], "(Ljava/util/List;)V")
def fbX7_init_123 (t : Nat) (x1 : Option Nat) (x2 : Int32)  (G : GS) : Option ((Int32 × GS) ⊕ (GS)) :=
  (zgR G 7 t 3).bind fun r1 => r1.bind fun a3 => (zln G a3).bind fun v5 => if v5 ≤ x2 then (zo (some G)) else (x1.bind fun a8 => zk [12] G a8 <| (fJ2_get_0 a8 x2 G).bind fun r12 => zkq [3] G r12 ((zgR G 7 t 3).bind fun r14 => zl (al G 8 0 1) fun G16 => (fX8_init_0 (gz G) G16).bind fun G19 => r14.bind fun a20 => (zsR G19 55 a20 x2 (some (gz G)) [8]).bind fun G22 => zk [7] G22 t <| (fX7_goThrough_0 t r12 0 G22).bind fun G26 => (zgR G26 7 t 2).bind fun r27 => r12.bind fun a29 => (zgI G26 3 a29 0).bind fun v31 => r27.bind fun a33 => (zaR G26 55 a33 (v31 - 20)).bind fun r35 => zk [7] G26 t <| (fX7_goOn_0 t r35 G26).bind fun G39 => (zgR G39 7 t 3).bind fun r40 => r40.bind fun a42 => (zaR G39 55 a42 x2).bind fun r44 => (zgR G39 7 t 4).bind fun r46 => r44.bind fun a48 => zk [8] G39 a48 <| (fX8_become_2_0 a48 r46 G39).bind fun G52 => (zgR G52 7 t 3).bind fun r53 => r53.bind fun a55 => (zaR G52 55 a55 x2).bind fun r57 => r57.bind fun a59 => zk [8] G52 a59 <| (fX8_keepPairs_0 a59 G52).bind fun G63 => some (.inl ((x2 + 1), G63))))
def flX7_init_123 (t : Nat) (x1 : Option Nat) (x2 : Int32) (G : GS) : Option (GS) := zloop (fun s : Int32 × GS => fbX7_init_123 t x1 s.1 s.2) (x2, G)
theorem wfbX7_init_123 {F : zF} (hd : 8 ≤ F.2.2.2) (t : Nat) (x1 : Option Nat) (x2 : Int32) (G : GS) {a : (Int32 × GS) ⊕ (GS)} (h : fbX7_init_123 t x1 x2 G = some a) (hk : (zcase (fun s : Int32 × GS => J mX7_init F s.2 123 [(0, vR (some t)), (1, vR x1), (2, vI s.1)] []) (zKV F)) a) : J mX7_init F G 123 [(0, vR (some t)), (1, vR x1), (2, vI x2)] [] := by
  unfold fbX7_init_123 at h
  refine j_iload_n (j := 2) dX7_init_123 rfl rfl ?_
  refine j_aload_n (j := 0) dX7_init_124 rfl rfl ?_
  replace h := zbE h
  obtain ⟨r1, e2, h⟩ := h
  refine j_getR fgX7_41 (fun _ _ _ => rfl) dX7_init_125 e2 ?_
  replace h := zbE h
  obtain ⟨a3, e4, h⟩ := h
  subst e4
  replace h := zbE h
  obtain ⟨v5, e6, h⟩ := h
  refine j_alen e6 dX7_init_128 ?_
  refine j_icmp_ge (tgt := 206) dX7_init_129 (by decide) (fun c7 => ?_) (fun c7 => ?_)
  · rw [if_pos c7] at h
    replace h := zoE h
    obtain ⟨a, h, rfl⟩ := h
    replace hk := hk
    obtain rfl := Option.some.inj h
    exact j_vret hk.1 hk.2 rfl dX7_init_206
  · rw [if_neg c7] at h
    refine j_aload_n (j := 1) dX7_init_132 rfl rfl ?_
    refine j_iload_n (j := 2) dX7_init_133 rfl rfl ?_
    replace h := zbE h
    obtain ⟨a8, e9, h⟩ := h
    subst e9
    replace h := zkE h
    obtain ⟨e10, h⟩ := h
    replace h := zbE h
    obtain ⟨r12, e11, h⟩ := h
    refine j_cont (zrF (As := [vI x2]) msX7_50_J2 (yJ2_get_ok e11) (Nat.le_trans (Nat.le_of_ble_eq_true rfl) hd) (zk_12 _ e10) rfl rfl (Nat.le_of_ble_eq_true rfl) dX7_init_134) ?_
    replace h := zkqE h
    obtain ⟨e13, h⟩ := h
    refine j_castq (fun k => j_castN dX7_init_139 k) (fun b q64 k => j_castS (zk_3 _ (e13 b q64)) ⟨2, _, rfl, rfl⟩ q1352 dX7_init_139 k) ?_
    refine j_astore_n (lv' := [(3, vR r12), (0, vR (some t)), (1, vR (some a8)), (2, vI x2)]) dX7_init_142 rfl (Nat.le_of_ble_eq_true rfl) rfl ?_
    refine j_aload_n (j := 1) dX7_init_143 rfl rfl ?_
    replace h := zbE h
    obtain ⟨r14, e15, h⟩ := h
    refine j_getR fgX7_41 (fun _ _ _ => rfl) dX7_init_144 e15 ?_
    refine j_iload_n (j := 3) dX7_init_147 rfl rfl ?_
    replace h := zlE h
    obtain ⟨G16, e17, h⟩ := h
    refine j_new (c := 7) (n := 1) (r := (RX8, TX8, 1, tyX8)) rfl rfl in_X8 tyX8_ok nwX8 q1328 q1330 q169 dX7_init_148 ?_
    rw [show al G (7 + 1) 0 1 = G16 from e17.symm]
    refine j_dup dX7_init_151 rfl ?_
    replace h := zbE h
    obtain ⟨G19, e18, h⟩ := h
    refine j_cont (zrIN (As := []) msX7_20 ⟨rfl, q1332⟩ (yX8_init_ok e18) (Nat.le_trans (Nat.le_of_ble_eq_true rfl) hd) rfl rfl (Nat.le_of_ble_eq_true rfl) dX7_init_152) ?_
    replace h := zbE h
    obtain ⟨a20, e21, h⟩ := h
    subst e21
    replace h := zbE h
    obtain ⟨G22, e23, h⟩ := h
    refine j_aast (t := 5) rfl e23 (fun k hk => ⟨_, zk_8 k hk, (Or.inr ⟨rfl, 7, _, rfl, rfl⟩)⟩) dX7_init_155 ?_
    refine j_aload_n (j := 1) dX7_init_156 rfl rfl ?_
    refine j_aload_n (j := 0) dX7_init_157 rfl rfl ?_
    refine j_iconst (v := 0) dX7_init_158 (by decide) ?_
    replace h := zkE h
    obtain ⟨e24, h⟩ := h
    replace h := zbE h
    obtain ⟨G26, e25, h⟩ := h
    refine j_cont (zrV (As := [vR r12, vI 0]) msX7_56 (yX7_goThrough_ok e25) (Nat.le_trans (Nat.le_of_ble_eq_true rfl) hd) (zk_7 _ e24) rfl rfl (Nat.le_of_ble_eq_true rfl) dX7_init_159) ?_
    refine j_aload_n (j := 1) dX7_init_162 rfl rfl ?_
    refine j_aload_n (j := 1) dX7_init_163 rfl rfl ?_
    replace h := zbE h
    obtain ⟨r27, e28, h⟩ := h
    refine j_getR fgX7_17 (fun _ _ _ => rfl) dX7_init_164 e28 ?_
    refine j_aload_n (j := 0) dX7_init_167 rfl rfl ?_
    replace h := zbE h
    obtain ⟨a29, e30, h⟩ := h
    subst e30
    replace h := zbE h
    obtain ⟨v31, e32, h⟩ := h
    refine j_getI fgX7_60 (fun _ _ _ => rfl) dX7_init_168 e32 ?_
    refine j_bipush (v := 20) dX7_init_171 (by decide) ?_
    refine j_isub dX7_init_173 ?_
    replace h := zbE h
    obtain ⟨a33, e34, h⟩ := h
    subst e34
    replace h := zbE h
    obtain ⟨r35, e36, h⟩ := h
    refine j_aald (Or.inr (Or.inl rfl)) e36 dX7_init_174 ?_
    replace h := zkE h
    obtain ⟨e37, h⟩ := h
    replace h := zbE h
    obtain ⟨G39, e38, h⟩ := h
    refine j_cont (zrV (As := [vR r35]) msX7_64 (yX7_goOn_ok e38) (Nat.le_trans (Nat.le_of_ble_eq_true rfl) hd) (zk_7 _ e37) rfl rfl (Nat.le_of_ble_eq_true rfl) dX7_init_175) ?_
    refine j_aload_n (j := 1) dX7_init_178 rfl rfl ?_
    replace h := zbE h
    obtain ⟨r40, e41, h⟩ := h
    refine j_getR fgX7_41 (fun _ _ _ => rfl) dX7_init_179 e41 ?_
    refine j_iload_n (j := 3) dX7_init_182 rfl rfl ?_
    replace h := zbE h
    obtain ⟨a42, e43, h⟩ := h
    subst e43
    replace h := zbE h
    obtain ⟨r44, e45, h⟩ := h
    refine j_aald (Or.inr (Or.inl rfl)) e45 dX7_init_183 ?_
    refine j_aload_n (j := 1) dX7_init_184 rfl rfl ?_
    replace h := zbE h
    obtain ⟨r46, e47, h⟩ := h
    refine j_getR fgX7_21 (fun _ _ _ => rfl) dX7_init_185 e47 ?_
    replace h := zbE h
    obtain ⟨a48, e49, h⟩ := h
    subst e49
    replace h := zkE h
    obtain ⟨e50, h⟩ := h
    replace h := zbE h
    obtain ⟨G52, e51, h⟩ := h
    refine j_cont (zrV (As := [vR r46]) msX7_68 (yX8_become_2_ok e51) (Nat.le_trans (Nat.le_of_ble_eq_true rfl) hd) (zk_8 _ e50) rfl rfl (Nat.le_of_ble_eq_true rfl) dX7_init_188) ?_
    refine j_aload_n (j := 1) dX7_init_191 rfl rfl ?_
    replace h := zbE h
    obtain ⟨r53, e54, h⟩ := h
    refine j_getR fgX7_41 (fun _ _ _ => rfl) dX7_init_192 e54 ?_
    refine j_iload_n (j := 3) dX7_init_195 rfl rfl ?_
    replace h := zbE h
    obtain ⟨a55, e56, h⟩ := h
    subst e56
    replace h := zbE h
    obtain ⟨r57, e58, h⟩ := h
    refine j_aald (Or.inr (Or.inl rfl)) e58 dX7_init_196 ?_
    replace h := zbE h
    obtain ⟨a59, e60, h⟩ := h
    subst e60
    replace h := zkE h
    obtain ⟨e61, h⟩ := h
    replace h := zbE h
    obtain ⟨G63, e62, h⟩ := h
    refine j_cont (zrV (As := []) msX7_71 (yX8_keepPairs_ok e62) (Nat.le_trans (Nat.le_of_ble_eq_true rfl) hd) (zk_8 _ e61) rfl rfl (Nat.le_of_ble_eq_true rfl) dX7_init_197) ?_
    refine j_iinc (j := 3) (v := (x2 + 1)) (lv' := [(2, vI (x2 + 1)), (3, vR (some a29)), (0, vR (some t)), (1, vR (some a8))]) dX7_init_200 rfl rfl (Nat.le_of_ble_eq_true rfl) rfl ?_
    refine j_goto (tgt := 123) dX7_init_203 (by decide) ?_
    obtain rfl := Option.some.inj h
    exact J.sub (zall [2, 3, 0] rfl) hk
theorem wflX7_init_123 {F : zF} (hd : 8 ≤ F.2.2.2) (t : Nat) (x1 : Option Nat) (x2 : Int32) (G : GS) {a : GS} (h : flX7_init_123 t x1 x2 G = some a) (hk : zKV F a) : J mX7_init F G 123 [(0, vR (some t)), (1, vR x1), (2, vI x2)] [] := by
  unfold flX7_init_123 at h
  exact zloop_walk (P := (fun s : Int32 × GS => J mX7_init F s.2 123 [(0, vR (some t)), (1, vR x1), (2, vI s.1)] [])) (fun s b e hk => wfbX7_init_123 hd t x1 s.1 s.2 e hk) (x2, G) _ h hk
def fX7_init_113 (t : Nat) (x1 : Option Nat)  (G : GS) : Option (GS) :=
  zk [7] G t <| (fX7_findFirst_0 t G).bind fun G3 => zk [7] G3 t <| (fX7_findFollow_0 t G3).bind fun G6 => flX7_init_123 t x1 0 G6
theorem wfX7_init_113 {F : zF} (hd : 8 ≤ F.2.2.2) (t : Nat) (x1 : Option Nat)  (G : GS) {a : GS} (h : fX7_init_113 t x1  G = some a) (hk : zKV F a) : J mX7_init F G 113 [(0, vR (some t)), (1, vR x1)] [] := by
  unfold fX7_init_113 at h
  refine j_aload_n (j := 0) dX7_init_113 rfl rfl ?_
  replace h := zkE h
  obtain ⟨e1, h⟩ := h
  replace h := zbE h
  obtain ⟨G3, e2, h⟩ := h
  refine j_cont (zrV (As := []) msX7_44 (yX7_findFirst_ok e2) (Nat.le_trans (Nat.le_of_ble_eq_true rfl) hd) (zk_7 _ e1) rfl rfl (Nat.le_of_ble_eq_true rfl) dX7_init_114) ?_
  refine j_aload_n (j := 0) dX7_init_117 rfl rfl ?_
  replace h := zkE h
  obtain ⟨e4, h⟩ := h
  replace h := zbE h
  obtain ⟨G6, e5, h⟩ := h
  refine j_cont (zrV (As := []) msX7_47 (yX7_findFollow_ok e5) (Nat.le_trans (Nat.le_of_ble_eq_true rfl) hd) (zk_7 _ e4) rfl rfl (Nat.le_of_ble_eq_true rfl) dX7_init_118) ?_
  refine j_iconst (v := 0) dX7_init_121 (by decide) ?_
  refine j_istore_n (lv' := [(2, vI 0), (0, vR (some t)), (1, vR x1)]) dX7_init_122 rfl (Nat.le_of_ble_eq_true rfl) rfl ?_
  exact J.sub (zall [1, 2, 0] rfl) (wflX7_init_123 hd t x1 0  G6 h hk)
def fbX7_init_75 (t : Nat) (x1 : Option Nat) (x2 : Int32)  (G : GS) : Option ((Int32 × GS) ⊕ (GS)) :=
  if 12 ≤ x2 then (zo (fX7_init_113 t x1 G)) else ((zgR G 7 t 1).bind fun r2 => zl (al G 8 0 1) fun G4 => (fX8_init_0 (gz G) G4).bind fun G7 => r2.bind fun a8 => (zsR G7 55 a8 x2 (some (gz G)) [8]).bind fun G10 => (zgR G10 7 t 2).bind fun r12 => zl (al G10 8 0 1) fun G14 => (fX8_init_0 (gz G10) G14).bind fun G17 => r12.bind fun a18 => (zsR G17 55 a18 x2 (some (gz G10)) [8]).bind fun G20 => some (.inl ((x2 + 1), G20)))
def flX7_init_75 (t : Nat) (x1 : Option Nat) (x2 : Int32) (G : GS) : Option (GS) := zloop (fun s : Int32 × GS => fbX7_init_75 t x1 s.1 s.2) (x2, G)
theorem wfbX7_init_75 {F : zF} (hd : 8 ≤ F.2.2.2) (t : Nat) (x1 : Option Nat) (x2 : Int32) (G : GS) {a : (Int32 × GS) ⊕ (GS)} (h : fbX7_init_75 t x1 x2 G = some a) (hk : (zcase (fun s : Int32 × GS => J mX7_init F s.2 75 [(0, vR (some t)), (1, vR x1), (2, vI s.1)] []) (zKV F)) a) : J mX7_init F G 75 [(0, vR (some t)), (1, vR x1), (2, vI x2)] [] := by
  unfold fbX7_init_75 at h
  refine j_iload_n (j := 2) dX7_init_75 rfl rfl ?_
  refine j_bipush (v := 12) dX7_init_76 (by decide) ?_
  refine j_icmp_ge (tgt := 113) dX7_init_78 (by decide) (fun c1 => ?_) (fun c1 => ?_)
  · rw [if_pos c1] at h
    replace h := zoE h
    obtain ⟨a, h, rfl⟩ := h
    replace hk := hk
    exact J.sub (zall [0, 1] rfl) (wfX7_init_113 hd t x1  G h hk)
  · rw [if_neg c1] at h
    refine j_aload_n (j := 0) dX7_init_81 rfl rfl ?_
    replace h := zbE h
    obtain ⟨r2, e3, h⟩ := h
    refine j_getR fgX7_11 (fun _ _ _ => rfl) dX7_init_82 e3 ?_
    refine j_iload_n (j := 2) dX7_init_85 rfl rfl ?_
    replace h := zlE h
    obtain ⟨G4, e5, h⟩ := h
    refine j_new (c := 7) (n := 1) (r := (RX8, TX8, 1, tyX8)) rfl rfl in_X8 tyX8_ok nwX8 q1328 q1330 q169 dX7_init_86 ?_
    rw [show al G (7 + 1) 0 1 = G4 from e5.symm]
    refine j_dup dX7_init_89 rfl ?_
    replace h := zbE h
    obtain ⟨G7, e6, h⟩ := h
    refine j_cont (zrIN (As := []) msX7_20 ⟨rfl, q1332⟩ (yX8_init_ok e6) (Nat.le_trans (Nat.le_of_ble_eq_true rfl) hd) rfl rfl (Nat.le_of_ble_eq_true rfl) dX7_init_90) ?_
    replace h := zbE h
    obtain ⟨a8, e9, h⟩ := h
    subst e9
    replace h := zbE h
    obtain ⟨G10, e11, h⟩ := h
    refine j_aast (t := 5) rfl e11 (fun k hk => ⟨_, zk_8 k hk, (Or.inr ⟨rfl, 7, _, rfl, rfl⟩)⟩) dX7_init_93 ?_
    refine j_aload_n (j := 0) dX7_init_94 rfl rfl ?_
    replace h := zbE h
    obtain ⟨r12, e13, h⟩ := h
    refine j_getR fgX7_17 (fun _ _ _ => rfl) dX7_init_95 e13 ?_
    refine j_iload_n (j := 2) dX7_init_98 rfl rfl ?_
    replace h := zlE h
    obtain ⟨G14, e15, h⟩ := h
    refine j_new (c := 7) (n := 1) (r := (RX8, TX8, 1, tyX8)) rfl rfl in_X8 tyX8_ok nwX8 q1328 q1330 q169 dX7_init_99 ?_
    rw [show al G10 (7 + 1) 0 1 = G14 from e15.symm]
    refine j_dup dX7_init_102 rfl ?_
    replace h := zbE h
    obtain ⟨G17, e16, h⟩ := h
    refine j_cont (zrIN (As := []) msX7_20 ⟨rfl, q1332⟩ (yX8_init_ok e16) (Nat.le_trans (Nat.le_of_ble_eq_true rfl) hd) rfl rfl (Nat.le_of_ble_eq_true rfl) dX7_init_103) ?_
    replace h := zbE h
    obtain ⟨a18, e19, h⟩ := h
    subst e19
    replace h := zbE h
    obtain ⟨G20, e21, h⟩ := h
    refine j_aast (t := 5) rfl e21 (fun k hk => ⟨_, zk_8 k hk, (Or.inr ⟨rfl, 7, _, rfl, rfl⟩)⟩) dX7_init_106 ?_
    refine j_iinc (j := 2) (v := (x2 + 1)) (lv' := [(2, vI (x2 + 1)), (0, vR (some t)), (1, vR x1)]) dX7_init_107 rfl rfl (Nat.le_of_ble_eq_true rfl) rfl ?_
    refine j_goto (tgt := 75) dX7_init_110 (by decide) ?_
    obtain rfl := Option.some.inj h
    exact J.sub (zall [1, 2, 0] rfl) hk
theorem wflX7_init_75 {F : zF} (hd : 8 ≤ F.2.2.2) (t : Nat) (x1 : Option Nat) (x2 : Int32) (G : GS) {a : GS} (h : flX7_init_75 t x1 x2 G = some a) (hk : zKV F a) : J mX7_init F G 75 [(0, vR (some t)), (1, vR x1), (2, vI x2)] [] := by
  unfold flX7_init_75 at h
  exact zloop_walk (P := (fun s : Int32 × GS => J mX7_init F s.2 75 [(0, vR (some t)), (1, vR x1), (2, vI s.1)] [])) (fun s b e hk => wfbX7_init_75 hd t x1 s.1 s.2 e hk) (x2, G) _ h hk
def fX7_init_0 (t : Nat) (x1 : Option Nat)  (G : GS) : Option (GS) :=
  (zna G 55 (12 : Int32)).bind fun G1 => (zpR G1 7 t 1 (some (gz G))).bind fun G3 => (zna G3 55 (12 : Int32)).bind fun G5 => (zpR G5 7 t 2 (some (gz G3))).bind fun G7 => zl (al G7 8 0 1) fun G9 => (fX8_init_0 (gz G7) G9).bind fun G12 => (zpR G12 7 t 4 (some (gz G7))).bind fun G13 => zl (al G13 8 0 1) fun G15 => (fX8_init_0 (gz G13) G15).bind fun G18 => (zpR G18 7 t 5 (some (gz G13))).bind fun G19 => zl (al G19 8 0 1) fun G21 => (fX8_init_0 (gz G19) G21).bind fun G24 => (zpR G24 7 t 6 (some (gz G19))).bind fun G25 => (zpR G25 7 t 0 x1).bind fun G27 => x1.bind fun a29 => zk [12] G27 a29 <| (fJ2_size_0 a29 G27).bind fun v33 => (zna G27 55 v33).bind fun G34 => (zpR G34 7 t 3 (some (gz G27))).bind fun G36 => flX7_init_75 t (some a29) 0 G36
theorem wfX7_init_0 {F : zF} (hd : 8 ≤ F.2.2.2) (t : Nat) (x1 : Option Nat)  (G : GS) {a : GS} (h : fX7_init_0 t x1  G = some a) (hk : zKV F a) : J mX7_init F G 0 [(0, vR (some t)), (1, vR x1)] [] := by
  unfold fX7_init_0 at h
  refine j_aload_n (j := 0) dX7_init_0 rfl rfl ?_
  refine j_objinit q1327 q181 q182 (Nat.le_trans (Nat.le_of_ble_eq_true rfl) hd) (Nat.le_of_ble_eq_true rfl) dX7_init_1 ?_
  refine j_aload_n (j := 0) dX7_init_4 rfl rfl ?_
  refine j_bipush (v := 12) dX7_init_5 (by decide) ?_
  replace h := zbE h
  obtain ⟨G1, e2, h⟩ := h
  refine j_anewa (t := 5) rfl (Or.inr rfl) q1328 e2 dX7_init_7 ?_
  replace h := zbE h
  obtain ⟨G3, e4, h⟩ := h
  refine j_putR fpX7_11_X7 (Or.inr rfl) (Or.inr ⟨_, rfl⟩) dX7_init_10 e4 ?_
  refine j_aload_n (j := 0) dX7_init_13 rfl rfl ?_
  refine j_bipush (v := 12) dX7_init_14 (by decide) ?_
  replace h := zbE h
  obtain ⟨G5, e6, h⟩ := h
  refine j_anewa (t := 5) rfl (Or.inr rfl) q1328 e6 dX7_init_16 ?_
  replace h := zbE h
  obtain ⟨G7, e8, h⟩ := h
  refine j_putR fpX7_17_X7 (Or.inr rfl) (Or.inr ⟨_, rfl⟩) dX7_init_19 e8 ?_
  refine j_aload_n (j := 0) dX7_init_22 rfl rfl ?_
  replace h := zlE h
  obtain ⟨G9, e10, h⟩ := h
  refine j_new (c := 7) (n := 1) (r := (RX8, TX8, 1, tyX8)) rfl rfl in_X8 tyX8_ok nwX8 q1328 q1330 q169 dX7_init_23 ?_
  rw [show al G7 (7 + 1) 0 1 = G9 from e10.symm]
  refine j_dup dX7_init_26 rfl ?_
  replace h := zbE h
  obtain ⟨G12, e11, h⟩ := h
  refine j_cont (zrIN (As := []) msX7_20 ⟨rfl, q1332⟩ (yX8_init_ok e11) (Nat.le_trans (Nat.le_of_ble_eq_true rfl) hd) rfl rfl (Nat.le_of_ble_eq_true rfl) dX7_init_27) ?_
  replace h := zbE h
  obtain ⟨G13, e14, h⟩ := h
  refine j_putR fpX7_21_X7 (Or.inr rfl) (Or.inl ⟨_, rfl⟩) dX7_init_30 e14 ?_
  refine j_aload_n (j := 0) dX7_init_33 rfl rfl ?_
  replace h := zlE h
  obtain ⟨G15, e16, h⟩ := h
  refine j_new (c := 7) (n := 1) (r := (RX8, TX8, 1, tyX8)) rfl rfl in_X8 tyX8_ok nwX8 q1328 q1330 q169 dX7_init_34 ?_
  rw [show al G13 (7 + 1) 0 1 = G15 from e16.symm]
  refine j_dup dX7_init_37 rfl ?_
  replace h := zbE h
  obtain ⟨G18, e17, h⟩ := h
  refine j_cont (zrIN (As := []) msX7_20 ⟨rfl, q1332⟩ (yX8_init_ok e17) (Nat.le_trans (Nat.le_of_ble_eq_true rfl) hd) rfl rfl (Nat.le_of_ble_eq_true rfl) dX7_init_38) ?_
  replace h := zbE h
  obtain ⟨G19, e20, h⟩ := h
  refine j_putR fpX7_25_X7 (Or.inr rfl) (Or.inl ⟨_, rfl⟩) dX7_init_41 e20 ?_
  refine j_aload_n (j := 0) dX7_init_44 rfl rfl ?_
  replace h := zlE h
  obtain ⟨G21, e22, h⟩ := h
  refine j_new (c := 7) (n := 1) (r := (RX8, TX8, 1, tyX8)) rfl rfl in_X8 tyX8_ok nwX8 q1328 q1330 q169 dX7_init_45 ?_
  rw [show al G19 (7 + 1) 0 1 = G21 from e22.symm]
  refine j_dup dX7_init_48 rfl ?_
  replace h := zbE h
  obtain ⟨G24, e23, h⟩ := h
  refine j_cont (zrIN (As := []) msX7_20 ⟨rfl, q1332⟩ (yX8_init_ok e23) (Nat.le_trans (Nat.le_of_ble_eq_true rfl) hd) rfl rfl (Nat.le_of_ble_eq_true rfl) dX7_init_49) ?_
  replace h := zbE h
  obtain ⟨G25, e26, h⟩ := h
  refine j_putR fpX7_28_X7 (Or.inr rfl) (Or.inl ⟨_, rfl⟩) dX7_init_52 e26 ?_
  refine j_aload_n (j := 0) dX7_init_55 rfl rfl ?_
  refine j_aload_n (j := 1) dX7_init_56 rfl rfl ?_
  replace h := zbE h
  obtain ⟨G27, e28, h⟩ := h
  refine j_putR fpX7_31_X7 (Or.inr rfl) (Or.inl ⟨_, rfl⟩) dX7_init_57 e28 ?_
  refine j_aload_n (j := 0) dX7_init_60 rfl rfl ?_
  refine j_aload_n (j := 1) dX7_init_61 rfl rfl ?_
  replace h := zbE h
  obtain ⟨a29, e30, h⟩ := h
  subst e30
  replace h := zkE h
  obtain ⟨e31, h⟩ := h
  replace h := zbE h
  obtain ⟨v33, e32, h⟩ := h
  refine j_cont (zrF (As := []) msX7_35_J2 (yJ2_size_ok e32) (Nat.le_trans (Nat.le_of_ble_eq_true rfl) hd) (zk_12 _ e31) rfl rfl (Nat.le_of_ble_eq_true rfl) dX7_init_62) ?_
  replace h := zbE h
  obtain ⟨G34, e35, h⟩ := h
  refine j_anewa (t := 5) rfl (Or.inr rfl) q1328 e35 dX7_init_67 ?_
  replace h := zbE h
  obtain ⟨G36, e37, h⟩ := h
  refine j_putR fpX7_41_X7 (Or.inr rfl) (Or.inr ⟨_, rfl⟩) dX7_init_70 e37 ?_
  refine j_iconst (v := 0) dX7_init_73 (by decide) ?_
  refine j_istore_n (lv' := [(2, vI 0), (0, vR (some t)), (1, vR (some a29))]) dX7_init_74 rfl (Nat.le_of_ble_eq_true rfl) rfl ?_
  exact J.sub (zall [1, 2, 0] rfl) (wflX7_init_75 hd t (some a29) 0  G36 h hk)
theorem yX7_init_ok {t : Nat} {x1 : Option Nat} {G : GS} {G1 : GS} (h : fX7_init_0 t x1 G = some G1) : zRuns yX7_init (ws_ yX7_init cX7_init 4 none) [vR (some t), vR x1] (.inl none, G, G1, 8) :=
  zentry (M := mX7_init) (plainFor_of_name (by decide +kernel)) ⟨rfl, rfl, rfl, rfl⟩ (Nat.le_of_ble_eq_true rfl) (wfX7_init_0 (Nat.le_refl _) t x1 G h ⟨rfl, rfl⟩)
theorem fgX1_36 : zFG RX1 36 0 2 (.object "SelahGenerator$Pairs") := ⟨(RX1, TX1, 5, tyX1), rfl, by decide, in_X1, rfl, "SelahGenerator", Or.inl rfl, Or.inl q249⟩
theorem msX1_42 : zSI RX1 42 yX7_init cX7_init 4 1 := ⟨q1326, q168, q1324, q1325, rfl, (by decide +kernel), (by decide)⟩
abbrev mX1_pairs : zM := (cX1_pairs, RX1, 1, (some (Jvm.ClassFile.FieldType.object "SelahGenerator$Pairs")), "pairs", [], "()LSelahGenerator$Pairs;")
def fX1_pairs_0 (t : Nat)  (G : GS) : Option ((Option Nat) × GS) :=
  (zgR G 1 t 2).bind fun r1 => zopt r1 (zl (al G 7 0 7) fun G4 => (zgR G4 1 t 0).bind fun r6 => (fX7_init_0 (gz G) r6 G4).bind fun G9 => (zpR G9 1 t 2 (some (gz G))).bind fun G10 => (zgR G10 1 t 2).bind fun r12 => some (r12, G10)) (fun a3 => (zgR G 1 t 2).bind fun r14 => some (r14, G))
theorem wfX1_pairs_0 {F : zF} (hd : 9 ≤ F.2.2.2) (t : Nat)  (G : GS) {a : (Option Nat) × GS} (h : fX1_pairs_0 t  G = some a) (hk : zKR F a) : J mX1_pairs F G 0 [(0, vR (some t))] [] := by
  unfold fX1_pairs_0 at h
  refine j_aload_n (j := 0) dX1_pairs_0 rfl rfl ?_
  replace h := zbE h
  obtain ⟨r1, e2, h⟩ := h
  refine j_getR fgX1_36 (fun _ _ _ => rfl) dX1_pairs_1 e2 ?_
  rcases r1 with _ | a3
  · replace h := zopt_n h
    refine j_ifnonnull0 dX1_pairs_4 ?_
    refine j_aload_n (j := 0) dX1_pairs_7 rfl rfl ?_
    replace h := zlE h
    obtain ⟨G4, e5, h⟩ := h
    refine j_new (c := 6) (n := 7) (r := (RX7, TX7, 7, tyX7)) rfl rfl in_X7 tyX7_ok nwX7 q1322 q1323 q168 dX1_pairs_8 ?_
    rw [show al G (6 + 1) 0 7 = G4 from e5.symm]
    refine j_dup dX1_pairs_11 rfl ?_
    refine j_aload_n (j := 0) dX1_pairs_12 rfl rfl ?_
    replace h := zbE h
    obtain ⟨r6, e7, h⟩ := h
    refine j_getR fgX1_16 (fun _ _ _ => rfl) dX1_pairs_13 e7 ?_
    replace h := zbE h
    obtain ⟨G9, e8, h⟩ := h
    refine j_cont (zrI (As := [vR r6]) msX1_42 (yX7_init_ok e8) (Nat.le_trans (Nat.le_of_ble_eq_true rfl) hd) rfl rfl (Nat.le_of_ble_eq_true rfl) dX1_pairs_16) ?_
    replace h := zbE h
    obtain ⟨G10, e11, h⟩ := h
    refine j_putR fpX1_36_X1 (Or.inl rfl) (Or.inl ⟨_, rfl⟩) dX1_pairs_19 e11 ?_
    refine j_aload_n (j := 0) dX1_pairs_22 rfl rfl ?_
    replace h := zbE h
    obtain ⟨r12, e13, h⟩ := h
    refine j_getR fgX1_36 (fun _ _ _ => rfl) dX1_pairs_23 e13 ?_
    obtain rfl := Option.some.inj h
    exact j_aret hk.1 hk.2 rfl (Or.inl ⟨_, rfl⟩) dX1_pairs_26
  · replace h := zopt_s h
    refine j_ifnonnull1 (tgt := 22) dX1_pairs_4 (by decide) ?_
    refine j_aload_n (j := 0) dX1_pairs_22 rfl rfl ?_
    replace h := zbE h
    obtain ⟨r14, e15, h⟩ := h
    refine j_getR fgX1_36 (fun _ _ _ => rfl) dX1_pairs_23 e15 ?_
    obtain rfl := Option.some.inj h
    exact j_aret hk.1 hk.2 rfl (Or.inl ⟨_, rfl⟩) dX1_pairs_26
theorem yX1_pairs_ok {t : Nat} {G : GS} {r : Option Nat} {G1 : GS} (h : fX1_pairs_0 t G = some (r, G1)) : zRuns yX1_pairs (ws_ yX1_pairs cX1_pairs 1 (some (Jvm.ClassFile.FieldType.object "SelahGenerator$Pairs"))) [vR (some t)] (.inl (some (vR r)), G, G1, 9) :=
  zentry (M := mX1_pairs) (plainFor_of_name (by decide +kernel)) ⟨rfl, rfl, rfl, rfl⟩ (Nat.le_of_ble_eq_true rfl) (wfX1_pairs_0 (Nat.le_refl _) t G h ⟨rfl, rfl⟩)
abbrev mX8_firstTokens : zM := (cX8_firstTokens, RX8, 3, (some Jvm.ClassFile.FieldType.int), "firstTokens", [], "()I")
def fX8_firstTokens_32 (t : Nat) (x1 : Int32) (x2 : Int32)  (G : GS) : Option ((Int32 × Int32) ⊕ (Int32)) :=
  some (.inl (x1, (x2 + 1)))
theorem wfX8_firstTokens_32 {F : zF} (hd : 2 ≤ F.2.2.2) (t : Nat) (x1 : Int32) (x2 : Int32)  (G : GS) {a : (Int32 × Int32) ⊕ (Int32)} (h : fX8_firstTokens_32 t x1 x2  G = some a) (hk : (zcase (fun s : Int32 × Int32 => J mX8_firstTokens F G 5 [(0, vR (some t)), (1, vI s.1), (2, vI s.2)] []) (zKPI F G)) a) : J mX8_firstTokens F G 32 [(0, vR (some t)), (1, vI x1), (2, vI x2)] [] := by
  unfold fX8_firstTokens_32 at h
  refine j_iinc (j := 2) (v := (x2 + 1)) (lv' := [(2, vI (x2 + 1)), (0, vR (some t)), (1, vI x1)]) dX8_firstTokens_32 rfl rfl (Nat.le_of_ble_eq_true rfl) rfl ?_
  refine j_goto (tgt := 5) dX8_firstTokens_35 (by decide) ?_
  obtain rfl := Option.some.inj h
  exact J.sub (zall [1, 2, 0] rfl) hk
def fbX8_firstTokens_5 (t : Nat) (x1 : Int32) (x2 : Int32)  (G : GS) : Option ((Int32 × Int32) ⊕ (Int32)) :=
  if 183 ≤ x2 then (zo (some x1)) else (zk [8] G t <| (fX8_has_0 t x2 G).bind fun v4 => if v4 = 0 then (fX8_firstTokens_32 t x1 x2 G) else (zcond (¬ (13 : Int32) = 0) (fX8_firstTokens_32 t (x1 ||| ((1 : Int32) <<< (((x2 - 14) / (13 : Int32)) &&& 31))) x2 G)))
def flX8_firstTokens_5 (t : Nat) (x1 : Int32) (x2 : Int32) (G : GS) : Option (Int32) := zloop (fun s : Int32 × Int32 => fbX8_firstTokens_5 t s.1 s.2 G) (x1, x2)
theorem wfbX8_firstTokens_5 {F : zF} (hd : 2 ≤ F.2.2.2) (t : Nat) (x1 : Int32) (x2 : Int32) (G : GS) {a : (Int32 × Int32) ⊕ (Int32)} (h : fbX8_firstTokens_5 t x1 x2 G = some a) (hk : (zcase (fun s : Int32 × Int32 => J mX8_firstTokens F G 5 [(0, vR (some t)), (1, vI s.1), (2, vI s.2)] []) (zKPI F G)) a) : J mX8_firstTokens F G 5 [(0, vR (some t)), (1, vI x1), (2, vI x2)] [] := by
  unfold fbX8_firstTokens_5 at h
  refine j_iload_n (j := 2) dX8_firstTokens_5 rfl rfl ?_
  refine j_sipush (v := 183) dX8_firstTokens_6 (by decide) ?_
  refine j_icmp_ge (tgt := 38) dX8_firstTokens_9 (by decide) (fun c1 => ?_) (fun c1 => ?_)
  · rw [if_pos c1] at h
    replace h := zoE h
    obtain ⟨a, h, rfl⟩ := h
    replace hk := hk
    refine j_iload_n (j := 1) dX8_firstTokens_38 rfl rfl ?_
    obtain rfl := Option.some.inj h
    exact j_iret hk.1 hk.2 rfl dX8_firstTokens_39
  · rw [if_neg c1] at h
    refine j_aload_n (j := 0) dX8_firstTokens_12 rfl rfl ?_
    refine j_iload_n (j := 2) dX8_firstTokens_13 rfl rfl ?_
    replace h := zkE h
    obtain ⟨e2, h⟩ := h
    replace h := zbE h
    obtain ⟨v4, e3, h⟩ := h
    refine j_cont (zrV (As := [vI x2]) msX8_17 (yX8_has_ok e3) (Nat.le_trans (Nat.le_of_ble_eq_true rfl) hd) (zk_8 _ e2) rfl rfl (Nat.le_of_ble_eq_true rfl) dX8_firstTokens_14) ?_
    refine j_if_eq (tgt := 32) dX8_firstTokens_17 (by decide) (fun c5 => ?_) (fun c5 => ?_)
    · rw [if_pos c5] at h
      exact J.sub (zall [0, 1, 2] rfl) (wfX8_firstTokens_32 hd t x1 x2  G h hk)
    · rw [if_neg c5] at h
      refine j_iload_n (j := 1) dX8_firstTokens_20 rfl rfl ?_
      refine j_iconst (v := 1) dX8_firstTokens_21 (by decide) ?_
      refine j_iload_n (j := 2) dX8_firstTokens_22 rfl rfl ?_
      refine j_bipush (v := 14) dX8_firstTokens_23 (by decide) ?_
      refine j_isub dX8_firstTokens_25 ?_
      refine j_bipush (v := 13) dX8_firstTokens_26 (by decide) ?_
      replace h := zcondE h
      obtain ⟨e6, h⟩ := h
      refine j_idiv dX8_firstTokens_28 e6 ?_
      refine j_ishl dX8_firstTokens_29 ?_
      refine j_ior dX8_firstTokens_30 ?_
      refine j_istore_n (lv' := [(1, vI (x1 ||| ((1 : Int32) <<< (((x2 - 14) / (13 : Int32)) &&& 31)))), (0, vR (some t)), (2, vI x2)]) dX8_firstTokens_31 rfl (Nat.le_of_ble_eq_true rfl) rfl ?_
      exact J.sub (zall [1, 0, 2] rfl) (wfX8_firstTokens_32 hd t (x1 ||| ((1 : Int32) <<< (((x2 - 14) / (13 : Int32)) &&& 31))) x2  G h hk)
theorem wflX8_firstTokens_5 {F : zF} (hd : 2 ≤ F.2.2.2) (t : Nat) (x1 : Int32) (x2 : Int32) (G : GS) {a : Int32} (h : flX8_firstTokens_5 t x1 x2 G = some a) (hk : zKPI F G a) : J mX8_firstTokens F G 5 [(0, vR (some t)), (1, vI x1), (2, vI x2)] [] := by
  unfold flX8_firstTokens_5 at h
  exact zloop_walk (P := (fun s : Int32 × Int32 => J mX8_firstTokens F G 5 [(0, vR (some t)), (1, vI s.1), (2, vI s.2)] [])) (fun s b e hk => wfbX8_firstTokens_5 hd t s.1 s.2 G e hk) (x1, x2) _ h hk
def fX8_firstTokens_0 (t : Nat)  (G : GS) : Option (Int32) :=
  flX8_firstTokens_5 t 0 14 G
theorem wfX8_firstTokens_0 {F : zF} (hd : 2 ≤ F.2.2.2) (t : Nat)  (G : GS) {a : Int32} (h : fX8_firstTokens_0 t  G = some a) (hk : zKPI F G a) : J mX8_firstTokens F G 0 [(0, vR (some t))] [] := by
  unfold fX8_firstTokens_0 at h
  refine j_iconst (v := 0) dX8_firstTokens_0 (by decide) ?_
  refine j_istore_n (lv' := [(1, vI 0), (0, vR (some t))]) dX8_firstTokens_1 rfl (Nat.le_of_ble_eq_true rfl) rfl ?_
  refine j_bipush (v := 14) dX8_firstTokens_2 (by decide) ?_
  refine j_istore_n (lv' := [(2, vI 14), (1, vI 0), (0, vR (some t))]) dX8_firstTokens_4 rfl (Nat.le_of_ble_eq_true rfl) rfl ?_
  exact J.sub (zall [2, 1, 0] rfl) (wflX8_firstTokens_5 hd t 0 14  G h hk)
theorem yX8_firstTokens_ok {t : Nat} {G : GS} {r : Int32} (h : fX8_firstTokens_0 t G = some r) : zRuns yX8_firstTokens (ws_ yX8_firstTokens cX8_firstTokens 3 (some Jvm.ClassFile.FieldType.int)) [vR (some t)] (.inl (some (vI r)), G, G, 2) :=
  zentry (M := mX8_firstTokens) (plainFor_of_name (by decide +kernel)) ⟨rfl, rfl, rfl, rfl⟩ (Nat.le_of_ble_eq_true rfl) (wfX8_firstTokens_0 (Nat.le_refl _) t G h ⟨rfl, rfl⟩)
theorem fgX10_134 : zFG RX10 134 0 0 (.object "java/util/List") := ⟨(RX1, TX1, 5, tyX1), rfl, by decide, in_X1, rfl, "SelahGenerator", Or.inl rfl, Or.inr ⟨_, zxw 76 rfl⟩⟩
theorem fgX10_142 : zFG RX10 142 2 0 (.int) := ⟨(RX3, TX3, 2, tyX3), rfl, by decide, in_X3, rfl, "SelahGenerator$Rule", Or.inl rfl, Or.inr ⟨_, zxw 83 rfl⟩⟩
theorem fgX10_145 : zFG RX10 145 4 5 (.array (.int)) := ⟨(RX5, TX5, 10, tyX5), rfl, by decide, in_X5, rfl, "SelahGenerator$Sets", Or.inl rfl, Or.inr ⟨_, zxw 78 rfl⟩⟩
theorem fgX10_148 : zFG RX10 148 6 3 (.array (.object "SelahGenerator$Strings")) := ⟨(RX7, TX7, 7, tyX7), rfl, by decide, in_X7, rfl, "SelahGenerator$Pairs", Or.inl rfl, Or.inr ⟨_, zxw 79 rfl⟩⟩
theorem fgX10_18 : zFG RX10 18 8 1 (.object "java/util/ArrayDeque") := ⟨(RX10, TX10, 8, tyX10), rfl, by decide, in_X10, rfl, "SelahGenerator$Parse", Or.inl rfl, Or.inl q2466⟩
theorem fgX10_3 : zFG RX10 3 8 7 (.object "SelahGenerator") := ⟨(RX10, TX10, 8, tyX10), rfl, by decide, in_X10, rfl, "SelahGenerator$Parse", Or.inl rfl, Or.inl q2477⟩
theorem fgX10_39 : zFG RX10 39 8 0 (.int) := ⟨(RX10, TX10, 8, tyX10), rfl, by decide, in_X10, rfl, "SelahGenerator$Parse", Or.inl rfl, Or.inl q2465⟩
theorem msX10_108 : zSN RX10 108 yX1_sets "SelahGenerator" cX1_sets 1 (some (Jvm.ClassFile.FieldType.object "SelahGenerator$Sets")) 0 := ⟨q413, q123, zxw 81 rfl, (by decide +kernel), (by decide)⟩
theorem msX10_118 : zSN RX10 118 yX1_pairs "SelahGenerator" cX1_pairs 1 (some (Jvm.ClassFile.FieldType.object "SelahGenerator$Pairs")) 0 := ⟨q1321, q123, zxw 82 rfl, (by decide +kernel), (by decide)⟩
theorem msX10_151 : zSV RX10 151 RX8 yX8_firstTokens cX8_firstTokens 3 (some Jvm.ClassFile.FieldType.int) 0 := ⟨lw_V q1497 q1498 q1499 q169 q1500, (by decide +kernel), (by decide)⟩
theorem msX10_52_J2 : zSF RX10 52 RJ2 ⟨"java/util/List", "size", "()I"⟩ yJ2_size cJ2_size 1 (some Jvm.ClassFile.FieldType.int) 0 := ⟨lw_F q1491 q272 q274 q126 q276, zfw 15 rfl, ⟨11, _, rfl, rfl⟩, (by decide +kernel), (by decide)⟩
theorem msX10_65_J2 : zSF RX10 65 RJ2 ⟨"java/util/List", "get", "(I)Ljava/lang/Object;"⟩ yJ2_get cJ2_get 2 (some (Jvm.ClassFile.FieldType.object "java/lang/Object")) 1 := ⟨lw_F q1493 q1019 q1021 q126 q1023, zfw 8 rfl, ⟨11, _, rfl, rfl⟩, (by decide +kernel), (by decide)⟩
theorem msX10_69 : zSV RX10 69 RJ26 yJ26_intValue cJ26_intValue 1 (some Jvm.ClassFile.FieldType.int) 0 := ⟨lw_V q1488 q1307 q1308 q156 q1309, (by decide +kernel), (by decide)⟩
theorem msX10_80 : zSV RX10 80 RJ20 yJ20_isEmpty cJ20_isEmpty 1 (some Jvm.ClassFile.FieldType.boolean) 0 := ⟨lw_V q1478 q335 q336 q148 q337, (by decide +kernel), (by decide)⟩
theorem msX10_88 : zSV RX10 88 RJ20 yJ20_peek cJ20_peek 1 (some (Jvm.ClassFile.FieldType.object "java/lang/Object")) 0 := ⟨lw_V q1479 q1480 q1481 q148 q1482, (by decide +kernel), (by decide)⟩
theorem msX10_92 : zSN RX10 92 yX1_isNonterminal "SelahGenerator" cX1_isNonterminal 1 (some Jvm.ClassFile.FieldType.boolean) 1 := ⟨q402, q123, zxw 80 rfl, (by decide +kernel), (by decide)⟩
abbrev mX10_expected : zM := (cX10_expected, RX10, 4, (some Jvm.ClassFile.FieldType.int), "expected", [], "()I")
def fX10_expected_123 (t : Nat) (x1 : Int32) (x2 : Int32) (x3 : Int32)  (G : GS) : Option ((Int32 × Int32 × GS) ⊕ ((Int32) × GS)) :=
  some (.inl (x2, (x3 + 1), G))
theorem wfX10_expected_123 {F : zF} (hd : 52 ≤ F.2.2.2) (t : Nat) (x1 : Int32) (x2 : Int32) (x3 : Int32)  (G : GS) {a : (Int32 × Int32 × GS) ⊕ ((Int32) × GS)} (h : fX10_expected_123 t x1 x2 x3  G = some a) (hk : (zcase (fun s : Int32 × Int32 × GS => J mX10_expected F s.2.2 43 [(0, vR (some t)), (1, vI x1), (2, vI s.1), (3, vI s.2.1)] []) (zKI F)) a) : J mX10_expected F G 123 [(0, vR (some t)), (1, vI x1), (2, vI x2), (3, vI x3)] [] := by
  unfold fX10_expected_123 at h
  refine j_iinc (j := 3) (v := (x3 + 1)) (lv' := [(3, vI (x3 + 1)), (0, vR (some t)), (1, vI x1), (2, vI x2)]) dX10_expected_123 rfl rfl (Nat.le_of_ble_eq_true rfl) rfl ?_
  refine j_goto (tgt := 43) dX10_expected_126 (by decide) ?_
  obtain rfl := Option.some.inj h
  exact J.sub (zall [1, 2, 3, 0] rfl) hk
def fX10_expected_121 (t : Nat) (x1 : Int32) (x3 : Int32) (s0 : Int32) (s1 : Int32) (G : GS) : Option ((Int32 × Int32 × GS) ⊕ ((Int32) × GS)) :=
  fX10_expected_123 t x1 (s0 ||| s1) x3 G
theorem wfX10_expected_121 {F : zF} (hd : 52 ≤ F.2.2.2) (t : Nat) (x1 : Int32) (x3 : Int32) (s0 : Int32) (s1 : Int32) (G : GS) {a : (Int32 × Int32 × GS) ⊕ ((Int32) × GS)} (h : fX10_expected_121 t x1 x3 s0 s1 G = some a) (hk : (zcase (fun s : Int32 × Int32 × GS => J mX10_expected F s.2.2 43 [(0, vR (some t)), (1, vI x1), (2, vI s.1), (3, vI s.2.1)] []) (zKI F)) a) : J mX10_expected F G 121 [(0, vR (some t)), (1, vI x1), (3, vI x3)] [vI s1, vI s0] := by
  unfold fX10_expected_121 at h
  refine j_ior dX10_expected_121 ?_
  refine j_istore_n (lv' := [(2, vI (s0 ||| s1)), (0, vR (some t)), (1, vI x1), (3, vI x3)]) dX10_expected_122 rfl (Nat.le_of_ble_eq_true rfl) rfl ?_
  exact J.sub (zall [1, 2, 0, 3] rfl) (wfX10_expected_123 hd t x1 (s0 ||| s1) x3  G h hk)
def fbX10_expected_43 (t : Nat) (x1 : Int32) (x2 : Int32) (x3 : Int32)  (G : GS) : Option ((Int32 × Int32 × GS) ⊕ ((Int32) × GS)) :=
  (zgR G 9 t 7).bind fun r1 => r1.bind fun a3 => (zgR G 1 a3 0).bind fun r5 => r5.bind fun a7 => zk [12] G a7 <| (fJ2_size_0 a7 G).bind fun v11 => if v11 ≤ x3 then (zo (some (x2, G))) else ((zgR G 9 t 7).bind fun r13 => r13.bind fun a15 => (zgR G 1 a15 0).bind fun r17 => r17.bind fun a19 => zk [12] G a19 <| (fJ2_get_0 a19 x3 G).bind fun r23 => zkq [3] G r23 (r23.bind fun a25 => (zgI G 3 a25 0).bind fun v27 => if v27 = x1 then ((zgI G 9 t 0).bind fun v30 => if v30 = 1 then ((zgR G 9 t 7).bind fun r33 => r33.bind fun a35 => zk [1] G a35 <| zb2 (fX1_sets_0 a35 G) fun r39 G40 => r39.bind fun a41 => (zgR G40 5 a41 5).bind fun r43 => r43.bind fun a45 => (zaI G40 50 a45 x3).bind fun v47 => fX10_expected_121 t x1 x3 x2 v47 G40) else ((zgR G 9 t 7).bind fun r49 => r49.bind fun a51 => zk [1] G a51 <| zb2 (fX1_pairs_0 a51 G) fun r55 G56 => r55.bind fun a57 => (zgR G56 7 a57 3).bind fun r59 => r59.bind fun a61 => (zaR G56 55 a61 x3).bind fun r63 => r63.bind fun a65 => zk [8] G56 a65 <| (fX8_firstTokens_0 a65 G56).bind fun v69 => fX10_expected_121 t x1 x3 x2 v69 G56)) else (fX10_expected_123 t x1 x2 x3 G)))
def flX10_expected_43 (t : Nat) (x1 : Int32) (x2 : Int32) (x3 : Int32) (G : GS) : Option ((Int32) × GS) := zloop (fun s : Int32 × Int32 × GS => fbX10_expected_43 t x1 s.1 s.2.1 s.2.2) (x2, x3, G)
theorem wfbX10_expected_43 {F : zF} (hd : 52 ≤ F.2.2.2) (t : Nat) (x1 : Int32) (x2 : Int32) (x3 : Int32) (G : GS) {a : (Int32 × Int32 × GS) ⊕ ((Int32) × GS)} (h : fbX10_expected_43 t x1 x2 x3 G = some a) (hk : (zcase (fun s : Int32 × Int32 × GS => J mX10_expected F s.2.2 43 [(0, vR (some t)), (1, vI x1), (2, vI s.1), (3, vI s.2.1)] []) (zKI F)) a) : J mX10_expected F G 43 [(0, vR (some t)), (1, vI x1), (2, vI x2), (3, vI x3)] [] := by
  unfold fbX10_expected_43 at h
  refine j_iload_n (j := 3) dX10_expected_43 rfl rfl ?_
  refine j_aload_n (j := 0) dX10_expected_44 rfl rfl ?_
  replace h := zbE h
  obtain ⟨r1, e2, h⟩ := h
  refine j_getR fgX10_3 (fun _ _ _ => rfl) dX10_expected_45 e2 ?_
  replace h := zbE h
  obtain ⟨a3, e4, h⟩ := h
  subst e4
  replace h := zbE h
  obtain ⟨r5, e6, h⟩ := h
  refine j_getR fgX10_134 (fun _ _ _ => rfl) dX10_expected_48 e6 ?_
  replace h := zbE h
  obtain ⟨a7, e8, h⟩ := h
  subst e8
  replace h := zkE h
  obtain ⟨e9, h⟩ := h
  replace h := zbE h
  obtain ⟨v11, e10, h⟩ := h
  refine j_cont (zrF (As := []) msX10_52_J2 (yJ2_size_ok e10) (Nat.le_trans (Nat.le_of_ble_eq_true rfl) hd) (zk_12 _ e9) rfl rfl (Nat.le_of_ble_eq_true rfl) dX10_expected_51) ?_
  refine j_icmp_ge (tgt := 129) dX10_expected_56 (by decide) (fun c12 => ?_) (fun c12 => ?_)
  · rw [if_pos c12] at h
    replace h := zoE h
    obtain ⟨a, h, rfl⟩ := h
    replace hk := hk
    refine j_iload_n (j := 2) dX10_expected_129 rfl rfl ?_
    obtain rfl := Option.some.inj h
    exact j_iret hk.1 hk.2 rfl dX10_expected_130
  · rw [if_neg c12] at h
    refine j_aload_n (j := 0) dX10_expected_59 rfl rfl ?_
    replace h := zbE h
    obtain ⟨r13, e14, h⟩ := h
    refine j_getR fgX10_3 (fun _ _ _ => rfl) dX10_expected_60 e14 ?_
    replace h := zbE h
    obtain ⟨a15, e16, h⟩ := h
    subst e16
    replace h := zbE h
    obtain ⟨r17, e18, h⟩ := h
    refine j_getR fgX10_134 (fun _ _ _ => rfl) dX10_expected_63 e18 ?_
    refine j_iload_n (j := 3) dX10_expected_66 rfl rfl ?_
    replace h := zbE h
    obtain ⟨a19, e20, h⟩ := h
    subst e20
    replace h := zkE h
    obtain ⟨e21, h⟩ := h
    replace h := zbE h
    obtain ⟨r23, e22, h⟩ := h
    refine j_cont (zrF (As := [vI x3]) msX10_65_J2 (yJ2_get_ok e22) (Nat.le_trans (Nat.le_of_ble_eq_true rfl) hd) (zk_12 _ e21) rfl rfl (Nat.le_of_ble_eq_true rfl) dX10_expected_67) ?_
    replace h := zkqE h
    obtain ⟨e24, h⟩ := h
    refine j_castq (fun k => j_castN dX10_expected_72 k) (fun b q70 k => j_castS (zk_3 _ (e24 b q70)) ⟨2, _, rfl, rfl⟩ q1494 dX10_expected_72 k) ?_
    replace h := zbE h
    obtain ⟨a25, e26, h⟩ := h
    subst e26
    replace h := zbE h
    obtain ⟨v27, e28, h⟩ := h
    refine j_getI fgX10_142 (fun _ _ _ => rfl) dX10_expected_75 e28 ?_
    refine j_iload_n (j := 1) dX10_expected_78 rfl rfl ?_
    refine j_icmp_ne (tgt := 123) dX10_expected_79 (by decide) (fun c29 => ?_) (fun c29 => ?_)
    · rw [if_pos c29] at h
      refine j_iload_n (j := 2) dX10_expected_82 rfl rfl ?_
      refine j_aload_n (j := 0) dX10_expected_83 rfl rfl ?_
      replace h := zbE h
      obtain ⟨v30, e31, h⟩ := h
      refine j_getI fgX10_39 (fun _ _ _ => rfl) dX10_expected_84 e31 ?_
      refine j_iconst (v := 1) dX10_expected_87 (by decide) ?_
      refine j_icmp_ne (tgt := 106) dX10_expected_88 (by decide) (fun c32 => ?_) (fun c32 => ?_)
      · rw [if_pos c32] at h
        refine j_aload_n (j := 0) dX10_expected_91 rfl rfl ?_
        replace h := zbE h
        obtain ⟨r33, e34, h⟩ := h
        refine j_getR fgX10_3 (fun _ _ _ => rfl) dX10_expected_92 e34 ?_
        replace h := zbE h
        obtain ⟨a35, e36, h⟩ := h
        subst e36
        replace h := zkE h
        obtain ⟨e37, h⟩ := h
        replace h := zb2E h
        obtain ⟨r39, G40, e38, h⟩ := h
        refine j_cont (zrVN (As := []) msX10_108 ⟨q412, qs0⟩ (yX1_sets_ok e38) (Nat.le_trans (Nat.le_of_ble_eq_true rfl) hd) (zk_1 _ e37) rfl rfl (Nat.le_of_ble_eq_true rfl) dX10_expected_95) ?_
        replace h := zbE h
        obtain ⟨a41, e42, h⟩ := h
        subst e42
        replace h := zbE h
        obtain ⟨r43, e44, h⟩ := h
        refine j_getR fgX10_145 (fun _ _ _ => rfl) dX10_expected_98 e44 ?_
        refine j_iload_n (j := 3) dX10_expected_101 rfl rfl ?_
        replace h := zbE h
        obtain ⟨a45, e46, h⟩ := h
        subst e46
        replace h := zbE h
        obtain ⟨v47, e48, h⟩ := h
        refine j_iald (Or.inl rfl) e48 dX10_expected_102 ?_
        refine j_goto (tgt := 121) dX10_expected_103 (by decide) ?_
        exact J.sub (zall [0, 1, 3] rfl) (wfX10_expected_121 hd t x1 x3 x2 v47 G40 h hk)
      · rw [if_neg c32] at h
        refine j_aload_n (j := 0) dX10_expected_106 rfl rfl ?_
        replace h := zbE h
        obtain ⟨r49, e50, h⟩ := h
        refine j_getR fgX10_3 (fun _ _ _ => rfl) dX10_expected_107 e50 ?_
        replace h := zbE h
        obtain ⟨a51, e52, h⟩ := h
        subst e52
        replace h := zkE h
        obtain ⟨e53, h⟩ := h
        replace h := zb2E h
        obtain ⟨r55, G56, e54, h⟩ := h
        refine j_cont (zrVN (As := []) msX10_118 ⟨q1320, qs20⟩ (yX1_pairs_ok e54) (Nat.le_trans (Nat.le_of_ble_eq_true rfl) hd) (zk_1 _ e53) rfl rfl (Nat.le_of_ble_eq_true rfl) dX10_expected_110) ?_
        replace h := zbE h
        obtain ⟨a57, e58, h⟩ := h
        subst e58
        replace h := zbE h
        obtain ⟨r59, e60, h⟩ := h
        refine j_getR fgX10_148 (fun _ _ _ => rfl) dX10_expected_113 e60 ?_
        refine j_iload_n (j := 3) dX10_expected_116 rfl rfl ?_
        replace h := zbE h
        obtain ⟨a61, e62, h⟩ := h
        subst e62
        replace h := zbE h
        obtain ⟨r63, e64, h⟩ := h
        refine j_aald (Or.inr (Or.inl rfl)) e64 dX10_expected_117 ?_
        replace h := zbE h
        obtain ⟨a65, e66, h⟩ := h
        subst e66
        replace h := zkE h
        obtain ⟨e67, h⟩ := h
        replace h := zbE h
        obtain ⟨v69, e68, h⟩ := h
        refine j_cont (zrV (As := []) msX10_151 (yX8_firstTokens_ok e68) (Nat.le_trans (Nat.le_of_ble_eq_true rfl) hd) (zk_8 _ e67) rfl rfl (Nat.le_of_ble_eq_true rfl) dX10_expected_118) ?_
        exact J.sub (zall [0, 1, 3] rfl) (wfX10_expected_121 hd t x1 x3 x2 v69 G56 h hk)
    · rw [if_neg c29] at h
      exact J.sub (zall [0, 1, 2, 3] rfl) (wfX10_expected_123 hd t x1 x2 x3  G h hk)
theorem wflX10_expected_43 {F : zF} (hd : 52 ≤ F.2.2.2) (t : Nat) (x1 : Int32) (x2 : Int32) (x3 : Int32) (G : GS) {a : (Int32) × GS} (h : flX10_expected_43 t x1 x2 x3 G = some a) (hk : zKI F a) : J mX10_expected F G 43 [(0, vR (some t)), (1, vI x1), (2, vI x2), (3, vI x3)] [] := by
  unfold flX10_expected_43 at h
  exact zloop_walk (P := (fun s : Int32 × Int32 × GS => J mX10_expected F s.2.2 43 [(0, vR (some t)), (1, vI x1), (2, vI s.1), (3, vI s.2.1)] [])) (fun s b e hk => wfbX10_expected_43 hd t x1 s.1 s.2.1 s.2.2 e hk) (x2, x3, G) _ h hk
def fX10_expected_0 (t : Nat)  (G : GS) : Option ((Int32) × GS) :=
  (zgR G 9 t 1).bind fun r1 => r1.bind fun a3 => zk [14] G a3 <| (fJ20_isEmpty_0 a3 G).bind fun v7 => if v7 = 0 then ((zgR G 9 t 1).bind fun r9 => r9.bind fun a11 => zk [14] G a11 <| (fJ20_peek_0 a11 G).bind fun r15 => zkq [21, 61] G r15 (r15.bind fun a17 => zk [21, 61] G a17 <| (fJ26_intValue_0 a17 G).bind fun v21 => (fX1_isNonterminal_0 v21 G).bind fun v23 => if v23 = 0 then (some (((1 : Int32) <<< (v21 &&& 31)), G)) else (flX10_expected_43 t v21 0 0 G))) else (some (4096, G))
theorem wfX10_expected_0 {F : zF} (hd : 52 ≤ F.2.2.2) (t : Nat)  (G : GS) {a : (Int32) × GS} (h : fX10_expected_0 t  G = some a) (hk : zKI F a) : J mX10_expected F G 0 [(0, vR (some t))] [] := by
  unfold fX10_expected_0 at h
  refine j_aload_n (j := 0) dX10_expected_0 rfl rfl ?_
  replace h := zbE h
  obtain ⟨r1, e2, h⟩ := h
  refine j_getR fgX10_18 (fun _ _ _ => rfl) dX10_expected_1 e2 ?_
  replace h := zbE h
  obtain ⟨a3, e4, h⟩ := h
  subst e4
  replace h := zkE h
  obtain ⟨e5, h⟩ := h
  replace h := zbE h
  obtain ⟨v7, e6, h⟩ := h
  refine j_cont (zrV (As := []) msX10_80 (yJ20_isEmpty_ok e6) (Nat.le_trans (Nat.le_of_ble_eq_true rfl) hd) (zk_14 _ e5) rfl rfl (Nat.le_of_ble_eq_true rfl) dX10_expected_4) ?_
  refine j_if_eq (tgt := 14) dX10_expected_7 (by decide) (fun c8 => ?_) (fun c8 => ?_)
  · rw [if_pos c8] at h
    refine j_aload_n (j := 0) dX10_expected_14 rfl rfl ?_
    replace h := zbE h
    obtain ⟨r9, e10, h⟩ := h
    refine j_getR fgX10_18 (fun _ _ _ => rfl) dX10_expected_15 e10 ?_
    replace h := zbE h
    obtain ⟨a11, e12, h⟩ := h
    subst e12
    replace h := zkE h
    obtain ⟨e13, h⟩ := h
    replace h := zbE h
    obtain ⟨r15, e14, h⟩ := h
    refine j_cont (zrV (As := []) msX10_88 (yJ20_peek_ok e14) (Nat.le_trans (Nat.le_of_ble_eq_true rfl) hd) (zk_14 _ e13) rfl rfl (Nat.le_of_ble_eq_true rfl) dX10_expected_18) ?_
    replace h := zkqE h
    obtain ⟨e16, h⟩ := h
    refine j_castq (fun k => j_castN dX10_expected_21 k) (fun b q25 k => j_castS (zk_21_61 _ (e16 b q25)) ⟨20, _, rfl, rfl⟩ q1487 dX10_expected_21 k) ?_
    replace h := zbE h
    obtain ⟨a17, e18, h⟩ := h
    subst e18
    replace h := zkE h
    obtain ⟨e19, h⟩ := h
    replace h := zbE h
    obtain ⟨v21, e20, h⟩ := h
    refine j_cont (zrV (As := []) msX10_69 (yJ26_intValue_ok e20) (Nat.le_trans (Nat.le_of_ble_eq_true rfl) hd) (zk_21_61 _ e19) rfl rfl (Nat.le_of_ble_eq_true rfl) dX10_expected_24) ?_
    refine j_istore_n (lv' := [(1, vI v21), (0, vR (some t))]) dX10_expected_27 rfl (Nat.le_of_ble_eq_true rfl) rfl ?_
    refine j_iconst (v := 0) dX10_expected_28 (by decide) ?_
    refine j_istore_n (lv' := [(2, vI 0), (1, vI v21), (0, vR (some t))]) dX10_expected_29 rfl (Nat.le_of_ble_eq_true rfl) rfl ?_
    refine j_iload_n (j := 1) dX10_expected_30 rfl rfl ?_
    replace h := zbE h
    obtain ⟨v23, e22, h⟩ := h
    refine j_cont (zrSN (As := [vI v21]) msX10_92 q401 (yX1_isNonterminal_ok e22) (Nat.le_trans (Nat.le_of_ble_eq_true rfl) hd) rfl rfl (Nat.le_of_ble_eq_true rfl) dX10_expected_31) ?_
    refine j_if_ne (tgt := 41) dX10_expected_34 (by decide) (fun c24 => ?_) (fun c24 => ?_)
    · rw [if_pos c24] at h
      refine j_iconst (v := 1) dX10_expected_37 (by decide) ?_
      refine j_iload_n (j := 1) dX10_expected_38 rfl rfl ?_
      refine j_ishl dX10_expected_39 ?_
      obtain rfl := Option.some.inj h
      exact j_iret hk.1 hk.2 rfl dX10_expected_40
    · rw [if_neg c24] at h
      refine j_iconst (v := 0) dX10_expected_41 (by decide) ?_
      refine j_istore_n (lv' := [(3, vI 0), (2, vI 0), (1, vI v21), (0, vR (some t))]) dX10_expected_42 rfl (Nat.le_of_ble_eq_true rfl) rfl ?_
      exact J.sub (zall [3, 2, 1, 0] rfl) (wflX10_expected_43 hd t v21 0 0  G h hk)
  · rw [if_neg c8] at h
    refine j_sipush (v := 4096) dX10_expected_10 (by decide) ?_
    obtain rfl := Option.some.inj h
    exact j_iret hk.1 hk.2 rfl dX10_expected_13
theorem yX10_expected_ok {t : Nat} {G : GS} {r : Int32} {G1 : GS} (h : fX10_expected_0 t G = some (r, G1)) : zRuns yX10_expected (ws_ yX10_expected cX10_expected 4 (some Jvm.ClassFile.FieldType.int)) [vR (some t)] (.inl (some (vI r)), G, G1, 52) :=
  zentry (M := mX10_expected) (plainFor_of_name (by decide +kernel)) ⟨rfl, rfl, rfl, rfl⟩ (Nat.le_of_ble_eq_true rfl) (wfX10_expected_0 (Nat.le_refl _) t G h ⟨rfl, rfl⟩)
theorem zk_9 : ∀ k, [9].contains k = true → zKc k = some "SelahGenerator$Parse" := fun k h => by rw [zKc_one h]; rfl
theorem msX1_241 : zSV RX1 241 RX10 yX10_expected cX10_expected 4 (some Jvm.ClassFile.FieldType.int) 0 := ⟨lw_V q1474 q1475 q1476 q171 q1477, (by decide +kernel), (by decide)⟩
abbrev mX1_expected : zM := (cX1_expected, RX1, 1, (some Jvm.ClassFile.FieldType.int), "expected", [], "()I")
def fX1_expected_0 (t : Nat)  (G : GS) : Option ((Int32) × GS) :=
  (zgR G 1 t 3).bind fun r1 => zopt r1 (some (0, G)) (fun a3 => (zgR G 1 t 3).bind fun r4 => r4.bind fun a6 => zk [9] G a6 <| zb2 (fX10_expected_0 a6 G) fun v10 G11 => some (v10, G11))
theorem wfX1_expected_0 {F : zF} (hd : 53 ≤ F.2.2.2) (t : Nat)  (G : GS) {a : (Int32) × GS} (h : fX1_expected_0 t  G = some a) (hk : zKI F a) : J mX1_expected F G 0 [(0, vR (some t))] [] := by
  unfold fX1_expected_0 at h
  refine j_aload_n (j := 0) dX1_expected_0 rfl rfl ?_
  replace h := zbE h
  obtain ⟨r1, e2, h⟩ := h
  refine j_getR fgX1_43 (fun _ _ _ => rfl) dX1_expected_1 e2 ?_
  rcases r1 with _ | a3
  · replace h := zopt_n h
    refine j_ifnonnull0 dX1_expected_4 ?_
    refine j_iconst (v := 0) dX1_expected_7 (by decide) ?_
    refine j_goto (tgt := 18) dX1_expected_8 (by decide) ?_
    obtain rfl := Option.some.inj h
    exact j_iret hk.1 hk.2 rfl dX1_expected_18
  · replace h := zopt_s h
    refine j_ifnonnull1 (tgt := 11) dX1_expected_4 (by decide) ?_
    refine j_aload_n (j := 0) dX1_expected_11 rfl rfl ?_
    replace h := zbE h
    obtain ⟨r4, e5, h⟩ := h
    refine j_getR fgX1_43 (fun _ _ _ => rfl) dX1_expected_12 e5 ?_
    replace h := zbE h
    obtain ⟨a6, e7, h⟩ := h
    subst e7
    replace h := zkE h
    obtain ⟨e8, h⟩ := h
    replace h := zb2E h
    obtain ⟨v10, G11, e9, h⟩ := h
    refine j_cont (zrV (As := []) msX1_241 (yX10_expected_ok e9) (Nat.le_trans (Nat.le_of_ble_eq_true rfl) hd) (zk_9 _ e8) rfl rfl (Nat.le_of_ble_eq_true rfl) dX1_expected_15) ?_
    obtain rfl := Option.some.inj h
    exact j_iret hk.1 hk.2 rfl dX1_expected_18
theorem yX1_expected_ok {t : Nat} {G : GS} {r : Int32} {G1 : GS} (h : fX1_expected_0 t G = some (r, G1)) : zRuns yX1_expected (ws_ yX1_expected cX1_expected 1 (some Jvm.ClassFile.FieldType.int)) [vR (some t)] (.inl (some (vI r)), G, G1, 53) :=
  zentry (M := mX1_expected) (plainFor_of_name (by decide +kernel)) ⟨rfl, rfl, rfl, rfl⟩ (Nat.le_of_ble_eq_true rfl) (wfX1_expected_0 (Nat.le_refl _) t G h ⟨rfl, rfl⟩)
abbrev mJ2_toArray : zM := (cJ2_toArray, RJ2, 1, (some (Jvm.ClassFile.FieldType.array (Jvm.ClassFile.FieldType.object "java/lang/Object"))), "toArray", [], "()[Ljava/lang/Object;")
def fJ2_toArray_0 (t : Nat)  (G : GS) : Option ((Option Nat) × GS) :=
  (zgR G 12 t 1).bind fun r1 => (zgI G 12 t 2).bind fun v3 => zb2 (fJ15_copyOf_0 r1 v3 G) fun r6 G7 => some (r6, G7)
theorem wfJ2_toArray_0 {F : zF} (hd : 4 ≤ F.2.2.2) (t : Nat)  (G : GS) {a : (Option Nat) × GS} (h : fJ2_toArray_0 t  G = some a) (hk : zKR F a) : J mJ2_toArray F G 0 [(0, vR (some t))] [] := by
  unfold fJ2_toArray_0 at h
  refine j_aload_n (j := 0) dJ2_toArray_0 rfl rfl ?_
  replace h := zbE h
  obtain ⟨r1, e2, h⟩ := h
  refine j_getR fgJ2_9 (fun _ _ _ => rfl) dJ2_toArray_1 e2 ?_
  refine j_aload_n (j := 0) dJ2_toArray_4 rfl rfl ?_
  replace h := zbE h
  obtain ⟨v3, e4, h⟩ := h
  refine j_getI fgJ2_48 (fun _ _ _ => rfl) dJ2_toArray_5 e4 ?_
  replace h := zb2E h
  obtain ⟨r6, G7, e5, h⟩ := h
  refine j_cont (zrS (As := [vR r1, vI v3]) msJ2_66 (yJ15_copyOf_ok e5) (Nat.le_trans (Nat.le_of_ble_eq_true rfl) hd) rfl rfl (Nat.le_of_ble_eq_true rfl) dJ2_toArray_8) ?_
  obtain rfl := Option.some.inj h
  exact j_aret hk.1 hk.2 rfl (Or.inr ⟨_, rfl⟩) dJ2_toArray_11
theorem yJ2_toArray_ok {t : Nat} {G : GS} {r : Option Nat} {G1 : GS} (h : fJ2_toArray_0 t G = some (r, G1)) : zRuns yJ2_toArray (ws_ yJ2_toArray cJ2_toArray 1 (some (Jvm.ClassFile.FieldType.array (Jvm.ClassFile.FieldType.object "java/lang/Object")))) [vR (some t)] (.inl (some (vR r)), G, G1, 4) :=
  zentry (M := mJ2_toArray) (plainFor_of_name (by decide +kernel)) ⟨rfl, rfl, rfl, rfl⟩ (Nat.le_of_ble_eq_true rfl) (wfJ2_toArray_0 (Nat.le_refl _) t G h ⟨rfl, rfl⟩)
theorem msJ2_42_J2 : zSF RJ2 42 RJ2 ⟨"java/util/Collection", "toArray", "()[Ljava/lang/Object;"⟩ yJ2_toArray cJ2_toArray 1 (some (Jvm.ClassFile.FieldType.array (Jvm.ClassFile.FieldType.object "java/lang/Object"))) 0 := ⟨lw_F q1980 q2155 q2157 q126 q2159, zfw 3 rfl, ⟨11, _, rfl, rfl⟩, (by decide +kernel), (by decide)⟩
theorem msJ2_57 : zSS RJ2 57 yJ15_copyOf_2 cJ15_copyOf_2 4 (some (Jvm.ClassFile.FieldType.array (Jvm.ClassFile.FieldType.object "java/lang/Object"))) 3 := ⟨lw_S q2198 q809 q141 q810, (by decide +kernel), (by decide)⟩
abbrev mJ2_init_2 : zM := (cJ2_init_2, RJ2, 3, none, "<init>", [], "(Ljava/util/Collection;)V")
def fJ2_init_2_0 (t : Nat) (x1 : Option Nat)  (G : GS) : Option (GS) :=
  (fJ1_init_0 t G).bind fun G2 => x1.bind fun a3 => zk [12] G2 a3 <| zb2 (fJ2_toArray_0 a3 G2) fun r7 G8 => r7.bind fun a9 => (zln G8 a9).bind fun v11 => (zpI G8 12 t 2 v11).bind fun G13 => if v11 = 0 then ((zpR G13 12 t 1 (some (gS G13 1))).bind fun G16 => some G16) else (zk [12] G13 a3 <| if (some (gS G13 10)) = (some (gS G13 10)) then ((zpR G13 12 t 1 (some a9)).bind fun G20 => some G20) else ((zgI G13 12 t 2).bind fun v22 => zb2 (fJ15_copyOf_2_0 (some a9) v22 (some (gS G13 11)) G13) fun r25 G26 => (zpR G26 12 t 1 r25).bind fun G27 => some G27))
theorem wfJ2_init_2_0 {F : zF} (hd : 5 ≤ F.2.2.2) (t : Nat) (x1 : Option Nat)  (G : GS) {a : GS} (h : fJ2_init_2_0 t x1  G = some a) (hk : zKV F a) : J mJ2_init_2 F G 0 [(0, vR (some t)), (1, vR x1)] [] := by
  unfold fJ2_init_2_0 at h
  refine j_aload_n (j := 0) dJ2_init_2_0 rfl rfl ?_
  replace h := zbE h
  obtain ⟨G2, e1, h⟩ := h
  refine j_cont (zrI (As := []) msJ2_1 (yJ1_init_ok e1) (Nat.le_trans (Nat.le_of_ble_eq_true rfl) hd) rfl rfl (Nat.le_of_ble_eq_true rfl) dJ2_init_2_1) ?_
  refine j_aload_n (j := 1) dJ2_init_2_4 rfl rfl ?_
  replace h := zbE h
  obtain ⟨a3, e4, h⟩ := h
  subst e4
  replace h := zkE h
  obtain ⟨e5, h⟩ := h
  replace h := zb2E h
  obtain ⟨r7, G8, e6, h⟩ := h
  refine j_cont (zrF (As := []) msJ2_42_J2 (yJ2_toArray_ok e6) (Nat.le_trans (Nat.le_of_ble_eq_true rfl) hd) (zk_12 _ e5) rfl rfl (Nat.le_of_ble_eq_true rfl) dJ2_init_2_5) ?_
  refine j_astore_n (lv' := [(2, vR r7), (0, vR (some t)), (1, vR (some a3))]) dJ2_init_2_10 rfl (Nat.le_of_ble_eq_true rfl) rfl ?_
  refine j_aload_n (j := 1) dJ2_init_2_11 rfl rfl ?_
  refine j_aload_n (j := 0) dJ2_init_2_12 rfl rfl ?_
  replace h := zbE h
  obtain ⟨a9, e10, h⟩ := h
  subst e10
  replace h := zbE h
  obtain ⟨v11, e12, h⟩ := h
  refine j_alen e12 dJ2_init_2_13 ?_
  refine j_dup_x1 dJ2_init_2_14 rfl rfl ?_
  replace h := zbE h
  obtain ⟨G13, e14, h⟩ := h
  refine j_putI fpJ2_48_J2 (Or.inl rfl) rfl dJ2_init_2_15 e14 ?_
  refine j_if_eq (tgt := 57) dJ2_init_2_18 (by decide) (fun c15 => ?_) (fun c15 => ?_)
  · rw [if_pos c15] at h
    refine j_aload_n (j := 1) dJ2_init_2_57 rfl rfl ?_
    refine j_gets (i := 1) (x := vR (some (gS G13 1))) rfl rfl q2199 dJ2_init_2_58 ?_
    replace h := zbE h
    obtain ⟨G16, e17, h⟩ := h
    refine j_putR fpJ2_9_J2 (Or.inl rfl) (Or.inr ⟨_, rfl⟩) dJ2_init_2_61 e17 ?_
    obtain rfl := Option.some.inj h
    exact j_vret hk.1 hk.2 rfl dJ2_init_2_64
  · rw [if_neg c15] at h
    refine j_aload_n (j := 2) dJ2_init_2_21 rfl rfl ?_
    replace h := zkE h
    obtain ⟨e18, h⟩ := h
    refine j_getCI (zKc_one e18) q2188 (zxw 42 rfl) q798 q774 q807 (zxw 18 rfl) (Nat.le_trans (Nat.le_of_ble_eq_true rfl) hd) (Nat.le_of_ble_eq_true rfl) dJ2_init_2_22 ?_
    refine j_ldcM (i := 10) (Or.inl ⟨rfl, rfl⟩) q2196 dJ2_init_2_27 ?_
    refine j_acmp_ne (tgt := 40) dJ2_init_2_29 (by decide) (fun c19 => ?_) (fun c19 => ?_)
    · rw [if_pos c19] at h
      refine j_aload_n (j := 1) dJ2_init_2_32 rfl rfl ?_
      refine j_aload_n (j := 0) dJ2_init_2_33 rfl rfl ?_
      replace h := zbE h
      obtain ⟨G20, e21, h⟩ := h
      refine j_putR fpJ2_9_J2 (Or.inl rfl) (Or.inr ⟨_, rfl⟩) dJ2_init_2_34 e21 ?_
      refine j_goto (tgt := 64) dJ2_init_2_37 (by decide) ?_
      obtain rfl := Option.some.inj h
      exact j_vret hk.1 hk.2 rfl dJ2_init_2_64
    · rw [if_neg c19] at h
      refine j_aload_n (j := 1) dJ2_init_2_40 rfl rfl ?_
      refine j_aload_n (j := 0) dJ2_init_2_41 rfl rfl ?_
      refine j_aload_n (j := 1) dJ2_init_2_42 rfl rfl ?_
      replace h := zbE h
      obtain ⟨v22, e23, h⟩ := h
      refine j_getI fgJ2_48 (fun _ _ _ => rfl) dJ2_init_2_43 e23 ?_
      refine j_ldcM (i := 11) (Or.inr ⟨rfl, rfl⟩) q2197 dJ2_init_2_46 ?_
      replace h := zb2E h
      obtain ⟨r25, G26, e24, h⟩ := h
      refine j_cont (zrS (As := [vR (some a9), vI v22, vR (some (gS G13 11))]) msJ2_57 (yJ15_copyOf_2_ok e24) (Nat.le_trans (Nat.le_of_ble_eq_true rfl) hd) rfl rfl (Nat.le_of_ble_eq_true rfl) dJ2_init_2_48) ?_
      replace h := zbE h
      obtain ⟨G27, e28, h⟩ := h
      refine j_putR fpJ2_9_J2 (Or.inl rfl) (Or.inr ⟨_, rfl⟩) dJ2_init_2_51 e28 ?_
      refine j_goto (tgt := 64) dJ2_init_2_54 (by decide) ?_
      obtain rfl := Option.some.inj h
      exact j_vret hk.1 hk.2 rfl dJ2_init_2_64
theorem yJ2_init_2_ok {t : Nat} {x1 : Option Nat} {G : GS} {G1 : GS} (h : fJ2_init_2_0 t x1 G = some G1) : zRuns yJ2_init_2 (ws_ yJ2_init_2 cJ2_init_2 3 none) [vR (some t), vR x1] (.inl none, G, G1, 5) :=
  zentry (M := mJ2_init_2) (plainFor_of_name (by decide +kernel)) ⟨rfl, rfl, rfl, rfl⟩ (Nat.le_of_ble_eq_true rfl) (wfJ2_init_2_0 (Nat.le_refl _) t x1 G h ⟨rfl, rfl⟩)
end
