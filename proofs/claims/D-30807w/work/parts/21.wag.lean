/-! printed: functions and walks -/
set_option maxRecDepth 100000
noncomputable section
abbrev mX12_count : zM := (cX12_count, RX12, 1, (some Jvm.ClassFile.FieldType.int), "count", [], "()I")
def fX12_count_0 (t : Nat)  (G : GS) : Option ((Int32) × GS) :=
  (zgR G 11 t 0).bind fun r1 => r1.bind fun a3 => zk [12] G a3 <| (fJ2_size_0 a3 G).bind fun v7 => zk [11] G t <| zb2 (fX12_W 210 t 20 0 v7 G) fun v10 G11 => some (v10, G11)
theorem wfX12_count_0 {F : zF} (hd : 901 ≤ F.2.2.2) (t : Nat)  (G : GS) {a : (Int32) × GS} (h : fX12_count_0 t  G = some a) (hk : zKI F a) : J mX12_count F G 0 [(0, vR (some t))] [] := by
  unfold fX12_count_0 at h
  refine j_aload_n (j := 0) dX12_count_0 rfl rfl ?_
  refine j_bipush (v := 20) dX12_count_1 (by decide) ?_
  refine j_iconst (v := 0) dX12_count_3 (by decide) ?_
  refine j_aload_n (j := 0) dX12_count_4 rfl rfl ?_
  replace h := zbE h
  obtain ⟨r1, e2, h⟩ := h
  refine j_getR fgX12_15 (fun _ _ _ => rfl) dX12_count_5 e2 ?_
  replace h := zbE h
  obtain ⟨a3, e4, h⟩ := h
  subst e4
  replace h := zkE h
  obtain ⟨e5, h⟩ := h
  replace h := zbE h
  obtain ⟨v7, e6, h⟩ := h
  refine j_cont (zrF (As := []) msX12_29_J2 (yJ2_size_ok e6) (Nat.le_trans (Nat.le_of_ble_eq_true rfl) hd) (zk_12 _ e5) rfl rfl (Nat.le_of_ble_eq_true rfl) dX12_count_8) ?_
  replace h := zkE h
  obtain ⟨e8, h⟩ := h
  replace h := zb2E h
  obtain ⟨v10, G11, e9, h⟩ := h
  refine j_cont (zrV (As := [vI 20, vI 0, vI v7]) msX12_35 (yX12_W_ok 210 e9) (Nat.le_trans (Nat.le_of_ble_eq_true rfl) hd) (zk_11 _ e8) rfl rfl (Nat.le_of_ble_eq_true rfl) dX12_count_13) ?_
  obtain rfl := Option.some.inj h
  exact j_iret hk.1 hk.2 rfl dX12_count_16
theorem yX12_count_ok {t : Nat} {G : GS} {r : Int32} {G1 : GS} (h : fX12_count_0 t G = some (r, G1)) : zRuns yX12_count (ws_ yX12_count cX12_count 1 (some Jvm.ClassFile.FieldType.int)) [vR (some t)] (.inl (some (vI r)), G, G1, 901) :=
  zentry (M := mX12_count) (plainFor_of_name (by decide +kernel)) ⟨rfl, rfl, rfl, rfl⟩ (Nat.le_of_ble_eq_true rfl) (wfX12_count_0 (Nat.le_refl _) t G h ⟨rfl, rfl⟩)
theorem msX1_271 : zSV RX1 271 RX1 yX1_canCount cX1_canCount 2 (some Jvm.ClassFile.FieldType.boolean) 0 := ⟨lw_V q1521 q1523 qs26 q123 q1524, (by decide +kernel), (by decide)⟩
theorem msX1_276 : zSI RX1 276 yX12_init cX12_init 3 2 := ⟨q1555, q173, q1553, q1554, rfl, (by decide +kernel), (by decide)⟩
theorem msX1_279 : zSV RX1 279 RX12 yX12_count cX12_count 1 (some Jvm.ClassFile.FieldType.int) 0 := ⟨lw_V q1568 q1569 q1570 q173 q1571, (by decide +kernel), (by decide)⟩
abbrev mX1_derivations : zM := (cX1_derivations, RX1, 1, (some Jvm.ClassFile.FieldType.int), "derivations", [], "()I")
def fX1_derivations_0 (t : Nat)  (G : GS) : Option (((Int32) ⊕ String) × GS) :=
  zk [1] G t <| zb2 (fX1_canCount_0 t G) fun v3 G4 => zb3 (fX1_may_0 v3 G4) (fun u9 G6 => zl (al G6 11 0 3) fun G10 => (zgR G10 1 t 3).bind fun r12 => r12.bind fun a14 => (zgR G10 9 a14 2).bind fun r16 => (fX12_init_0 (gz G6) (some t) r16 G10).bind fun G19 => zk [11] G19 (gz G6) <| zb2 (fX12_count_0 (gz G6) G19) fun v22 G23 => some (.inl v22, G23)) (fun X7 G8 => some (.inr X7, G8))
theorem wfX1_derivations_0 {F : zF} (hd : 902 ≤ F.2.2.2) (t : Nat)  (G : GS) {a : ((Int32) ⊕ String) × GS} (h : fX1_derivations_0 t  G = some a) (hk : zKXI F a) : J mX1_derivations F G 0 [(0, vR (some t))] [] := by
  unfold fX1_derivations_0 at h
  refine j_aload_n (j := 0) dX1_derivations_0 rfl rfl ?_
  replace h := zkE h
  obtain ⟨e1, h⟩ := h
  replace h := zb2E h
  obtain ⟨v3, G4, e2, h⟩ := h
  refine j_cont (zrV (As := []) msX1_271 (yX1_canCount_ok e2) (Nat.le_trans (Nat.le_of_ble_eq_true rfl) hd) (zk_1 _ e1) rfl rfl (Nat.le_of_ble_eq_true rfl) dX1_derivations_1) ?_
  replace h := zb3E h
  rcases h with ⟨u9, G6, e5, h⟩ | ⟨X7, G8, e5, h⟩
  · refine j_cont (zrS (As := [vI v3]) msX1_79 (yX1_may_ok e5) (Nat.le_trans (Nat.le_of_ble_eq_true rfl) hd) rfl rfl (Nat.le_of_ble_eq_true rfl) dX1_derivations_4) ?_
    replace h := zlE h
    obtain ⟨G10, e11, h⟩ := h
    refine j_new (c := 10) (n := 3) (r := (RX12, TX12, 3, tyX12)) rfl rfl in_X12 tyX12_ok nwX12 q1551 q1552 q173 dX1_derivations_7 ?_
    rw [show al G6 (10 + 1) 0 3 = G10 from e11.symm]
    refine j_dup dX1_derivations_10 rfl ?_
    refine j_aload_n (j := 0) dX1_derivations_11 rfl rfl ?_
    refine j_aload_n (j := 0) dX1_derivations_12 rfl rfl ?_
    replace h := zbE h
    obtain ⟨r12, e13, h⟩ := h
    refine j_getR fgX1_43 (fun _ _ _ => rfl) dX1_derivations_13 e13 ?_
    replace h := zbE h
    obtain ⟨a14, e15, h⟩ := h
    subst e15
    replace h := zbE h
    obtain ⟨r16, e17, h⟩ := h
    refine j_getR fgX1_210 (fun _ _ _ => rfl) dX1_derivations_16 e17 ?_
    replace h := zbE h
    obtain ⟨G19, e18, h⟩ := h
    refine j_cont (zrI (As := [vR (some t), vR r16]) msX1_276 (yX12_init_ok e18) (Nat.le_trans (Nat.le_of_ble_eq_true rfl) hd) rfl rfl (Nat.le_of_ble_eq_true rfl) dX1_derivations_19) ?_
    replace h := zkE h
    obtain ⟨e20, h⟩ := h
    replace h := zb2E h
    obtain ⟨v22, G23, e21, h⟩ := h
    refine j_cont (zrV (As := []) msX1_279 (yX12_count_ok e21) (Nat.le_trans (Nat.le_of_ble_eq_true rfl) hd) (zk_11 _ e20) rfl rfl (Nat.le_of_ble_eq_true rfl) dX1_derivations_22) ?_
    obtain rfl := Option.some.inj h
    exact j_iret hk.1 hk.2 rfl dX1_derivations_25
  · refine j_thr (zrS (As := [vI v3]) msX1_79 (yX1_may_ok e5) (Nat.le_trans (Nat.le_of_ble_eq_true rfl) hd) rfl rfl (Nat.le_of_ble_eq_true rfl) dX1_derivations_4) ?_
    obtain rfl := Option.some.inj h
    exact jx_out hk.1 hk.2 (by decide)
theorem yX1_derivations_ok {t : Nat} {G : GS} {r : (Int32) ⊕ String} {G1 : GS} (h : fX1_derivations_0 t G = some (r, G1)) : zRuns yX1_derivations (ws_ yX1_derivations cX1_derivations 1 (some Jvm.ClassFile.FieldType.int)) [vR (some t)] (zout (fun v => some (vI v)) r, G, G1, 902) :=
  zentry (M := mX1_derivations) (plainFor_of_name (by decide +kernel)) ⟨rfl, rfl, rfl, rfl⟩ (Nat.le_of_ble_eq_true rfl) (wfX1_derivations_0 (Nat.le_refl _) t G h ⟨rfl, rfl⟩)
theorem fgX1_207 : zFG RX1 207 8 5 (.int) := ⟨(RX10, TX10, 8, tyX10), rfl, by decide, in_X10, rfl, "SelahGenerator$Parse", Or.inl rfl, Or.inr ⟨_, zxw 71 rfl⟩⟩
abbrev mX1_parseState : zM := (cX1_parseState, RX1, 1, (some Jvm.ClassFile.FieldType.int), "parseState", [], "()I")
def fX1_parseState_0 (t : Nat)  (G : GS) : Option (Int32) :=
  (zgR G 1 t 3).bind fun r1 => zopt r1 (some 0) (fun a3 => (zgR G 1 t 3).bind fun r4 => r4.bind fun a6 => (zgI G 9 a6 5).bind fun v8 => some v8)
theorem wfX1_parseState_0 {F : zF} (hd : 1 ≤ F.2.2.2) (t : Nat)  (G : GS) {a : Int32} (h : fX1_parseState_0 t  G = some a) (hk : zKPI F G a) : J mX1_parseState F G 0 [(0, vR (some t))] [] := by
  unfold fX1_parseState_0 at h
  refine j_aload_n (j := 0) dX1_parseState_0 rfl rfl ?_
  replace h := zbE h
  obtain ⟨r1, e2, h⟩ := h
  refine j_getR fgX1_43 (fun _ _ _ => rfl) dX1_parseState_1 e2 ?_
  rcases r1 with _ | a3
  · replace h := zopt_n h
    refine j_ifnonnull0 dX1_parseState_4 ?_
    refine j_iconst (v := 0) dX1_parseState_7 (by decide) ?_
    refine j_goto (tgt := 18) dX1_parseState_8 (by decide) ?_
    obtain rfl := Option.some.inj h
    exact j_iret hk.1 hk.2 rfl dX1_parseState_18
  · replace h := zopt_s h
    refine j_ifnonnull1 (tgt := 11) dX1_parseState_4 (by decide) ?_
    refine j_aload_n (j := 0) dX1_parseState_11 rfl rfl ?_
    replace h := zbE h
    obtain ⟨r4, e5, h⟩ := h
    refine j_getR fgX1_43 (fun _ _ _ => rfl) dX1_parseState_12 e5 ?_
    replace h := zbE h
    obtain ⟨a6, e7, h⟩ := h
    subst e7
    replace h := zbE h
    obtain ⟨v8, e9, h⟩ := h
    refine j_getI fgX1_207 (fun _ _ _ => rfl) dX1_parseState_15 e9 ?_
    obtain rfl := Option.some.inj h
    exact j_iret hk.1 hk.2 rfl dX1_parseState_18
theorem yX1_parseState_ok {t : Nat} {G : GS} {r : Int32} (h : fX1_parseState_0 t G = some r) : zRuns yX1_parseState (ws_ yX1_parseState cX1_parseState 1 (some Jvm.ClassFile.FieldType.int)) [vR (some t)] (.inl (some (vI r)), G, G, 1) :=
  zentry (M := mX1_parseState) (plainFor_of_name (by decide +kernel)) ⟨rfl, rfl, rfl, rfl⟩ (Nat.le_of_ble_eq_true rfl) (wfX1_parseState_0 (Nat.le_refl _) t G h ⟨rfl, rfl⟩)
theorem fgX1_250 : zFG RX1 250 8 4 (.object "java/util/List") := ⟨(RX10, TX10, 8, tyX10), rfl, by decide, in_X10, rfl, "SelahGenerator$Parse", Or.inl rfl, Or.inr ⟨_, zxw 70 rfl⟩⟩
abbrev mX1_errorCount : zM := (cX1_errorCount, RX1, 1, (some Jvm.ClassFile.FieldType.int), "errorCount", [], "()I")
def fX1_errorCount_0 (t : Nat)  (G : GS) : Option (Int32) :=
  (zgR G 1 t 3).bind fun r1 => zopt r1 (some 0) (fun a3 => (zgR G 1 t 3).bind fun r4 => r4.bind fun a6 => (zgR G 9 a6 4).bind fun r8 => r8.bind fun a10 => zk [12] G a10 <| (fJ2_size_0 a10 G).bind fun v14 => some v14)
theorem wfX1_errorCount_0 {F : zF} (hd : 2 ≤ F.2.2.2) (t : Nat)  (G : GS) {a : Int32} (h : fX1_errorCount_0 t  G = some a) (hk : zKPI F G a) : J mX1_errorCount F G 0 [(0, vR (some t))] [] := by
  unfold fX1_errorCount_0 at h
  refine j_aload_n (j := 0) dX1_errorCount_0 rfl rfl ?_
  replace h := zbE h
  obtain ⟨r1, e2, h⟩ := h
  refine j_getR fgX1_43 (fun _ _ _ => rfl) dX1_errorCount_1 e2 ?_
  rcases r1 with _ | a3
  · replace h := zopt_n h
    refine j_ifnonnull0 dX1_errorCount_4 ?_
    refine j_iconst (v := 0) dX1_errorCount_7 (by decide) ?_
    refine j_goto (tgt := 23) dX1_errorCount_8 (by decide) ?_
    obtain rfl := Option.some.inj h
    exact j_iret hk.1 hk.2 rfl dX1_errorCount_23
  · replace h := zopt_s h
    refine j_ifnonnull1 (tgt := 11) dX1_errorCount_4 (by decide) ?_
    refine j_aload_n (j := 0) dX1_errorCount_11 rfl rfl ?_
    replace h := zbE h
    obtain ⟨r4, e5, h⟩ := h
    refine j_getR fgX1_43 (fun _ _ _ => rfl) dX1_errorCount_12 e5 ?_
    replace h := zbE h
    obtain ⟨a6, e7, h⟩ := h
    subst e7
    replace h := zbE h
    obtain ⟨r8, e9, h⟩ := h
    refine j_getR fgX1_250 (fun _ _ _ => rfl) dX1_errorCount_15 e9 ?_
    replace h := zbE h
    obtain ⟨a10, e11, h⟩ := h
    subst e11
    replace h := zkE h
    obtain ⟨e12, h⟩ := h
    replace h := zbE h
    obtain ⟨v14, e13, h⟩ := h
    refine j_cont (zrF (As := []) msX1_54_J2 (yJ2_size_ok e13) (Nat.le_trans (Nat.le_of_ble_eq_true rfl) hd) (zk_12 _ e12) rfl rfl (Nat.le_of_ble_eq_true rfl) dX1_errorCount_18) ?_
    obtain rfl := Option.some.inj h
    exact j_iret hk.1 hk.2 rfl dX1_errorCount_23
theorem yX1_errorCount_ok {t : Nat} {G : GS} {r : Int32} (h : fX1_errorCount_0 t G = some r) : zRuns yX1_errorCount (ws_ yX1_errorCount cX1_errorCount 1 (some Jvm.ClassFile.FieldType.int)) [vR (some t)] (.inl (some (vI r)), G, G, 2) :=
  zentry (M := mX1_errorCount) (plainFor_of_name (by decide +kernel)) ⟨rfl, rfl, rfl, rfl⟩ (Nat.le_of_ble_eq_true rfl) (wfX1_errorCount_0 (Nat.le_refl _) t G h ⟨rfl, rfl⟩)
theorem msX1_253 : zSV RX1 253 RX1 yX1_errorCount cX1_errorCount 1 (some Jvm.ClassFile.FieldType.int) 0 := ⟨lw_V q1606 q1513 q1514 q123 q1515, (by decide +kernel), (by decide)⟩
theorem msX1_282 : zSV RX1 282 RX1 yX1_parseState cX1_parseState 1 (some Jvm.ClassFile.FieldType.int) 0 := ⟨lw_V q1520 q1448 q1449 q123 q1450, (by decide +kernel), (by decide)⟩
theorem msX1_285 : zSV RX1 285 RX1 yX1_derivations cX1_derivations 1 (some Jvm.ClassFile.FieldType.int) 0 := ⟨lw_V q1529 q1530 q1531 q123 q1532, (by decide +kernel), (by decide)⟩
abbrev mX1_disagreements : zM := (cX1_disagreements, RX1, 1, (some Jvm.ClassFile.FieldType.int), "disagreements", [], "()I")
def fX1_disagreements_33  (s0 : Int32) (s1 : Int32) (G : GS) : Option (((Int32) ⊕ String) × GS) :=
  if s0 = s1 then (some (.inl 0, G)) else (some (.inl 1, G))
theorem wfX1_disagreements_33 {F : zF} (hd : 903 ≤ F.2.2.2)  (s0 : Int32) (s1 : Int32) (G : GS) {a : ((Int32) ⊕ String) × GS} (h : fX1_disagreements_33  s0 s1 G = some a) (hk : zKXI F a) : J mX1_disagreements F G 33 [] [vI s1, vI s0] := by
  unfold fX1_disagreements_33 at h
  refine j_icmp_ne (tgt := 40) dX1_disagreements_33 (by decide) (fun c1 => ?_) (fun c1 => ?_)
  · rw [if_pos c1] at h
    refine j_iconst (v := 0) dX1_disagreements_36 (by decide) ?_
    refine j_goto (tgt := 41) dX1_disagreements_37 (by decide) ?_
    obtain rfl := Option.some.inj h
    exact j_iret hk.1 hk.2 rfl dX1_disagreements_41
  · rw [if_neg c1] at h
    refine j_iconst (v := 1) dX1_disagreements_40 (by decide) ?_
    obtain rfl := Option.some.inj h
    exact j_iret hk.1 hk.2 rfl dX1_disagreements_41
def fX1_disagreements_0 (t : Nat)  (G : GS) : Option (((Int32) ⊕ String) × GS) :=
  zk [1] G t <| (fX1_parseState_0 t G).bind fun v3 => if v3 = 2 then (zk [1] G t <| zb2 (fX1_canCount_0 t G) fun v7 G8 => if v7 = 0 then (some (.inl 0, G8)) else (zk [1] G8 t <| zb3 (fX1_derivations_0 t G8) (fun v12 G13 => zk [1] G13 t <| (fX1_errorCount_0 t G13).bind fun v18 => if v18 = 0 then (fX1_disagreements_33 v12 1 G13) else (fX1_disagreements_33 v12 0 G13)) (fun X14 G15 => some (.inr X14, G15)))) else (some (.inl 0, G))
theorem wfX1_disagreements_0 {F : zF} (hd : 903 ≤ F.2.2.2) (t : Nat)  (G : GS) {a : ((Int32) ⊕ String) × GS} (h : fX1_disagreements_0 t  G = some a) (hk : zKXI F a) : J mX1_disagreements F G 0 [(0, vR (some t))] [] := by
  unfold fX1_disagreements_0 at h
  refine j_aload_n (j := 0) dX1_disagreements_0 rfl rfl ?_
  replace h := zkE h
  obtain ⟨e1, h⟩ := h
  replace h := zbE h
  obtain ⟨v3, e2, h⟩ := h
  refine j_cont (zrV (As := []) msX1_282 (yX1_parseState_ok e2) (Nat.le_trans (Nat.le_of_ble_eq_true rfl) hd) (zk_1 _ e1) rfl rfl (Nat.le_of_ble_eq_true rfl) dX1_disagreements_1) ?_
  refine j_iconst (v := 2) dX1_disagreements_4 (by decide) ?_
  refine j_icmp_ne (tgt := 15) dX1_disagreements_5 (by decide) (fun c4 => ?_) (fun c4 => ?_)
  · rw [if_pos c4] at h
    refine j_aload_n (j := 0) dX1_disagreements_8 rfl rfl ?_
    replace h := zkE h
    obtain ⟨e5, h⟩ := h
    replace h := zb2E h
    obtain ⟨v7, G8, e6, h⟩ := h
    refine j_cont (zrV (As := []) msX1_271 (yX1_canCount_ok e6) (Nat.le_trans (Nat.le_of_ble_eq_true rfl) hd) (zk_1 _ e5) rfl rfl (Nat.le_of_ble_eq_true rfl) dX1_disagreements_9) ?_
    refine j_if_ne (tgt := 17) dX1_disagreements_12 (by decide) (fun c9 => ?_) (fun c9 => ?_)
    · rw [if_pos c9] at h
      refine j_iconst (v := 0) dX1_disagreements_15 (by decide) ?_
      obtain rfl := Option.some.inj h
      exact j_iret hk.1 hk.2 rfl dX1_disagreements_16
    · rw [if_neg c9] at h
      refine j_aload_n (j := 0) dX1_disagreements_17 rfl rfl ?_
      replace h := zkE h
      obtain ⟨e10, h⟩ := h
      replace h := zb3E h
      rcases h with ⟨v12, G13, e11, h⟩ | ⟨X14, G15, e11, h⟩
      · refine j_cont (zrV (As := []) msX1_285 (yX1_derivations_ok e11) (Nat.le_trans (Nat.le_of_ble_eq_true rfl) hd) (zk_1 _ e10) rfl rfl (Nat.le_of_ble_eq_true rfl) dX1_disagreements_18) ?_
        refine j_aload_n (j := 0) dX1_disagreements_21 rfl rfl ?_
        replace h := zkE h
        obtain ⟨e16, h⟩ := h
        replace h := zbE h
        obtain ⟨v18, e17, h⟩ := h
        refine j_cont (zrV (As := []) msX1_253 (yX1_errorCount_ok e17) (Nat.le_trans (Nat.le_of_ble_eq_true rfl) hd) (zk_1 _ e16) rfl rfl (Nat.le_of_ble_eq_true rfl) dX1_disagreements_22) ?_
        refine j_if_ne (tgt := 32) dX1_disagreements_25 (by decide) (fun c19 => ?_) (fun c19 => ?_)
        · rw [if_pos c19] at h
          refine j_iconst (v := 1) dX1_disagreements_28 (by decide) ?_
          refine j_goto (tgt := 33) dX1_disagreements_29 (by decide) ?_
          exact J.sub (zall [] rfl) (wfX1_disagreements_33 hd  v12 1 G13 h hk)
        · rw [if_neg c19] at h
          refine j_iconst (v := 0) dX1_disagreements_32 (by decide) ?_
          exact J.sub (zall [] rfl) (wfX1_disagreements_33 hd  v12 0 G13 h hk)
      · refine j_thr (zrV (As := []) msX1_285 (yX1_derivations_ok e11) (Nat.le_trans (Nat.le_of_ble_eq_true rfl) hd) (zk_1 _ e10) rfl rfl (Nat.le_of_ble_eq_true rfl) dX1_disagreements_18) ?_
        obtain rfl := Option.some.inj h
        exact jx_out hk.1 hk.2 (by decide)
  · rw [if_neg c4] at h
    refine j_iconst (v := 0) dX1_disagreements_15 (by decide) ?_
    obtain rfl := Option.some.inj h
    exact j_iret hk.1 hk.2 rfl dX1_disagreements_16
theorem yX1_disagreements_ok {t : Nat} {G : GS} {r : (Int32) ⊕ String} {G1 : GS} (h : fX1_disagreements_0 t G = some (r, G1)) : zRuns yX1_disagreements (ws_ yX1_disagreements cX1_disagreements 1 (some Jvm.ClassFile.FieldType.int)) [vR (some t)] (zout (fun v => some (vI v)) r, G, G1, 903) :=
  zentry (M := mX1_disagreements) (plainFor_of_name (by decide +kernel)) ⟨rfl, rfl, rfl, rfl⟩ (Nat.le_of_ble_eq_true rfl) (wfX1_disagreements_0 (Nat.le_refl _) t G h ⟨rfl, rfl⟩)
theorem zk_10 : ∀ k, [10].contains k = true → zKc k = some "SelahGenerator$Fault" := fun k h => by rw [zKc_one h]; rfl
abbrev mX1_fault : zM := (cX1_fault, RX1, 3, (some (Jvm.ClassFile.FieldType.object "SelahGenerator$Fault")), "fault", [], "(I)LSelahGenerator$Fault;")
def fX1_fault_0 (t : Nat) (x1 : Int32)  (G : GS) : Option (((Option Nat) ⊕ String) × GS) :=
  zk [1] G t <| (fX1_errorCount_0 t G).bind fun v3 => zb3 (fX1_valid_0 x1 0 (v3 - 1) G) (fun v5 G6 => (zgR G6 1 t 3).bind fun r9 => r9.bind fun a11 => (zgR G6 9 a11 4).bind fun r13 => r13.bind fun a15 => zk [12] G6 a15 <| (fJ2_get_0 a15 v5 G6).bind fun r19 => zkq [10] G6 r19 (some (.inl r19, G6))) (fun X7 G8 => some (.inr X7, G8))
theorem wfX1_fault_0 {F : zF} (hd : 8 ≤ F.2.2.2) (t : Nat) (x1 : Int32)  (G : GS) {a : ((Option Nat) ⊕ String) × GS} (h : fX1_fault_0 t x1  G = some a) (hk : zKXR F a) : J mX1_fault F G 0 [(0, vR (some t)), (1, vI x1)] [] := by
  unfold fX1_fault_0 at h
  refine j_iload_n (j := 1) dX1_fault_0 rfl rfl ?_
  refine j_iconst (v := 0) dX1_fault_1 (by decide) ?_
  refine j_aload_n (j := 0) dX1_fault_2 rfl rfl ?_
  replace h := zkE h
  obtain ⟨e1, h⟩ := h
  replace h := zbE h
  obtain ⟨v3, e2, h⟩ := h
  refine j_cont (zrV (As := []) msX1_253 (yX1_errorCount_ok e2) (Nat.le_trans (Nat.le_of_ble_eq_true rfl) hd) (zk_1 _ e1) rfl rfl (Nat.le_of_ble_eq_true rfl) dX1_fault_3) ?_
  refine j_iconst (v := 1) dX1_fault_6 (by decide) ?_
  refine j_isub dX1_fault_7 ?_
  replace h := zb3E h
  rcases h with ⟨v5, G6, e4, h⟩ | ⟨X7, G8, e4, h⟩
  · refine j_cont (zrS (As := [vI x1, vI 0, vI (v3 - 1)]) msX1_50 (yX1_valid_ok e4) (Nat.le_trans (Nat.le_of_ble_eq_true rfl) hd) rfl rfl (Nat.le_of_ble_eq_true rfl) dX1_fault_8) ?_
    refine j_istore_n (lv' := [(2, vI v5), (0, vR (some t)), (1, vI x1)]) dX1_fault_11 rfl (Nat.le_of_ble_eq_true rfl) rfl ?_
    refine j_aload_n (j := 1) dX1_fault_12 rfl rfl ?_
    replace h := zbE h
    obtain ⟨r9, e10, h⟩ := h
    refine j_getR fgX1_43 (fun _ _ _ => rfl) dX1_fault_13 e10 ?_
    replace h := zbE h
    obtain ⟨a11, e12, h⟩ := h
    subst e12
    replace h := zbE h
    obtain ⟨r13, e14, h⟩ := h
    refine j_getR fgX1_250 (fun _ _ _ => rfl) dX1_fault_16 e14 ?_
    refine j_iload_n (j := 0) dX1_fault_19 rfl rfl ?_
    replace h := zbE h
    obtain ⟨a15, e16, h⟩ := h
    subst e16
    replace h := zkE h
    obtain ⟨e17, h⟩ := h
    replace h := zbE h
    obtain ⟨r19, e18, h⟩ := h
    refine j_cont (zrF (As := [vI v5]) msX1_64_J2 (yJ2_get_ok e18) (Nat.le_trans (Nat.le_of_ble_eq_true rfl) hd) (zk_12 _ e17) rfl rfl (Nat.le_of_ble_eq_true rfl) dX1_fault_20) ?_
    replace h := zkqE h
    obtain ⟨e20, h⟩ := h
    refine j_castq (fun k => j_castN dX1_fault_25 k) (fun b q21 k => j_castS (zk_10 _ (e20 b q21)) ⟨9, _, rfl, rfl⟩ q2568 dX1_fault_25 k) ?_
    obtain rfl := Option.some.inj h
    exact j_aret hk.1 hk.2 rfl (Or.inl ⟨_, rfl⟩) dX1_fault_28
  · refine j_thr (zrS (As := [vI x1, vI 0, vI (v3 - 1)]) msX1_50 (yX1_valid_ok e4) (Nat.le_trans (Nat.le_of_ble_eq_true rfl) hd) rfl rfl (Nat.le_of_ble_eq_true rfl) dX1_fault_8) ?_
    obtain rfl := Option.some.inj h
    exact jx_out hk.1 hk.2 (by decide)
theorem yX1_fault_ok {t : Nat} {x1 : Int32} {G : GS} {r : (Option Nat) ⊕ String} {G1 : GS} (h : fX1_fault_0 t x1 G = some (r, G1)) : zRuns yX1_fault (ws_ yX1_fault cX1_fault 3 (some (Jvm.ClassFile.FieldType.object "SelahGenerator$Fault"))) [vR (some t), vI x1] (zout (fun v => some (vR v)) r, G, G1, 8) :=
  zentry (M := mX1_fault) (plainFor_of_name (by decide +kernel)) ⟨rfl, rfl, rfl, rfl⟩ (Nat.le_of_ble_eq_true rfl) (wfX1_fault_0 (Nat.le_refl _) t x1 G h ⟨rfl, rfl⟩)
theorem fgX1_264 : zFG RX1 264 9 1 (.int) := ⟨(RX11, TX11, 3, tyX11), rfl, by decide, in_X11, rfl, "SelahGenerator$Fault", Or.inl rfl, Or.inr ⟨_, zxw 73 rfl⟩⟩
theorem msX1_258 : zSV RX1 258 RX1 yX1_fault cX1_fault 3 (some (Jvm.ClassFile.FieldType.object "SelahGenerator$Fault")) 1 := ⟨lw_V q2564 q2566 qs57 q123 q2567, (by decide +kernel), (by decide)⟩
abbrev mX1_errorSymbol : zM := (cX1_errorSymbol, RX1, 2, (some Jvm.ClassFile.FieldType.int), "errorSymbol", [], "(I)I")
def fX1_errorSymbol_0 (t : Nat) (x1 : Int32)  (G : GS) : Option (((Int32) ⊕ String) × GS) :=
  zk [1] G t <| zb3 (fX1_fault_0 t x1 G) (fun r3 G4 => r3.bind fun a7 => (zgI G4 10 a7 1).bind fun v9 => some (.inl v9, G4)) (fun X5 G6 => some (.inr X5, G6))
theorem wfX1_errorSymbol_0 {F : zF} (hd : 9 ≤ F.2.2.2) (t : Nat) (x1 : Int32)  (G : GS) {a : ((Int32) ⊕ String) × GS} (h : fX1_errorSymbol_0 t x1  G = some a) (hk : zKXI F a) : J mX1_errorSymbol F G 0 [(0, vR (some t)), (1, vI x1)] [] := by
  unfold fX1_errorSymbol_0 at h
  refine j_aload_n (j := 0) dX1_errorSymbol_0 rfl rfl ?_
  refine j_iload_n (j := 1) dX1_errorSymbol_1 rfl rfl ?_
  replace h := zkE h
  obtain ⟨e1, h⟩ := h
  replace h := zb3E h
  rcases h with ⟨r3, G4, e2, h⟩ | ⟨X5, G6, e2, h⟩
  · refine j_cont (zrV (As := [vI x1]) msX1_258 (yX1_fault_ok e2) (Nat.le_trans (Nat.le_of_ble_eq_true rfl) hd) (zk_1 _ e1) rfl rfl (Nat.le_of_ble_eq_true rfl) dX1_errorSymbol_2) ?_
    replace h := zbE h
    obtain ⟨a7, e8, h⟩ := h
    subst e8
    replace h := zbE h
    obtain ⟨v9, e10, h⟩ := h
    refine j_getI fgX1_264 (fun _ _ _ => rfl) dX1_errorSymbol_5 e10 ?_
    obtain rfl := Option.some.inj h
    exact j_iret hk.1 hk.2 rfl dX1_errorSymbol_8
  · refine j_thr (zrV (As := [vI x1]) msX1_258 (yX1_fault_ok e2) (Nat.le_trans (Nat.le_of_ble_eq_true rfl) hd) (zk_1 _ e1) rfl rfl (Nat.le_of_ble_eq_true rfl) dX1_errorSymbol_2) ?_
    obtain rfl := Option.some.inj h
    exact jx_out hk.1 hk.2 (by decide)
theorem yX1_errorSymbol_ok {t : Nat} {x1 : Int32} {G : GS} {r : (Int32) ⊕ String} {G1 : GS} (h : fX1_errorSymbol_0 t x1 G = some (r, G1)) : zRuns yX1_errorSymbol (ws_ yX1_errorSymbol cX1_errorSymbol 2 (some Jvm.ClassFile.FieldType.int)) [vR (some t), vI x1] (zout (fun v => some (vI v)) r, G, G1, 9) :=
  zentry (M := mX1_errorSymbol) (plainFor_of_name (by decide +kernel)) ⟨rfl, rfl, rfl, rfl⟩ (Nat.le_of_ble_eq_true rfl) (wfX1_errorSymbol_0 (Nat.le_refl _) t x1 G h ⟨rfl, rfl⟩)
theorem fgX1_262 : zFG RX1 262 9 0 (.int) := ⟨(RX11, TX11, 3, tyX11), rfl, by decide, in_X11, rfl, "SelahGenerator$Fault", Or.inl rfl, Or.inr ⟨_, zxw 72 rfl⟩⟩
abbrev mX1_errorToken : zM := (cX1_errorToken, RX1, 2, (some Jvm.ClassFile.FieldType.int), "errorToken", [], "(I)I")
def fX1_errorToken_0 (t : Nat) (x1 : Int32)  (G : GS) : Option (((Int32) ⊕ String) × GS) :=
  zk [1] G t <| zb3 (fX1_fault_0 t x1 G) (fun r3 G4 => r3.bind fun a7 => (zgI G4 10 a7 0).bind fun v9 => some (.inl v9, G4)) (fun X5 G6 => some (.inr X5, G6))
theorem wfX1_errorToken_0 {F : zF} (hd : 9 ≤ F.2.2.2) (t : Nat) (x1 : Int32)  (G : GS) {a : ((Int32) ⊕ String) × GS} (h : fX1_errorToken_0 t x1  G = some a) (hk : zKXI F a) : J mX1_errorToken F G 0 [(0, vR (some t)), (1, vI x1)] [] := by
  unfold fX1_errorToken_0 at h
  refine j_aload_n (j := 0) dX1_errorToken_0 rfl rfl ?_
  refine j_iload_n (j := 1) dX1_errorToken_1 rfl rfl ?_
  replace h := zkE h
  obtain ⟨e1, h⟩ := h
  replace h := zb3E h
  rcases h with ⟨r3, G4, e2, h⟩ | ⟨X5, G6, e2, h⟩
  · refine j_cont (zrV (As := [vI x1]) msX1_258 (yX1_fault_ok e2) (Nat.le_trans (Nat.le_of_ble_eq_true rfl) hd) (zk_1 _ e1) rfl rfl (Nat.le_of_ble_eq_true rfl) dX1_errorToken_2) ?_
    replace h := zbE h
    obtain ⟨a7, e8, h⟩ := h
    subst e8
    replace h := zbE h
    obtain ⟨v9, e10, h⟩ := h
    refine j_getI fgX1_262 (fun _ _ _ => rfl) dX1_errorToken_5 e10 ?_
    obtain rfl := Option.some.inj h
    exact j_iret hk.1 hk.2 rfl dX1_errorToken_8
  · refine j_thr (zrV (As := [vI x1]) msX1_258 (yX1_fault_ok e2) (Nat.le_trans (Nat.le_of_ble_eq_true rfl) hd) (zk_1 _ e1) rfl rfl (Nat.le_of_ble_eq_true rfl) dX1_errorToken_2) ?_
    obtain rfl := Option.some.inj h
    exact jx_out hk.1 hk.2 (by decide)
theorem yX1_errorToken_ok {t : Nat} {x1 : Int32} {G : GS} {r : (Int32) ⊕ String} {G1 : GS} (h : fX1_errorToken_0 t x1 G = some (r, G1)) : zRuns yX1_errorToken (ws_ yX1_errorToken cX1_errorToken 2 (some Jvm.ClassFile.FieldType.int)) [vR (some t), vI x1] (zout (fun v => some (vI v)) r, G, G1, 9) :=
  zentry (M := mX1_errorToken) (plainFor_of_name (by decide +kernel)) ⟨rfl, rfl, rfl, rfl⟩ (Nat.le_of_ble_eq_true rfl) (wfX1_errorToken_0 (Nat.le_refl _) t x1 G h ⟨rfl, rfl⟩)
theorem fgJ20_20 : zFG RJ20 20 13 2 (.int) := ⟨(RJ20, TJ20, 3, tyJ20), rfl, by decide, in_J20, rfl, "java/util/ArrayDeque", Or.inl rfl, Or.inl q2426⟩
theorem fgJ20_24 : zFG RJ20 24 13 1 (.int) := ⟨(RJ20, TJ20, 3, tyJ20), rfl, by decide, in_J20, rfl, "java/util/ArrayDeque", Or.inl rfl, Or.inl q2425⟩
abbrev mJ20_isEmpty : zM := (cJ20_isEmpty, RJ20, 1, (some Jvm.ClassFile.FieldType.boolean), "isEmpty", [], "()Z")
def fJ20_isEmpty_0 (t : Nat)  (G : GS) : Option (Int32) :=
  (zgI G 14 t 1).bind fun v1 => (zgI G 14 t 2).bind fun v3 => if v1 = v3 then (zcond (zbb 1) (some 1)) else (zcond (zbb 0) (some 0))
theorem wfJ20_isEmpty_0 {F : zF} (hd : 1 ≤ F.2.2.2) (t : Nat)  (G : GS) {a : Int32} (h : fJ20_isEmpty_0 t  G = some a) (hk : zKPI F G a) : J mJ20_isEmpty F G 0 [(0, vR (some t))] [] := by
  unfold fJ20_isEmpty_0 at h
  refine j_aload_n (j := 0) dJ20_isEmpty_0 rfl rfl ?_
  replace h := zbE h
  obtain ⟨v1, e2, h⟩ := h
  refine j_getI fgJ20_24 (fun _ _ _ => rfl) dJ20_isEmpty_1 e2 ?_
  refine j_aload_n (j := 0) dJ20_isEmpty_4 rfl rfl ?_
  replace h := zbE h
  obtain ⟨v3, e4, h⟩ := h
  refine j_getI fgJ20_20 (fun _ _ _ => rfl) dJ20_isEmpty_5 e4 ?_
  refine j_icmp_ne (tgt := 15) dJ20_isEmpty_8 (by decide) (fun c5 => ?_) (fun c5 => ?_)
  · rw [if_pos c5] at h
    refine j_iconst (v := 1) dJ20_isEmpty_11 (by decide) ?_
    refine j_goto (tgt := 16) dJ20_isEmpty_12 (by decide) ?_
    replace h := zcondE h
    obtain ⟨e6, h⟩ := h
    obtain rfl := Option.some.inj h
    exact j_zret hk.1 hk.2 rfl (zbb_n e6) dJ20_isEmpty_16
  · rw [if_neg c5] at h
    refine j_iconst (v := 0) dJ20_isEmpty_15 (by decide) ?_
    replace h := zcondE h
    obtain ⟨e7, h⟩ := h
    obtain rfl := Option.some.inj h
    exact j_zret hk.1 hk.2 rfl (zbb_n e7) dJ20_isEmpty_16
theorem yJ20_isEmpty_ok {t : Nat} {G : GS} {r : Int32} (h : fJ20_isEmpty_0 t G = some r) : zRuns yJ20_isEmpty (ws_ yJ20_isEmpty cJ20_isEmpty 1 (some Jvm.ClassFile.FieldType.boolean)) [vR (some t)] (.inl (some (vI r)), G, G, 1) :=
  zentry (M := mJ20_isEmpty) (plainFor_of_name (by decide +kernel)) ⟨rfl, rfl, rfl, rfl⟩ (Nat.le_of_ble_eq_true rfl) (wfJ20_isEmpty_0 (Nat.le_refl _) t G h ⟨rfl, rfl⟩)
abbrev mJ20_elementAt : zM := (cJ20_elementAt, RJ20, 2, (some (Jvm.ClassFile.FieldType.object "java/lang/Object")), "elementAt", [], "([Ljava/lang/Object;I)Ljava/lang/Object;")
def fJ20_elementAt_0 (x0 : Option Nat) (x1 : Int32)  (G : GS) : Option (Option Nat) :=
  x0.bind fun a1 => (zaR G 54 a1 x1).bind fun r3 => some r3
theorem wfJ20_elementAt_0 {F : zF} (hd : 1 ≤ F.2.2.2) (x0 : Option Nat) (x1 : Int32)  (G : GS) {a : Option Nat} (h : fJ20_elementAt_0 x0 x1  G = some a) (hk : zKPR F G a) : J mJ20_elementAt F G 0 [(0, vR x0), (1, vI x1)] [] := by
  unfold fJ20_elementAt_0 at h
  refine j_aload_n (j := 0) dJ20_elementAt_0 rfl rfl ?_
  refine j_iload_n (j := 1) dJ20_elementAt_1 rfl rfl ?_
  replace h := zbE h
  obtain ⟨a1, e2, h⟩ := h
  subst e2
  replace h := zbE h
  obtain ⟨r3, e4, h⟩ := h
  refine j_aald (Or.inl rfl) e4 dJ20_elementAt_2 ?_
  obtain rfl := Option.some.inj h
  exact j_aret hk.1 hk.2 rfl (Or.inl ⟨_, rfl⟩) dJ20_elementAt_3
theorem yJ20_elementAt_ok {x0 : Option Nat} {x1 : Int32} {G : GS} {r : Option Nat} (h : fJ20_elementAt_0 x0 x1 G = some r) : zRuns yJ20_elementAt (ws_ yJ20_elementAt cJ20_elementAt 2 (some (Jvm.ClassFile.FieldType.object "java/lang/Object"))) [vR x0, vI x1] (.inl (some (vR r)), G, G, 1) :=
  zentry (M := mJ20_elementAt) (plainFor_of_name (by decide +kernel)) ⟨rfl, rfl, rfl, rfl⟩ (Nat.le_of_ble_eq_true rfl) (wfJ20_elementAt_0 (Nat.le_refl _) x0 x1 G h ⟨rfl, rfl⟩)
theorem fgJ20_3 : zFG RJ20 3 13 0 (.array (.object "java/lang/Object")) := ⟨(RJ20, TJ20, 3, tyJ20), rfl, by decide, in_J20, rfl, "java/util/ArrayDeque", Or.inl rfl, Or.inl q2422⟩
theorem msJ20_103 : zSS RJ20 103 yJ20_elementAt cJ20_elementAt 2 (some (Jvm.ClassFile.FieldType.object "java/lang/Object")) 2 := ⟨lw_S q381 q382 q148 q383, (by decide +kernel), (by decide)⟩
abbrev mJ20_peekFirst : zM := (cJ20_peekFirst, RJ20, 1, (some (Jvm.ClassFile.FieldType.object "java/lang/Object")), "peekFirst", [], "()Ljava/lang/Object;")
def fJ20_peekFirst_0 (t : Nat)  (G : GS) : Option (Option Nat) :=
  (zgR G 14 t 0).bind fun r1 => (zgI G 14 t 1).bind fun v3 => (fJ20_elementAt_0 r1 v3 G).bind fun r6 => some r6
theorem wfJ20_peekFirst_0 {F : zF} (hd : 2 ≤ F.2.2.2) (t : Nat)  (G : GS) {a : Option Nat} (h : fJ20_peekFirst_0 t  G = some a) (hk : zKPR F G a) : J mJ20_peekFirst F G 0 [(0, vR (some t))] [] := by
  unfold fJ20_peekFirst_0 at h
  refine j_aload_n (j := 0) dJ20_peekFirst_0 rfl rfl ?_
  replace h := zbE h
  obtain ⟨r1, e2, h⟩ := h
  refine j_getR fgJ20_3 (fun _ _ _ => rfl) dJ20_peekFirst_1 e2 ?_
  refine j_aload_n (j := 0) dJ20_peekFirst_4 rfl rfl ?_
  replace h := zbE h
  obtain ⟨v3, e4, h⟩ := h
  refine j_getI fgJ20_24 (fun _ _ _ => rfl) dJ20_peekFirst_5 e4 ?_
  replace h := zbE h
  obtain ⟨r6, e5, h⟩ := h
  refine j_cont (zrS (As := [vR r1, vI v3]) msJ20_103 (yJ20_elementAt_ok e5) (Nat.le_trans (Nat.le_of_ble_eq_true rfl) hd) rfl rfl (Nat.le_of_ble_eq_true rfl) dJ20_peekFirst_8) ?_
  obtain rfl := Option.some.inj h
  exact j_aret hk.1 hk.2 rfl (Or.inl ⟨_, rfl⟩) dJ20_peekFirst_11
theorem yJ20_peekFirst_ok {t : Nat} {G : GS} {r : Option Nat} (h : fJ20_peekFirst_0 t G = some r) : zRuns yJ20_peekFirst (ws_ yJ20_peekFirst cJ20_peekFirst 1 (some (Jvm.ClassFile.FieldType.object "java/lang/Object"))) [vR (some t)] (.inl (some (vR r)), G, G, 2) :=
  zentry (M := mJ20_peekFirst) (plainFor_of_name (by decide +kernel)) ⟨rfl, rfl, rfl, rfl⟩ (Nat.le_of_ble_eq_true rfl) (wfJ20_peekFirst_0 (Nat.le_refl _) t G h ⟨rfl, rfl⟩)
theorem zk_14 : ∀ k, [14].contains k = true → zKc k = some "java/util/ArrayDeque" := fun k h => by rw [zKc_one h]; rfl
theorem msJ20_124 : zSV RJ20 124 RJ20 yJ20_peekFirst cJ20_peekFirst 1 (some (Jvm.ClassFile.FieldType.object "java/lang/Object")) 0 := ⟨lw_V q1483 q1484 q1485 q148 q1486, (by decide +kernel), (by decide)⟩
abbrev mJ20_peek : zM := (cJ20_peek, RJ20, 1, (some (Jvm.ClassFile.FieldType.object "java/lang/Object")), "peek", [], "()Ljava/lang/Object;")
def fJ20_peek_0 (t : Nat)  (G : GS) : Option (Option Nat) :=
  zk [14] G t <| (fJ20_peekFirst_0 t G).bind fun r3 => some r3
theorem wfJ20_peek_0 {F : zF} (hd : 3 ≤ F.2.2.2) (t : Nat)  (G : GS) {a : Option Nat} (h : fJ20_peek_0 t  G = some a) (hk : zKPR F G a) : J mJ20_peek F G 0 [(0, vR (some t))] [] := by
  unfold fJ20_peek_0 at h
  refine j_aload_n (j := 0) dJ20_peek_0 rfl rfl ?_
  replace h := zkE h
  obtain ⟨e1, h⟩ := h
  replace h := zbE h
  obtain ⟨r3, e2, h⟩ := h
  refine j_cont (zrV (As := []) msJ20_124 (yJ20_peekFirst_ok e2) (Nat.le_trans (Nat.le_of_ble_eq_true rfl) hd) (zk_14 _ e1) rfl rfl (Nat.le_of_ble_eq_true rfl) dJ20_peek_1) ?_
  obtain rfl := Option.some.inj h
  exact j_aret hk.1 hk.2 rfl (Or.inl ⟨_, rfl⟩) dJ20_peek_4
theorem yJ20_peek_ok {t : Nat} {G : GS} {r : Option Nat} (h : fJ20_peek_0 t G = some r) : zRuns yJ20_peek (ws_ yJ20_peek cJ20_peek 1 (some (Jvm.ClassFile.FieldType.object "java/lang/Object"))) [vR (some t)] (.inl (some (vR r)), G, G, 3) :=
  zentry (M := mJ20_peek) (plainFor_of_name (by decide +kernel)) ⟨rfl, rfl, rfl, rfl⟩ (Nat.le_of_ble_eq_true rfl) (wfJ20_peek_0 (Nat.le_refl _) t G h ⟨rfl, rfl⟩)
theorem fpX8_9_X8 : zFP RX8 9 7 0 (.array (.long)) true := ⟨(RX8, TX8, 1, tyX8), rfl, by decide, in_X8, tyX8_ok, nmX8, rfl, rfl, (by intro _; rfl), "SelahGenerator$Strings", Or.inl rfl, q1335⟩
abbrev mX8_init : zM := (cX8_init, RX8, 1, none, "<init>", [], "()V")
def fX8_init_0 (t : Nat)  (G : GS) : Option (GS) :=
  (zna G 51 (3 : Int32)).bind fun G1 => (zpR G1 8 t 0 (some (gz G))).bind fun G3 => some G3
theorem wfX8_init_0 {F : zF} (hd : 2 ≤ F.2.2.2) (t : Nat)  (G : GS) {a : GS} (h : fX8_init_0 t  G = some a) (hk : zKV F a) : J mX8_init F G 0 [(0, vR (some t))] [] := by
  unfold fX8_init_0 at h
  refine j_aload_n (j := 0) dX8_init_0 rfl rfl ?_
  refine j_objinit q1334 q181 q182 (Nat.le_trans (Nat.le_of_ble_eq_true rfl) hd) (Nat.le_of_ble_eq_true rfl) dX8_init_1 ?_
  refine j_aload_n (j := 0) dX8_init_4 rfl rfl ?_
  refine j_iconst (v := 3) dX8_init_5 (by decide) ?_
  replace h := zbE h
  obtain ⟨G1, e2, h⟩ := h
  refine j_newa (t := 1) (ty := .long) rfl rfl q1339 (fun _ _ _ e1 e2 e3 => by simp only [zfv, e1, e2, e3] <;> rfl) (by decide) (fun _ _ h => h) e2 dX8_init_6 ?_
  replace h := zbE h
  obtain ⟨G3, e4, h⟩ := h
  refine j_putR fpX8_9_X8 (Or.inr rfl) (Or.inr ⟨_, rfl⟩) dX8_init_8 e4 ?_
  obtain rfl := Option.some.inj h
  exact j_vret hk.1 hk.2 rfl dX8_init_11
theorem yX8_init_ok {t : Nat} {G : GS} {G1 : GS} (h : fX8_init_0 t G = some G1) : zRuns yX8_init (ws_ yX8_init cX8_init 1 none) [vR (some t)] (.inl none, G, G1, 2) :=
  zentry (M := mX8_init) (plainFor_of_name (by decide +kernel)) ⟨rfl, rfl, rfl, rfl⟩ (Nat.le_of_ble_eq_true rfl) (wfX8_init_0 (Nat.le_refl _) t G h ⟨rfl, rfl⟩)
theorem fgX8_9 : zFG RX8 9 7 0 (.array (.long)) := ⟨(RX8, TX8, 1, tyX8), rfl, by decide, in_X8, rfl, "SelahGenerator$Strings", Or.inl rfl, Or.inl q1335⟩
abbrev mX8_clear : zM := (cX8_clear, RX8, 2, none, "clear", [], "()V")
def fbX8_clear_2 (t : Nat) (x1 : Int32)  (G : GS) : Option ((Int32 × GS) ⊕ (GS)) :=
  (zgR G 8 t 0).bind fun r1 => r1.bind fun a3 => (zln G a3).bind fun v5 => if v5 ≤ x1 then (zo (some G)) else ((zgR G 8 t 0).bind fun r8 => r8.bind fun a10 => (zsL G 51 a10 x1 0).bind fun G12 => some (.inl ((x1 + 1), G12)))
def flX8_clear_2 (t : Nat) (x1 : Int32) (G : GS) : Option (GS) := zloop (fun s : Int32 × GS => fbX8_clear_2 t s.1 s.2) (x1, G)
theorem wfbX8_clear_2 {F : zF} (hd : 1 ≤ F.2.2.2) (t : Nat) (x1 : Int32) (G : GS) {a : (Int32 × GS) ⊕ (GS)} (h : fbX8_clear_2 t x1 G = some a) (hk : (zcase (fun s : Int32 × GS => J mX8_clear F s.2 2 [(0, vR (some t)), (1, vI s.1)] []) (zKV F)) a) : J mX8_clear F G 2 [(0, vR (some t)), (1, vI x1)] [] := by
  unfold fbX8_clear_2 at h
  refine j_iload_n (j := 1) dX8_clear_2 rfl rfl ?_
  refine j_aload_n (j := 0) dX8_clear_3 rfl rfl ?_
  replace h := zbE h
  obtain ⟨r1, e2, h⟩ := h
  refine j_getR fgX8_9 (fun _ _ _ => rfl) dX8_clear_4 e2 ?_
  replace h := zbE h
  obtain ⟨a3, e4, h⟩ := h
  subst e4
  replace h := zbE h
  obtain ⟨v5, e6, h⟩ := h
  refine j_alen e6 dX8_clear_7 ?_
  refine j_icmp_ge (tgt := 24) dX8_clear_8 (by decide) (fun c7 => ?_) (fun c7 => ?_)
  · rw [if_pos c7] at h
    replace h := zoE h
    obtain ⟨a, h, rfl⟩ := h
    replace hk := hk
    obtain rfl := Option.some.inj h
    exact j_vret hk.1 hk.2 rfl dX8_clear_24
  · rw [if_neg c7] at h
    refine j_aload_n (j := 0) dX8_clear_11 rfl rfl ?_
    replace h := zbE h
    obtain ⟨r8, e9, h⟩ := h
    refine j_getR fgX8_9 (fun _ _ _ => rfl) dX8_clear_12 e9 ?_
    refine j_iload_n (j := 1) dX8_clear_15 rfl rfl ?_
    refine j_lconst (v := 0) dX8_clear_16 rfl ?_
    replace h := zbE h
    obtain ⟨a10, e11, h⟩ := h
    subst e11
    replace h := zbE h
    obtain ⟨G12, e13, h⟩ := h
    refine j_last e13 dX8_clear_17 ?_
    refine j_iinc (j := 1) (v := (x1 + 1)) (lv' := [(1, vI (x1 + 1)), (0, vR (some t))]) dX8_clear_18 rfl rfl (Nat.le_of_ble_eq_true rfl) rfl ?_
    refine j_goto (tgt := 2) dX8_clear_21 (by decide) ?_
    obtain rfl := Option.some.inj h
    exact J.sub (zall [1, 0] rfl) hk
theorem wflX8_clear_2 {F : zF} (hd : 1 ≤ F.2.2.2) (t : Nat) (x1 : Int32) (G : GS) {a : GS} (h : flX8_clear_2 t x1 G = some a) (hk : zKV F a) : J mX8_clear F G 2 [(0, vR (some t)), (1, vI x1)] [] := by
  unfold flX8_clear_2 at h
  exact zloop_walk (P := (fun s : Int32 × GS => J mX8_clear F s.2 2 [(0, vR (some t)), (1, vI s.1)] [])) (fun s b e hk => wfbX8_clear_2 hd t s.1 s.2 e hk) (x1, G) _ h hk
def fX8_clear_0 (t : Nat)  (G : GS) : Option (GS) :=
  flX8_clear_2 t 0 G
theorem wfX8_clear_0 {F : zF} (hd : 1 ≤ F.2.2.2) (t : Nat)  (G : GS) {a : GS} (h : fX8_clear_0 t  G = some a) (hk : zKV F a) : J mX8_clear F G 0 [(0, vR (some t))] [] := by
  unfold fX8_clear_0 at h
  refine j_iconst (v := 0) dX8_clear_0 (by decide) ?_
  refine j_istore_n (lv' := [(1, vI 0), (0, vR (some t))]) dX8_clear_1 rfl (Nat.le_of_ble_eq_true rfl) rfl ?_
  exact J.sub (zall [1, 0] rfl) (wflX8_clear_2 hd t 0  G h hk)
theorem yX8_clear_ok {t : Nat} {G : GS} {G1 : GS} (h : fX8_clear_0 t G = some G1) : zRuns yX8_clear (ws_ yX8_clear cX8_clear 2 none) [vR (some t)] (.inl none, G, G1, 1) :=
  zentry (M := mX8_clear) (plainFor_of_name (by decide +kernel)) ⟨rfl, rfl, rfl, rfl⟩ (Nat.le_of_ble_eq_true rfl) (wfX8_clear_0 (Nat.le_refl _) t G h ⟨rfl, rfl⟩)
abbrev mX8_add : zM := (cX8_add, RX8, 2, none, "add", [], "(I)V")
def fX8_add_0 (t : Nat) (x1 : Int32)  (G : GS) : Option (GS) :=
  (zgR G 8 t 0).bind fun r1 => r1.bind fun a3 => (zaL G 51 a3 (x1 >>> ((6 : Int32) &&& 31))).bind fun l5 => (zsL G 51 a3 (x1 >>> ((6 : Int32) &&& 31)) (l5 ||| ((1 : Int64) <<< ((x1 &&& 63).toInt64 &&& 63)))).bind fun G7 => some G7
theorem wfX8_add_0 {F : zF} (hd : 1 ≤ F.2.2.2) (t : Nat) (x1 : Int32)  (G : GS) {a : GS} (h : fX8_add_0 t x1  G = some a) (hk : zKV F a) : J mX8_add F G 0 [(0, vR (some t)), (1, vI x1)] [] := by
  unfold fX8_add_0 at h
  refine j_aload_n (j := 0) dX8_add_0 rfl rfl ?_
  replace h := zbE h
  obtain ⟨r1, e2, h⟩ := h
  refine j_getR fgX8_9 (fun _ _ _ => rfl) dX8_add_1 e2 ?_
  refine j_iload_n (j := 1) dX8_add_4 rfl rfl ?_
  refine j_bipush (v := 6) dX8_add_5 (by decide) ?_
  refine j_ishr dX8_add_7 ?_
  refine j_dup2_11 dX8_add_8 rfl rfl ?_
  replace h := zbE h
  obtain ⟨a3, e4, h⟩ := h
  subst e4
  replace h := zbE h
  obtain ⟨l5, e6, h⟩ := h
  refine j_lald rfl e6 dX8_add_9 ?_
  refine j_lconst (v := 1) dX8_add_10 rfl ?_
  refine j_iload_n (j := 1) dX8_add_11 rfl rfl ?_
  refine j_bipush (v := 63) dX8_add_12 (by decide) ?_
  refine j_iand dX8_add_14 ?_
  refine j_lshl dX8_add_15 ?_
  refine j_lor dX8_add_16 ?_
  replace h := zbE h
  obtain ⟨G7, e8, h⟩ := h
  refine j_last e8 dX8_add_17 ?_
  obtain rfl := Option.some.inj h
  exact j_vret hk.1 hk.2 rfl dX8_add_18
theorem yX8_add_ok {t : Nat} {x1 : Int32} {G : GS} {G1 : GS} (h : fX8_add_0 t x1 G = some G1) : zRuns yX8_add (ws_ yX8_add cX8_add 2 none) [vR (some t), vI x1] (.inl none, G, G1, 1) :=
  zentry (M := mX8_add) (plainFor_of_name (by decide +kernel)) ⟨rfl, rfl, rfl, rfl⟩ (Nat.le_of_ble_eq_true rfl) (wfX8_add_0 (Nat.le_refl _) t x1 G h ⟨rfl, rfl⟩)
abbrev mX8_has : zM := (cX8_has, RX8, 2, (some Jvm.ClassFile.FieldType.boolean), "has", [], "(I)Z")
def fX8_has_0 (t : Nat) (x1 : Int32)  (G : GS) : Option (Int32) :=
  (zgR G 8 t 0).bind fun r1 => r1.bind fun a3 => (zaL G 51 a3 (x1 >>> ((6 : Int32) &&& 31))).bind fun l5 => if (lg_cmp ((l5.toUInt64 >>> ((x1 &&& 63).toInt64.toUInt64 &&& Int64.toUInt64 63)).toInt64 &&& 1) (1 : Int64)) = 0 then (zcond (zbb 1) (some 1)) else (zcond (zbb 0) (some 0))
theorem wfX8_has_0 {F : zF} (hd : 1 ≤ F.2.2.2) (t : Nat) (x1 : Int32)  (G : GS) {a : Int32} (h : fX8_has_0 t x1  G = some a) (hk : zKPI F G a) : J mX8_has F G 0 [(0, vR (some t)), (1, vI x1)] [] := by
  unfold fX8_has_0 at h
  refine j_aload_n (j := 0) dX8_has_0 rfl rfl ?_
  replace h := zbE h
  obtain ⟨r1, e2, h⟩ := h
  refine j_getR fgX8_9 (fun _ _ _ => rfl) dX8_has_1 e2 ?_
  refine j_iload_n (j := 1) dX8_has_4 rfl rfl ?_
  refine j_bipush (v := 6) dX8_has_5 (by decide) ?_
  refine j_ishr dX8_has_7 ?_
  replace h := zbE h
  obtain ⟨a3, e4, h⟩ := h
  subst e4
  replace h := zbE h
  obtain ⟨l5, e6, h⟩ := h
  refine j_lald rfl e6 dX8_has_8 ?_
  refine j_iload_n (j := 1) dX8_has_9 rfl rfl ?_
  refine j_bipush (v := 63) dX8_has_10 (by decide) ?_
  refine j_iand dX8_has_12 ?_
  refine j_lushr dX8_has_13 ?_
  refine j_lconst (v := 1) dX8_has_14 rfl ?_
  refine j_land dX8_has_15 ?_
  refine j_lconst (v := 1) dX8_has_16 rfl ?_
  refine j_lcmp dX8_has_17 ?_
  refine j_if_ne (tgt := 25) dX8_has_18 (by decide) (fun c7 => ?_) (fun c7 => ?_)
  · rw [if_pos c7] at h
    refine j_iconst (v := 1) dX8_has_21 (by decide) ?_
    refine j_goto (tgt := 26) dX8_has_22 (by decide) ?_
    replace h := zcondE h
    obtain ⟨e8, h⟩ := h
    obtain rfl := Option.some.inj h
    exact j_zret hk.1 hk.2 rfl (zbb_n e8) dX8_has_26
  · rw [if_neg c7] at h
    refine j_iconst (v := 0) dX8_has_25 (by decide) ?_
    replace h := zcondE h
    obtain ⟨e9, h⟩ := h
    obtain rfl := Option.some.inj h
    exact j_zret hk.1 hk.2 rfl (zbb_n e9) dX8_has_26
theorem yX8_has_ok {t : Nat} {x1 : Int32} {G : GS} {r : Int32} (h : fX8_has_0 t x1 G = some r) : zRuns yX8_has (ws_ yX8_has cX8_has 2 (some Jvm.ClassFile.FieldType.boolean)) [vR (some t), vI x1] (.inl (some (vI r)), G, G, 1) :=
  zentry (M := mX8_has) (plainFor_of_name (by decide +kernel)) ⟨rfl, rfl, rfl, rfl⟩ (Nat.le_of_ble_eq_true rfl) (wfX8_has_0 (Nat.le_refl _) t x1 G h ⟨rfl, rfl⟩)
abbrev mX8_pair : zM := (cX8_pair, RX8, 2, (some Jvm.ClassFile.FieldType.int), "pair", [], "(II)I")
def fX8_pair_0 (x0 : Int32) (x1 : Int32)  (G : GS) : Option (Int32) :=
  some ((14 + (13 * x0)) + x1)
theorem wfX8_pair_0 {F : zF} (hd : 1 ≤ F.2.2.2) (x0 : Int32) (x1 : Int32)  (G : GS) {a : Int32} (h : fX8_pair_0 x0 x1  G = some a) (hk : zKPI F G a) : J mX8_pair F G 0 [(0, vI x0), (1, vI x1)] [] := by
  unfold fX8_pair_0 at h
  refine j_bipush (v := 14) dX8_pair_0 (by decide) ?_
  refine j_bipush (v := 13) dX8_pair_2 (by decide) ?_
  refine j_iload_n (j := 0) dX8_pair_4 rfl rfl ?_
  refine j_imul dX8_pair_5 ?_
  refine j_iadd dX8_pair_6 ?_
  refine j_iload_n (j := 1) dX8_pair_7 rfl rfl ?_
  refine j_iadd dX8_pair_8 ?_
  obtain rfl := Option.some.inj h
  exact j_iret hk.1 hk.2 rfl dX8_pair_9
theorem yX8_pair_ok {x0 : Int32} {x1 : Int32} {G : GS} {r : Int32} (h : fX8_pair_0 x0 x1 G = some r) : zRuns yX8_pair (ws_ yX8_pair cX8_pair 2 (some Jvm.ClassFile.FieldType.int)) [vI x0, vI x1] (.inl (some (vI r)), G, G, 1) :=
  zentry (M := mX8_pair) (plainFor_of_name (by decide +kernel)) ⟨rfl, rfl, rfl, rfl⟩ (Nat.le_of_ble_eq_true rfl) (wfX8_pair_0 (Nat.le_refl _) x0 x1 G h ⟨rfl, rfl⟩)
theorem msX8_21 : zSS RX8 21 yX8_pair cX8_pair 2 (some Jvm.ClassFile.FieldType.int) 2 := ⟨lw_S q1383 q1384 q169 q1385, (by decide +kernel), (by decide)⟩
abbrev mX8_cut : zM := (cX8_cut, RX8, 3, (some Jvm.ClassFile.FieldType.int), "cut", [], "(II)I")
def fX8_cut_8 (x0 : Int32) (x1 : Int32)  (G : GS) : Option (Int32) :=
  some (x0 + x1)
theorem wfX8_cut_8 {F : zF} (hd : 2 ≤ F.2.2.2) (x0 : Int32) (x1 : Int32)  (G : GS) {a : Int32} (h : fX8_cut_8 x0 x1  G = some a) (hk : zKPI F G a) : J mX8_cut F G 8 [(0, vI x0), (1, vI x1)] [] := by
  unfold fX8_cut_8 at h
  refine j_iload_n (j := 0) dX8_cut_8 rfl rfl ?_
  refine j_iload_n (j := 1) dX8_cut_9 rfl rfl ?_
  refine j_iadd dX8_cut_10 ?_
  obtain rfl := Option.some.inj h
  exact j_iret hk.1 hk.2 rfl dX8_cut_11
def fX8_cut_31 (x0 : Int32) (s0 : Int32) (G : GS) : Option (Int32) :=
  (fX8_pair_0 (x0 - 1) s0 G).bind fun v2 => some v2
theorem wfX8_cut_31 {F : zF} (hd : 2 ≤ F.2.2.2) (x0 : Int32) (s0 : Int32) (G : GS) {a : Int32} (h : fX8_cut_31 x0 s0 G = some a) (hk : zKPI F G a) : J mX8_cut F G 31 [(0, vI x0)] [vI s0] := by
  unfold fX8_cut_31 at h
  refine j_istore_n (lv' := [(2, vI s0), (0, vI x0)]) dX8_cut_31 rfl (Nat.le_of_ble_eq_true rfl) rfl ?_
  refine j_iload_n (j := 1) dX8_cut_32 rfl rfl ?_
  refine j_iconst (v := 1) dX8_cut_33 (by decide) ?_
  refine j_isub dX8_cut_34 ?_
  refine j_iload_n (j := 0) dX8_cut_35 rfl rfl ?_
  replace h := zbE h
  obtain ⟨v2, e1, h⟩ := h
  refine j_cont (zrS (As := [vI (x0 - 1), vI s0]) msX8_21 (yX8_pair_ok e1) (Nat.le_trans (Nat.le_of_ble_eq_true rfl) hd) rfl rfl (Nat.le_of_ble_eq_true rfl) dX8_cut_36) ?_
  obtain rfl := Option.some.inj h
  exact j_iret hk.1 hk.2 rfl dX8_cut_39
def fX8_cut_0 (x0 : Int32) (x1 : Int32)  (G : GS) : Option (Int32) :=
  if x0 = 0 then (fX8_cut_8 x0 x1 G) else (if x1 = 0 then (fX8_cut_8 x0 x1 G) else (if 14 ≤ x1 then (zcond (¬ (13 : Int32) = 0) (fX8_cut_31 x0 ((x1 - 14) / (13 : Int32)) G)) else (fX8_cut_31 x0 (x1 - 1) G)))
theorem wfX8_cut_0 {F : zF} (hd : 2 ≤ F.2.2.2) (x0 : Int32) (x1 : Int32)  (G : GS) {a : Int32} (h : fX8_cut_0 x0 x1  G = some a) (hk : zKPI F G a) : J mX8_cut F G 0 [(0, vI x0), (1, vI x1)] [] := by
  unfold fX8_cut_0 at h
  refine j_iload_n (j := 0) dX8_cut_0 rfl rfl ?_
  refine j_if_eq (tgt := 8) dX8_cut_1 (by decide) (fun c1 => ?_) (fun c1 => ?_)
  · rw [if_pos c1] at h
    exact J.sub (zall [0, 1] rfl) (wfX8_cut_8 hd x0 x1  G h hk)
  · rw [if_neg c1] at h
    refine j_iload_n (j := 1) dX8_cut_4 rfl rfl ?_
    refine j_if_ne (tgt := 12) dX8_cut_5 (by decide) (fun c2 => ?_) (fun c2 => ?_)
    · rw [if_pos c2] at h
      exact J.sub (zall [0, 1] rfl) (wfX8_cut_8 hd x0 x1  G h hk)
    · rw [if_neg c2] at h
      refine j_iload_n (j := 1) dX8_cut_12 rfl rfl ?_
      refine j_bipush (v := 14) dX8_cut_13 (by decide) ?_
      refine j_icmp_ge (tgt := 24) dX8_cut_15 (by decide) (fun c3 => ?_) (fun c3 => ?_)
      · rw [if_pos c3] at h
        refine j_iload_n (j := 1) dX8_cut_24 rfl rfl ?_
        refine j_bipush (v := 14) dX8_cut_25 (by decide) ?_
        refine j_isub dX8_cut_27 ?_
        refine j_bipush (v := 13) dX8_cut_28 (by decide) ?_
        replace h := zcondE h
        obtain ⟨e4, h⟩ := h
        refine j_idiv dX8_cut_30 e4 ?_
        exact J.sub (zall [0] rfl) (wfX8_cut_31 hd x0 ((x1 - 14) / (13 : Int32)) G h hk)
      · rw [if_neg c3] at h
        refine j_iload_n (j := 1) dX8_cut_18 rfl rfl ?_
        refine j_iconst (v := 1) dX8_cut_19 (by decide) ?_
        refine j_isub dX8_cut_20 ?_
        refine j_goto (tgt := 31) dX8_cut_21 (by decide) ?_
        exact J.sub (zall [0] rfl) (wfX8_cut_31 hd x0 (x1 - 1) G h hk)
theorem yX8_cut_ok {x0 : Int32} {x1 : Int32} {G : GS} {r : Int32} (h : fX8_cut_0 x0 x1 G = some r) : zRuns yX8_cut (ws_ yX8_cut cX8_cut 3 (some Jvm.ClassFile.FieldType.int)) [vI x0, vI x1] (.inl (some (vI r)), G, G, 2) :=
  zentry (M := mX8_cut) (plainFor_of_name (by decide +kernel)) ⟨rfl, rfl, rfl, rfl⟩ (Nat.le_of_ble_eq_true rfl) (wfX8_cut_0 (Nat.le_refl _) x0 x1 G h ⟨rfl, rfl⟩)
theorem zk_8 : ∀ k, [8].contains k = true → zKc k = some "SelahGenerator$Strings" := fun k h => by rw [zKc_one h]; rfl
theorem msX8_17 : zSV RX8 17 RX8 yX8_has cX8_has 2 (some Jvm.ClassFile.FieldType.boolean) 1 := ⟨lw_V q1375 q1376 q1377 q169 q1378, (by decide +kernel), (by decide)⟩
theorem msX8_25 : zSV RX8 25 RX8 yX8_clear cX8_clear 2 none 0 := ⟨lw_V q1374 q1358 q1359 q169 q1360, (by decide +kernel), (by decide)⟩
theorem msX8_28 : zSV RX8 28 RX8 yX8_add cX8_add 2 none 1 := ⟨lw_V q1379 q1362 q1363 q169 q1364, (by decide +kernel), (by decide)⟩
theorem msX8_32 : zSS RX8 32 yX8_cut cX8_cut 3 (some Jvm.ClassFile.FieldType.int) 2 := ⟨lw_S q1380 q1381 q169 q1382, (by decide +kernel), (by decide)⟩
abbrev mX8_become : zM := (cX8_become, RX8, 5, none, "become", [], "(LSelahGenerator$Strings;LSelahGenerator$Strings;)V")
def fX8_become_74 (t : Nat) (x1 : Option Nat) (x2 : Option Nat) (x3 : Int32)  (G : GS) : Option ((Int32 × GS) ⊕ (GS)) :=
  some (.inl ((x3 + 1), G))
theorem wfX8_become_74 {F : zF} (hd : 3 ≤ F.2.2.2) (t : Nat) (x1 : Option Nat) (x2 : Option Nat) (x3 : Int32)  (G : GS) {a : (Int32 × GS) ⊕ (GS)} (h : fX8_become_74 t x1 x2 x3  G = some a) (hk : (zcase (fun s : Int32 × GS => J mX8_become F s.2 6 [(0, vR (some t)), (1, vR x1), (2, vR x2), (3, vI s.1)] []) (zKV F)) a) : J mX8_become F G 74 [(0, vR (some t)), (1, vR x1), (2, vR x2), (3, vI x3)] [] := by
  unfold fX8_become_74 at h
  refine j_iinc (j := 3) (v := (x3 + 1)) (lv' := [(3, vI (x3 + 1)), (0, vR (some t)), (1, vR x1), (2, vR x2)]) dX8_become_74 rfl rfl (Nat.le_of_ble_eq_true rfl) rfl ?_
  refine j_goto (tgt := 6) dX8_become_77 (by decide) ?_
  obtain rfl := Option.some.inj h
  exact J.sub (zall [1, 2, 3, 0] rfl) hk
def fX8_become_68 (t : Nat) (x1 : Option Nat) (x2 : Option Nat) (x3 : Int32) (x4 : Int32)  (G : GS) : Option ((Int32 × GS) ⊕ ((Int32 × GS) ⊕ (GS))) :=
  some (.inl ((x4 + 1), G))
theorem wfX8_become_68 {F : zF} (hd : 3 ≤ F.2.2.2) (t : Nat) (x1 : Option Nat) (x2 : Option Nat) (x3 : Int32) (x4 : Int32)  (G : GS) {a : (Int32 × GS) ⊕ ((Int32 × GS) ⊕ (GS))} (h : fX8_become_68 t x1 x2 x3 x4  G = some a) (hk : (zcase (fun s : Int32 × GS => J mX8_become F s.2 41 [(0, vR (some t)), (1, vR x1), (2, vR x2), (3, vI x3), (4, vI s.1)] []) ((zcase (fun s : Int32 × GS => J mX8_become F s.2 6 [(0, vR (some t)), (1, vR x1), (2, vR x2), (3, vI s.1)] []) (zKV F)))) a) : J mX8_become F G 68 [(0, vR (some t)), (1, vR x1), (2, vR x2), (3, vI x3), (4, vI x4)] [] := by
  unfold fX8_become_68 at h
  refine j_iinc (j := 4) (v := (x4 + 1)) (lv' := [(4, vI (x4 + 1)), (0, vR (some t)), (1, vR x1), (2, vR x2), (3, vI x3)]) dX8_become_68 rfl rfl (Nat.le_of_ble_eq_true rfl) rfl ?_
  refine j_goto (tgt := 41) dX8_become_71 (by decide) ?_
  obtain rfl := Option.some.inj h
  exact J.sub (zall [1, 2, 3, 4, 0] rfl) hk
def fbX8_become_41 (t : Nat) (x1 : Option Nat) (x2 : Option Nat) (x3 : Int32) (x4 : Int32)  (G : GS) : Option ((Int32 × GS) ⊕ ((Int32 × GS) ⊕ (GS))) :=
  if 183 ≤ x4 then (zo (fX8_become_74 t x1 x2 x3 G)) else (x2.bind fun a2 => zk [8] G a2 <| (fX8_has_0 a2 x4 G).bind fun v6 => if v6 = 0 then (fX8_become_68 t x1 (some a2) x3 x4 G) else ((fX8_cut_0 x3 x4 G).bind fun v9 => zk [8] G t <| (fX8_add_0 t v9 G).bind fun G12 => fX8_become_68 t x1 (some a2) x3 x4 G12))
def flX8_become_41 (t : Nat) (x1 : Option Nat) (x2 : Option Nat) (x3 : Int32) (x4 : Int32) (G : GS) : Option ((Int32 × GS) ⊕ (GS)) := zloop (fun s : Int32 × GS => fbX8_become_41 t x1 x2 x3 s.1 s.2) (x4, G)
theorem wfbX8_become_41 {F : zF} (hd : 3 ≤ F.2.2.2) (t : Nat) (x1 : Option Nat) (x2 : Option Nat) (x3 : Int32) (x4 : Int32) (G : GS) {a : (Int32 × GS) ⊕ ((Int32 × GS) ⊕ (GS))} (h : fbX8_become_41 t x1 x2 x3 x4 G = some a) (hk : (zcase (fun s : Int32 × GS => J mX8_become F s.2 41 [(0, vR (some t)), (1, vR x1), (2, vR x2), (3, vI x3), (4, vI s.1)] []) ((zcase (fun s : Int32 × GS => J mX8_become F s.2 6 [(0, vR (some t)), (1, vR x1), (2, vR x2), (3, vI s.1)] []) (zKV F)))) a) : J mX8_become F G 41 [(0, vR (some t)), (1, vR x1), (2, vR x2), (3, vI x3), (4, vI x4)] [] := by
  unfold fbX8_become_41 at h
  refine j_iload (j := 4) dX8_become_41 rfl ?_
  refine j_sipush (v := 183) dX8_become_43 (by decide) ?_
  refine j_icmp_ge (tgt := 74) dX8_become_46 (by decide) (fun c1 => ?_) (fun c1 => ?_)
  · rw [if_pos c1] at h
    replace h := zoE h
    obtain ⟨a, h, rfl⟩ := h
    replace hk := hk
    exact J.sub (zall [0, 1, 2, 3] rfl) (wfX8_become_74 hd t x1 x2 x3  G h hk)
  · rw [if_neg c1] at h
    refine j_aload_n (j := 2) dX8_become_49 rfl rfl ?_
    refine j_iload (j := 4) dX8_become_50 rfl ?_
    replace h := zbE h
    obtain ⟨a2, e3, h⟩ := h
    subst e3
    replace h := zkE h
    obtain ⟨e4, h⟩ := h
    replace h := zbE h
    obtain ⟨v6, e5, h⟩ := h
    refine j_cont (zrV (As := [vI x4]) msX8_17 (yX8_has_ok e5) (Nat.le_trans (Nat.le_of_ble_eq_true rfl) hd) (zk_8 _ e4) rfl rfl (Nat.le_of_ble_eq_true rfl) dX8_become_52) ?_
    refine j_if_eq (tgt := 68) dX8_become_55 (by decide) (fun c7 => ?_) (fun c7 => ?_)
    · rw [if_pos c7] at h
      exact J.sub (zall [0, 1, 2, 3, 4] rfl) (wfX8_become_68 hd t x1 (some a2) x3 x4  G h hk)
    · rw [if_neg c7] at h
      refine j_aload_n (j := 0) dX8_become_58 rfl rfl ?_
      refine j_iload_n (j := 3) dX8_become_59 rfl rfl ?_
      refine j_iload (j := 4) dX8_become_60 rfl ?_
      replace h := zbE h
      obtain ⟨v9, e8, h⟩ := h
      refine j_cont (zrS (As := [vI x3, vI x4]) msX8_32 (yX8_cut_ok e8) (Nat.le_trans (Nat.le_of_ble_eq_true rfl) hd) rfl rfl (Nat.le_of_ble_eq_true rfl) dX8_become_62) ?_
      replace h := zkE h
      obtain ⟨e10, h⟩ := h
      replace h := zbE h
      obtain ⟨G12, e11, h⟩ := h
      refine j_cont (zrV (As := [vI v9]) msX8_28 (yX8_add_ok e11) (Nat.le_trans (Nat.le_of_ble_eq_true rfl) hd) (zk_8 _ e10) rfl rfl (Nat.le_of_ble_eq_true rfl) dX8_become_65) ?_
      exact J.sub (zall [0, 1, 2, 3, 4] rfl) (wfX8_become_68 hd t x1 (some a2) x3 x4  G12 h hk)
theorem wflX8_become_41 {F : zF} (hd : 3 ≤ F.2.2.2) (t : Nat) (x1 : Option Nat) (x2 : Option Nat) (x3 : Int32) (x4 : Int32) (G : GS) {a : (Int32 × GS) ⊕ (GS)} (h : flX8_become_41 t x1 x2 x3 x4 G = some a) (hk : (zcase (fun s : Int32 × GS => J mX8_become F s.2 6 [(0, vR (some t)), (1, vR x1), (2, vR x2), (3, vI s.1)] []) (zKV F)) a) : J mX8_become F G 41 [(0, vR (some t)), (1, vR x1), (2, vR x2), (3, vI x3), (4, vI x4)] [] := by
  unfold flX8_become_41 at h
  exact zloop_walk (P := (fun s : Int32 × GS => J mX8_become F s.2 41 [(0, vR (some t)), (1, vR x1), (2, vR x2), (3, vI x3), (4, vI s.1)] [])) (fun s b e hk => wfbX8_become_41 hd t x1 x2 x3 s.1 s.2 e hk) (x4, G) _ h hk
def fbX8_become_6 (t : Nat) (x1 : Option Nat) (x2 : Option Nat) (x3 : Int32)  (G : GS) : Option ((Int32 × GS) ⊕ (GS)) :=
  if 183 ≤ x3 then (zo (some G)) else (x1.bind fun a2 => zk [8] G a2 <| (fX8_has_0 a2 x3 G).bind fun v6 => if v6 = 0 then (fX8_become_74 t (some a2) x2 x3 G) else (if x3 < 14 then (flX8_become_41 t (some a2) x2 x3 0 G) else (zk [8] G t <| (fX8_add_0 t x3 G).bind fun G11 => fX8_become_74 t (some a2) x2 x3 G11)))
def flX8_become_6 (t : Nat) (x1 : Option Nat) (x2 : Option Nat) (x3 : Int32) (G : GS) : Option (GS) := zloop (fun s : Int32 × GS => fbX8_become_6 t x1 x2 s.1 s.2) (x3, G)
theorem wfbX8_become_6 {F : zF} (hd : 3 ≤ F.2.2.2) (t : Nat) (x1 : Option Nat) (x2 : Option Nat) (x3 : Int32) (G : GS) {a : (Int32 × GS) ⊕ (GS)} (h : fbX8_become_6 t x1 x2 x3 G = some a) (hk : (zcase (fun s : Int32 × GS => J mX8_become F s.2 6 [(0, vR (some t)), (1, vR x1), (2, vR x2), (3, vI s.1)] []) (zKV F)) a) : J mX8_become F G 6 [(0, vR (some t)), (1, vR x1), (2, vR x2), (3, vI x3)] [] := by
  unfold fbX8_become_6 at h
  refine j_iload_n (j := 3) dX8_become_6 rfl rfl ?_
  refine j_sipush (v := 183) dX8_become_7 (by decide) ?_
  refine j_icmp_ge (tgt := 80) dX8_become_10 (by decide) (fun c1 => ?_) (fun c1 => ?_)
  · rw [if_pos c1] at h
    replace h := zoE h
    obtain ⟨a, h, rfl⟩ := h
    replace hk := hk
    obtain rfl := Option.some.inj h
    exact j_vret hk.1 hk.2 rfl dX8_become_80
  · rw [if_neg c1] at h
    refine j_aload_n (j := 1) dX8_become_13 rfl rfl ?_
    refine j_iload_n (j := 3) dX8_become_14 rfl rfl ?_
    replace h := zbE h
    obtain ⟨a2, e3, h⟩ := h
    subst e3
    replace h := zkE h
    obtain ⟨e4, h⟩ := h
    replace h := zbE h
    obtain ⟨v6, e5, h⟩ := h
    refine j_cont (zrV (As := [vI x3]) msX8_17 (yX8_has_ok e5) (Nat.le_trans (Nat.le_of_ble_eq_true rfl) hd) (zk_8 _ e4) rfl rfl (Nat.le_of_ble_eq_true rfl) dX8_become_15) ?_
    refine j_if_ne (tgt := 24) dX8_become_18 (by decide) (fun c7 => ?_) (fun c7 => ?_)
    · rw [if_pos c7] at h
      refine j_goto (tgt := 74) dX8_become_21 (by decide) ?_
      exact J.sub (zall [0, 1, 2, 3] rfl) (wfX8_become_74 hd t (some a2) x2 x3  G h hk)
    · rw [if_neg c7] at h
      refine j_iload_n (j := 3) dX8_become_24 rfl rfl ?_
      refine j_bipush (v := 14) dX8_become_25 (by decide) ?_
      refine j_icmp_lt (tgt := 38) dX8_become_27 (by decide) (fun c8 => ?_) (fun c8 => ?_)
      · rw [if_pos c8] at h
        refine j_iconst (v := 0) dX8_become_38 (by decide) ?_
        refine j_istore (lv' := [(4, vI 0), (0, vR (some t)), (1, vR (some a2)), (2, vR x2), (3, vI x3)]) dX8_become_39 (Nat.le_of_ble_eq_true rfl) rfl ?_
        exact J.sub (zall [1, 2, 3, 4, 0] rfl) (wflX8_become_41 hd t (some a2) x2 x3 0  G h hk)
      · rw [if_neg c8] at h
        refine j_aload_n (j := 0) dX8_become_30 rfl rfl ?_
        refine j_iload_n (j := 3) dX8_become_31 rfl rfl ?_
        replace h := zkE h
        obtain ⟨e9, h⟩ := h
        replace h := zbE h
        obtain ⟨G11, e10, h⟩ := h
        refine j_cont (zrV (As := [vI x3]) msX8_28 (yX8_add_ok e10) (Nat.le_trans (Nat.le_of_ble_eq_true rfl) hd) (zk_8 _ e9) rfl rfl (Nat.le_of_ble_eq_true rfl) dX8_become_32) ?_
        refine j_goto (tgt := 74) dX8_become_35 (by decide) ?_
        exact J.sub (zall [0, 1, 2, 3] rfl) (wfX8_become_74 hd t (some a2) x2 x3  G11 h hk)
theorem wflX8_become_6 {F : zF} (hd : 3 ≤ F.2.2.2) (t : Nat) (x1 : Option Nat) (x2 : Option Nat) (x3 : Int32) (G : GS) {a : GS} (h : flX8_become_6 t x1 x2 x3 G = some a) (hk : zKV F a) : J mX8_become F G 6 [(0, vR (some t)), (1, vR x1), (2, vR x2), (3, vI x3)] [] := by
  unfold flX8_become_6 at h
  exact zloop_walk (P := (fun s : Int32 × GS => J mX8_become F s.2 6 [(0, vR (some t)), (1, vR x1), (2, vR x2), (3, vI s.1)] [])) (fun s b e hk => wfbX8_become_6 hd t x1 x2 s.1 s.2 e hk) (x3, G) _ h hk
def fX8_become_0 (t : Nat) (x1 : Option Nat) (x2 : Option Nat)  (G : GS) : Option (GS) :=
  zk [8] G t <| (fX8_clear_0 t G).bind fun G3 => flX8_become_6 t x1 x2 0 G3
theorem wfX8_become_0 {F : zF} (hd : 3 ≤ F.2.2.2) (t : Nat) (x1 : Option Nat) (x2 : Option Nat)  (G : GS) {a : GS} (h : fX8_become_0 t x1 x2  G = some a) (hk : zKV F a) : J mX8_become F G 0 [(0, vR (some t)), (1, vR x1), (2, vR x2)] [] := by
  unfold fX8_become_0 at h
  refine j_aload_n (j := 0) dX8_become_0 rfl rfl ?_
  replace h := zkE h
  obtain ⟨e1, h⟩ := h
  replace h := zbE h
  obtain ⟨G3, e2, h⟩ := h
  refine j_cont (zrV (As := []) msX8_25 (yX8_clear_ok e2) (Nat.le_trans (Nat.le_of_ble_eq_true rfl) hd) (zk_8 _ e1) rfl rfl (Nat.le_of_ble_eq_true rfl) dX8_become_1) ?_
  refine j_iconst (v := 0) dX8_become_4 (by decide) ?_
  refine j_istore_n (lv' := [(3, vI 0), (0, vR (some t)), (1, vR x1), (2, vR x2)]) dX8_become_5 rfl (Nat.le_of_ble_eq_true rfl) rfl ?_
  exact J.sub (zall [1, 2, 3, 0] rfl) (wflX8_become_6 hd t x1 x2 0  G3 h hk)
theorem yX8_become_ok {t : Nat} {x1 : Option Nat} {x2 : Option Nat} {G : GS} {G1 : GS} (h : fX8_become_0 t x1 x2 G = some G1) : zRuns yX8_become (ws_ yX8_become cX8_become 5 none) [vR (some t), vR x1, vR x2] (.inl none, G, G1, 3) :=
  zentry (M := mX8_become) (plainFor_of_name (by decide +kernel)) ⟨rfl, rfl, rfl, rfl⟩ (Nat.le_of_ble_eq_true rfl) (wfX8_become_0 (Nat.le_refl _) t x1 x2 G h ⟨rfl, rfl⟩)
abbrev mX8_addAll : zM := (cX8_addAll, RX8, 4, (some Jvm.ClassFile.FieldType.boolean), "addAll", [], "(LSelahGenerator$Strings;)Z")
def fX8_addAll_41 (t : Nat) (x1 : Option Nat) (x3 : Int32) (s0 : Int32) (s1 : Int32) (G : GS) : Option ((Int32 × Int32 × GS) ⊕ ((Int32) × GS)) :=
  (zgR G 8 t 0).bind fun r1 => r1.bind fun a3 => (zaL G 51 a3 x3).bind fun l5 => x1.bind fun a7 => (zgR G 8 a7 0).bind fun r9 => r9.bind fun a11 => (zaL G 51 a11 x3).bind fun l13 => (zsL G 51 a3 x3 (l5 ||| l13)).bind fun G15 => some (.inl ((s0 ||| s1), (x3 + 1), G15))
theorem wfX8_addAll_41 {F : zF} (hd : 1 ≤ F.2.2.2) (t : Nat) (x1 : Option Nat) (x3 : Int32) (s0 : Int32) (s1 : Int32) (G : GS) {a : (Int32 × Int32 × GS) ⊕ ((Int32) × GS)} (h : fX8_addAll_41 t x1 x3 s0 s1 G = some a) (hk : (zcase (fun s : Int32 × Int32 × GS => J mX8_addAll F s.2.2 4 [(0, vR (some t)), (1, vR x1), (2, vI s.1), (3, vI s.2.1)] []) (zKI F)) a) : J mX8_addAll F G 41 [(0, vR (some t)), (1, vR x1), (3, vI x3)] [vI s1, vI s0] := by
  unfold fX8_addAll_41 at h
  refine j_ior dX8_addAll_41 ?_
  refine j_istore_n (lv' := [(2, vI (s0 ||| s1)), (0, vR (some t)), (1, vR x1), (3, vI x3)]) dX8_addAll_42 rfl (Nat.le_of_ble_eq_true rfl) rfl ?_
  refine j_aload_n (j := 1) dX8_addAll_43 rfl rfl ?_
  replace h := zbE h
  obtain ⟨r1, e2, h⟩ := h
  refine j_getR fgX8_9 (fun _ _ _ => rfl) dX8_addAll_44 e2 ?_
  refine j_iload_n (j := 3) dX8_addAll_47 rfl rfl ?_
  refine j_dup2_11 dX8_addAll_48 rfl rfl ?_
  replace h := zbE h
  obtain ⟨a3, e4, h⟩ := h
  subst e4
  replace h := zbE h
  obtain ⟨l5, e6, h⟩ := h
  refine j_lald rfl e6 dX8_addAll_49 ?_
  refine j_aload_n (j := 2) dX8_addAll_50 rfl rfl ?_
  replace h := zbE h
  obtain ⟨a7, e8, h⟩ := h
  subst e8
  replace h := zbE h
  obtain ⟨r9, e10, h⟩ := h
  refine j_getR fgX8_9 (fun _ _ _ => rfl) dX8_addAll_51 e10 ?_
  refine j_iload_n (j := 3) dX8_addAll_54 rfl rfl ?_
  replace h := zbE h
  obtain ⟨a11, e12, h⟩ := h
  subst e12
  replace h := zbE h
  obtain ⟨l13, e14, h⟩ := h
  refine j_lald rfl e14 dX8_addAll_55 ?_
  refine j_lor dX8_addAll_56 ?_
  replace h := zbE h
  obtain ⟨G15, e16, h⟩ := h
  refine j_last e16 dX8_addAll_57 ?_
  refine j_iinc (j := 3) (v := (x3 + 1)) (lv' := [(3, vI (x3 + 1)), (2, vI (s0 ||| s1)), (0, vR (some t)), (1, vR (some a7))]) dX8_addAll_58 rfl rfl (Nat.le_of_ble_eq_true rfl) rfl ?_
  refine j_goto (tgt := 4) dX8_addAll_61 (by decide) ?_
  obtain rfl := Option.some.inj h
  exact J.sub (zall [2, 3, 1, 0] rfl) hk
def fbX8_addAll_4 (t : Nat) (x1 : Option Nat) (x2 : Int32) (x3 : Int32)  (G : GS) : Option ((Int32 × Int32 × GS) ⊕ ((Int32) × GS)) :=
  (zgR G 8 t 0).bind fun r1 => r1.bind fun a3 => (zln G a3).bind fun v5 => if v5 ≤ x3 then (zo (zcond (zbb x2) (some (x2, G)))) else (x1.bind fun a9 => (zgR G 8 a9 0).bind fun r11 => r11.bind fun a13 => (zaL G 51 a13 x3).bind fun l15 => (zgR G 8 t 0).bind fun r17 => r17.bind fun a19 => (zaL G 51 a19 x3).bind fun l21 => if (lg_cmp (l15 &&& (l21 ^^^ -1)) (0 : Int64)) = 0 then (fX8_addAll_41 t (some a9) x3 x2 0 G) else (fX8_addAll_41 t (some a9) x3 x2 1 G))
def flX8_addAll_4 (t : Nat) (x1 : Option Nat) (x2 : Int32) (x3 : Int32) (G : GS) : Option ((Int32) × GS) := zloop (fun s : Int32 × Int32 × GS => fbX8_addAll_4 t x1 s.1 s.2.1 s.2.2) (x2, x3, G)
theorem wfbX8_addAll_4 {F : zF} (hd : 1 ≤ F.2.2.2) (t : Nat) (x1 : Option Nat) (x2 : Int32) (x3 : Int32) (G : GS) {a : (Int32 × Int32 × GS) ⊕ ((Int32) × GS)} (h : fbX8_addAll_4 t x1 x2 x3 G = some a) (hk : (zcase (fun s : Int32 × Int32 × GS => J mX8_addAll F s.2.2 4 [(0, vR (some t)), (1, vR x1), (2, vI s.1), (3, vI s.2.1)] []) (zKI F)) a) : J mX8_addAll F G 4 [(0, vR (some t)), (1, vR x1), (2, vI x2), (3, vI x3)] [] := by
  unfold fbX8_addAll_4 at h
  refine j_iload_n (j := 3) dX8_addAll_4 rfl rfl ?_
  refine j_aload_n (j := 0) dX8_addAll_5 rfl rfl ?_
  replace h := zbE h
  obtain ⟨r1, e2, h⟩ := h
  refine j_getR fgX8_9 (fun _ _ _ => rfl) dX8_addAll_6 e2 ?_
  replace h := zbE h
  obtain ⟨a3, e4, h⟩ := h
  subst e4
  replace h := zbE h
  obtain ⟨v5, e6, h⟩ := h
  refine j_alen e6 dX8_addAll_9 ?_
  refine j_icmp_ge (tgt := 64) dX8_addAll_10 (by decide) (fun c7 => ?_) (fun c7 => ?_)
  · rw [if_pos c7] at h
    replace h := zoE h
    obtain ⟨a, h, rfl⟩ := h
    replace hk := hk
    refine j_iload_n (j := 2) dX8_addAll_64 rfl rfl ?_
    replace h := zcondE h
    obtain ⟨e8, h⟩ := h
    obtain rfl := Option.some.inj h
    exact j_zret hk.1 hk.2 rfl (zbb_n e8) dX8_addAll_65
  · rw [if_neg c7] at h
    refine j_iload_n (j := 2) dX8_addAll_13 rfl rfl ?_
    refine j_aload_n (j := 1) dX8_addAll_14 rfl rfl ?_
    replace h := zbE h
    obtain ⟨a9, e10, h⟩ := h
    subst e10
    replace h := zbE h
    obtain ⟨r11, e12, h⟩ := h
    refine j_getR fgX8_9 (fun _ _ _ => rfl) dX8_addAll_15 e12 ?_
    refine j_iload_n (j := 3) dX8_addAll_18 rfl rfl ?_
    replace h := zbE h
    obtain ⟨a13, e14, h⟩ := h
    subst e14
    replace h := zbE h
    obtain ⟨l15, e16, h⟩ := h
    refine j_lald rfl e16 dX8_addAll_19 ?_
    refine j_aload_n (j := 0) dX8_addAll_20 rfl rfl ?_
    replace h := zbE h
    obtain ⟨r17, e18, h⟩ := h
    refine j_getR fgX8_9 (fun _ _ _ => rfl) dX8_addAll_21 e18 ?_
    refine j_iload_n (j := 3) dX8_addAll_24 rfl rfl ?_
    replace h := zbE h
    obtain ⟨a19, e20, h⟩ := h
    subst e20
    replace h := zbE h
    obtain ⟨l21, e22, h⟩ := h
    refine j_lald rfl e22 dX8_addAll_25 ?_
    refine j_ldc2 (v := -1) q1394 dX8_addAll_26 ?_
    refine j_lxor dX8_addAll_29 ?_
    refine j_land dX8_addAll_30 ?_
    refine j_lconst (v := 0) dX8_addAll_31 rfl ?_
    refine j_lcmp dX8_addAll_32 ?_
    refine j_if_eq (tgt := 40) dX8_addAll_33 (by decide) (fun c23 => ?_) (fun c23 => ?_)
    · rw [if_pos c23] at h
      refine j_iconst (v := 0) dX8_addAll_40 (by decide) ?_
      exact J.sub (zall [0, 1, 3] rfl) (wfX8_addAll_41 hd t (some a9) x3 x2 0 G h hk)
    · rw [if_neg c23] at h
      refine j_iconst (v := 1) dX8_addAll_36 (by decide) ?_
      refine j_goto (tgt := 41) dX8_addAll_37 (by decide) ?_
      exact J.sub (zall [0, 1, 3] rfl) (wfX8_addAll_41 hd t (some a9) x3 x2 1 G h hk)
theorem wflX8_addAll_4 {F : zF} (hd : 1 ≤ F.2.2.2) (t : Nat) (x1 : Option Nat) (x2 : Int32) (x3 : Int32) (G : GS) {a : (Int32) × GS} (h : flX8_addAll_4 t x1 x2 x3 G = some a) (hk : zKI F a) : J mX8_addAll F G 4 [(0, vR (some t)), (1, vR x1), (2, vI x2), (3, vI x3)] [] := by
  unfold flX8_addAll_4 at h
  exact zloop_walk (P := (fun s : Int32 × Int32 × GS => J mX8_addAll F s.2.2 4 [(0, vR (some t)), (1, vR x1), (2, vI s.1), (3, vI s.2.1)] [])) (fun s b e hk => wfbX8_addAll_4 hd t x1 s.1 s.2.1 s.2.2 e hk) (x2, x3, G) _ h hk
def fX8_addAll_0 (t : Nat) (x1 : Option Nat)  (G : GS) : Option ((Int32) × GS) :=
  flX8_addAll_4 t x1 0 0 G
theorem wfX8_addAll_0 {F : zF} (hd : 1 ≤ F.2.2.2) (t : Nat) (x1 : Option Nat)  (G : GS) {a : (Int32) × GS} (h : fX8_addAll_0 t x1  G = some a) (hk : zKI F a) : J mX8_addAll F G 0 [(0, vR (some t)), (1, vR x1)] [] := by
  unfold fX8_addAll_0 at h
  refine j_iconst (v := 0) dX8_addAll_0 (by decide) ?_
  refine j_istore_n (lv' := [(2, vI 0), (0, vR (some t)), (1, vR x1)]) dX8_addAll_1 rfl (Nat.le_of_ble_eq_true rfl) rfl ?_
  refine j_iconst (v := 0) dX8_addAll_2 (by decide) ?_
  refine j_istore_n (lv' := [(3, vI 0), (2, vI 0), (0, vR (some t)), (1, vR x1)]) dX8_addAll_3 rfl (Nat.le_of_ble_eq_true rfl) rfl ?_
  exact J.sub (zall [2, 3, 1, 0] rfl) (wflX8_addAll_4 hd t x1 0 0  G h hk)
theorem yX8_addAll_ok {t : Nat} {x1 : Option Nat} {G : GS} {r : Int32} {G1 : GS} (h : fX8_addAll_0 t x1 G = some (r, G1)) : zRuns yX8_addAll (ws_ yX8_addAll cX8_addAll 4 (some Jvm.ClassFile.FieldType.boolean)) [vR (some t), vR x1] (.inl (some (vI r)), G, G1, 1) :=
  zentry (M := mX8_addAll) (plainFor_of_name (by decide +kernel)) ⟨rfl, rfl, rfl, rfl⟩ (Nat.le_of_ble_eq_true rfl) (wfX8_addAll_0 (Nat.le_refl _) t x1 G h ⟨rfl, rfl⟩)
theorem msX8_35 : zSV RX8 35 RX8 yX8_addAll cX8_addAll 4 (some Jvm.ClassFile.FieldType.boolean) 1 := ⟨lw_V q1390 q1391 q1392 q169 q1393, (by decide +kernel), (by decide)⟩
abbrev mX8_become_2 : zM := (cX8_become_2, RX8, 3, none, "become", [], "(LSelahGenerator$Strings;)V")
def fX8_become_2_0 (t : Nat) (x1 : Option Nat)  (G : GS) : Option (GS) :=
  zk [8] G t <| (fX8_clear_0 t G).bind fun G3 => zk [8] G3 t <| zb2 (fX8_addAll_0 t x1 G3) fun v6 G7 => some G7
theorem wfX8_become_2_0 {F : zF} (hd : 2 ≤ F.2.2.2) (t : Nat) (x1 : Option Nat)  (G : GS) {a : GS} (h : fX8_become_2_0 t x1  G = some a) (hk : zKV F a) : J mX8_become_2 F G 0 [(0, vR (some t)), (1, vR x1)] [] := by
  unfold fX8_become_2_0 at h
  refine j_aload_n (j := 0) dX8_become_2_0 rfl rfl ?_
  replace h := zkE h
  obtain ⟨e1, h⟩ := h
  replace h := zbE h
  obtain ⟨G3, e2, h⟩ := h
  refine j_cont (zrV (As := []) msX8_25 (yX8_clear_ok e2) (Nat.le_trans (Nat.le_of_ble_eq_true rfl) hd) (zk_8 _ e1) rfl rfl (Nat.le_of_ble_eq_true rfl) dX8_become_2_1) ?_
  refine j_aload_n (j := 0) dX8_become_2_4 rfl rfl ?_
  refine j_aload_n (j := 1) dX8_become_2_5 rfl rfl ?_
  replace h := zkE h
  obtain ⟨e4, h⟩ := h
  replace h := zb2E h
  obtain ⟨v6, G7, e5, h⟩ := h
  refine j_cont (zrV (As := [vR x1]) msX8_35 (yX8_addAll_ok e5) (Nat.le_trans (Nat.le_of_ble_eq_true rfl) hd) (zk_8 _ e4) rfl rfl (Nat.le_of_ble_eq_true rfl) dX8_become_2_6) ?_
  refine j_istore_n (lv' := [(2, vI v6), (0, vR (some t)), (1, vR x1)]) dX8_become_2_9 rfl (Nat.le_of_ble_eq_true rfl) rfl ?_
  obtain rfl := Option.some.inj h
  exact j_vret hk.1 hk.2 rfl dX8_become_2_10
theorem yX8_become_2_ok {t : Nat} {x1 : Option Nat} {G : GS} {G1 : GS} (h : fX8_become_2_0 t x1 G = some G1) : zRuns yX8_become_2 (ws_ yX8_become_2 cX8_become_2 3 none) [vR (some t), vR x1] (.inl none, G, G1, 2) :=
  zentry (M := mX8_become_2) (plainFor_of_name (by decide +kernel)) ⟨rfl, rfl, rfl, rfl⟩ (Nat.le_of_ble_eq_true rfl) (wfX8_become_2_0 (Nat.le_refl _) t x1 G h ⟨rfl, rfl⟩)
theorem fgX7_21 : zFG RX7 21 6 4 (.object "SelahGenerator$Strings") := ⟨(RX7, TX7, 7, tyX7), rfl, by decide, in_X7, rfl, "SelahGenerator$Pairs", Or.inl rfl, Or.inl q1417⟩
theorem fgX7_25 : zFG RX7 25 6 5 (.object "SelahGenerator$Strings") := ⟨(RX7, TX7, 7, tyX7), rfl, by decide, in_X7, rfl, "SelahGenerator$Pairs", Or.inl rfl, Or.inl q1418⟩
theorem msX7_68 : zSV RX7 68 RX8 yX8_become_2 cX8_become_2 3 none 1 := ⟨lw_V q1386 q1387 q1388 q169 q1389, (by decide +kernel), (by decide)⟩
theorem msX7_74 : zSV RX7 74 RX8 yX8_become cX8_become 5 none 2 := ⟨lw_V q1370 q1371 q1372 q169 q1373, (by decide +kernel), (by decide)⟩
abbrev mX7_goOn : zM := (cX7_goOn, RX7, 2, none, "goOn", [], "(LSelahGenerator$Strings;)V")
def fX7_goOn_0 (t : Nat) (x1 : Option Nat)  (G : GS) : Option (GS) :=
  (zgR G 7 t 5).bind fun r1 => (zgR G 7 t 4).bind fun r3 => r1.bind fun a5 => zk [8] G a5 <| (fX8_become_0 a5 r3 x1 G).bind fun G9 => (zgR G9 7 t 4).bind fun r10 => (zgR G9 7 t 5).bind fun r12 => r10.bind fun a14 => zk [8] G9 a14 <| (fX8_become_2_0 a14 r12 G9).bind fun G18 => some G18
theorem wfX7_goOn_0 {F : zF} (hd : 4 ≤ F.2.2.2) (t : Nat) (x1 : Option Nat)  (G : GS) {a : GS} (h : fX7_goOn_0 t x1  G = some a) (hk : zKV F a) : J mX7_goOn F G 0 [(0, vR (some t)), (1, vR x1)] [] := by
  unfold fX7_goOn_0 at h
  refine j_aload_n (j := 0) dX7_goOn_0 rfl rfl ?_
  replace h := zbE h
  obtain ⟨r1, e2, h⟩ := h
  refine j_getR fgX7_25 (fun _ _ _ => rfl) dX7_goOn_1 e2 ?_
  refine j_aload_n (j := 0) dX7_goOn_4 rfl rfl ?_
  replace h := zbE h
  obtain ⟨r3, e4, h⟩ := h
  refine j_getR fgX7_21 (fun _ _ _ => rfl) dX7_goOn_5 e4 ?_
  refine j_aload_n (j := 1) dX7_goOn_8 rfl rfl ?_
  replace h := zbE h
  obtain ⟨a5, e6, h⟩ := h
  subst e6
  replace h := zkE h
  obtain ⟨e7, h⟩ := h
  replace h := zbE h
  obtain ⟨G9, e8, h⟩ := h
  refine j_cont (zrV (As := [vR r3, vR x1]) msX7_74 (yX8_become_ok e8) (Nat.le_trans (Nat.le_of_ble_eq_true rfl) hd) (zk_8 _ e7) rfl rfl (Nat.le_of_ble_eq_true rfl) dX7_goOn_9) ?_
  refine j_aload_n (j := 0) dX7_goOn_12 rfl rfl ?_
  replace h := zbE h
  obtain ⟨r10, e11, h⟩ := h
  refine j_getR fgX7_21 (fun _ _ _ => rfl) dX7_goOn_13 e11 ?_
  refine j_aload_n (j := 0) dX7_goOn_16 rfl rfl ?_
  replace h := zbE h
  obtain ⟨r12, e13, h⟩ := h
  refine j_getR fgX7_25 (fun _ _ _ => rfl) dX7_goOn_17 e13 ?_
  replace h := zbE h
  obtain ⟨a14, e15, h⟩ := h
  subst e15
  replace h := zkE h
  obtain ⟨e16, h⟩ := h
  replace h := zbE h
  obtain ⟨G18, e17, h⟩ := h
  refine j_cont (zrV (As := [vR r12]) msX7_68 (yX8_become_2_ok e17) (Nat.le_trans (Nat.le_of_ble_eq_true rfl) hd) (zk_8 _ e16) rfl rfl (Nat.le_of_ble_eq_true rfl) dX7_goOn_20) ?_
  obtain rfl := Option.some.inj h
  exact j_vret hk.1 hk.2 rfl dX7_goOn_23
theorem yX7_goOn_ok {t : Nat} {x1 : Option Nat} {G : GS} {G1 : GS} (h : fX7_goOn_0 t x1 G = some G1) : zRuns yX7_goOn (ws_ yX7_goOn cX7_goOn 2 none) [vR (some t), vR x1] (.inl none, G, G1, 4) :=
  zentry (M := mX7_goOn) (plainFor_of_name (by decide +kernel)) ⟨rfl, rfl, rfl, rfl⟩ (Nat.le_of_ble_eq_true rfl) (wfX7_goOn_0 (Nat.le_refl _) t x1 G h ⟨rfl, rfl⟩)
theorem zk_7 : ∀ k, [7].contains k = true → zKc k = some "SelahGenerator$Pairs" := fun k h => by rw [zKc_one h]; rfl
theorem fgX7_11 : zFG RX7 11 6 1 (.array (.object "SelahGenerator$Strings")) := ⟨(RX7, TX7, 7, tyX7), rfl, by decide, in_X7, rfl, "SelahGenerator$Pairs", Or.inl rfl, Or.inl q1412⟩
theorem fgX7_28 : zFG RX7 28 6 6 (.object "SelahGenerator$Strings") := ⟨(RX7, TX7, 7, tyX7), rfl, by decide, in_X7, rfl, "SelahGenerator$Pairs", Or.inl rfl, Or.inl q1419⟩
theorem fgX7_84 : zFG RX7 84 2 1 (.array (.int)) := ⟨(RX3, TX3, 2, tyX3), rfl, by decide, in_X3, rfl, "SelahGenerator$Rule", Or.inl rfl, Or.inr ⟨_, zxw 110 rfl⟩⟩
theorem msX7_64 : zSV RX7 64 RX7 yX7_goOn cX7_goOn 2 none 1 := ⟨lw_V q1366 q1368 qs23 q168 q1369, (by decide +kernel), (by decide)⟩
theorem msX7_77 : zSV RX7 77 RX8 yX8_clear cX8_clear 2 none 0 := ⟨lw_V q1357 q1358 q1359 q169 q1360, (by decide +kernel), (by decide)⟩
theorem msX7_80 : zSV RX7 80 RX8 yX8_add cX8_add 2 none 1 := ⟨lw_V q1361 q1362 q1363 q169 q1364, (by decide +kernel), (by decide)⟩
theorem msX7_88 : zSN RX7 88 yX1_isNonterminal "SelahGenerator" cX1_isNonterminal 1 (some Jvm.ClassFile.FieldType.boolean) 1 := ⟨q402, q123, zxw 108 rfl, (by decide +kernel), (by decide)⟩
abbrev mX7_goThrough : zM := (cX7_goThrough, RX7, 5, none, "goThrough", [], "(LSelahGenerator$Rule;I)V")
def fX7_goThrough_86 (t : Nat) (x1 : Option Nat) (x3 : Int32) (s0 : Option Nat) (s1 : Option Nat) (G : GS) : Option ((Int32 × GS) ⊕ (GS)) :=
  s0.bind fun a1 => zk [7] G a1 <| (fX7_goOn_0 a1 s1 G).bind fun G5 => some (.inl ((x3 + 1), G5))
theorem wfX7_goThrough_86 {F : zF} (hd : 5 ≤ F.2.2.2) (t : Nat) (x1 : Option Nat) (x3 : Int32) (s0 : Option Nat) (s1 : Option Nat) (G : GS) {a : (Int32 × GS) ⊕ (GS)} (h : fX7_goThrough_86 t x1 x3 s0 s1 G = some a) (hk : (zcase (fun s : Int32 × GS => J mX7_goThrough F s.2 17 [(0, vR (some t)), (1, vR x1), (3, vI s.1)] []) (zKV F)) a) : J mX7_goThrough F G 86 [(0, vR (some t)), (1, vR x1), (3, vI x3)] [vR s1, vR s0] := by
  unfold fX7_goThrough_86 at h
  replace h := zbE h
  obtain ⟨a1, e2, h⟩ := h
  subst e2
  replace h := zkE h
  obtain ⟨e3, h⟩ := h
  replace h := zbE h
  obtain ⟨G5, e4, h⟩ := h
  refine j_cont (zrV (As := [vR s1]) msX7_64 (yX7_goOn_ok e4) (Nat.le_trans (Nat.le_of_ble_eq_true rfl) hd) (zk_7 _ e3) rfl rfl (Nat.le_of_ble_eq_true rfl) dX7_goThrough_86) ?_
  refine j_iinc (j := 2) (v := (x3 + 1)) (lv' := [(3, vI (x3 + 1)), (0, vR (some t)), (1, vR x1)]) dX7_goThrough_89 rfl rfl (Nat.le_of_ble_eq_true rfl) rfl ?_
  refine j_goto (tgt := 17) dX7_goThrough_92 (by decide) ?_
  obtain rfl := Option.some.inj h
  exact J.sub (zall [1, 2, 0] rfl) hk
def fX7_goThrough_60 (t : Nat) (x1 : Option Nat) (x3 : Int32) (x4 : Int32)  (G : GS) : Option ((Int32 × GS) ⊕ (GS)) :=
  (fX1_isNonterminal_0 x4 G).bind fun v2 => if v2 = 0 then ((zgR G 7 t 6).bind fun r4 => fX7_goThrough_86 t x1 x3 (some t) r4 G) else ((zgR G 7 t 1).bind fun r6 => r6.bind fun a8 => (zaR G 55 a8 (x4 - 20)).bind fun r10 => fX7_goThrough_86 t x1 x3 (some t) r10 G)
theorem wfX7_goThrough_60 {F : zF} (hd : 5 ≤ F.2.2.2) (t : Nat) (x1 : Option Nat) (x3 : Int32) (x4 : Int32)  (G : GS) {a : (Int32 × GS) ⊕ (GS)} (h : fX7_goThrough_60 t x1 x3 x4  G = some a) (hk : (zcase (fun s : Int32 × GS => J mX7_goThrough F s.2 17 [(0, vR (some t)), (1, vR x1), (3, vI s.1)] []) (zKV F)) a) : J mX7_goThrough F G 60 [(0, vR (some t)), (1, vR x1), (3, vI x3), (4, vI x4)] [] := by
  unfold fX7_goThrough_60 at h
  refine j_aload_n (j := 0) dX7_goThrough_60 rfl rfl ?_
  refine j_iload (j := 3) dX7_goThrough_61 rfl ?_
  replace h := zbE h
  obtain ⟨v2, e1, h⟩ := h
  refine j_cont (zrSN (As := [vI x4]) msX7_88 q401 (yX1_isNonterminal_ok e1) (Nat.le_trans (Nat.le_of_ble_eq_true rfl) hd) rfl rfl (Nat.le_of_ble_eq_true rfl) dX7_goThrough_63) ?_
  refine j_if_eq (tgt := 82) dX7_goThrough_66 (by decide) (fun c3 => ?_) (fun c3 => ?_)
  · rw [if_pos c3] at h
    refine j_aload_n (j := 0) dX7_goThrough_82 rfl rfl ?_
    replace h := zbE h
    obtain ⟨r4, e5, h⟩ := h
    refine j_getR fgX7_28 (fun _ _ _ => rfl) dX7_goThrough_83 e5 ?_
    exact J.sub (zall [0, 1, 2] rfl) (wfX7_goThrough_86 hd t x1 x3 (some t) r4 G h hk)
  · rw [if_neg c3] at h
    refine j_aload_n (j := 0) dX7_goThrough_69 rfl rfl ?_
    replace h := zbE h
    obtain ⟨r6, e7, h⟩ := h
    refine j_getR fgX7_11 (fun _ _ _ => rfl) dX7_goThrough_70 e7 ?_
    refine j_iload (j := 3) dX7_goThrough_73 rfl ?_
    refine j_bipush (v := 20) dX7_goThrough_75 (by decide) ?_
    refine j_isub dX7_goThrough_77 ?_
    replace h := zbE h
    obtain ⟨a8, e9, h⟩ := h
    subst e9
    replace h := zbE h
    obtain ⟨r10, e11, h⟩ := h
    refine j_aald (Or.inr (Or.inl rfl)) e11 dX7_goThrough_78 ?_
    refine j_goto (tgt := 86) dX7_goThrough_79 (by decide) ?_
    exact J.sub (zall [0, 1, 2] rfl) (wfX7_goThrough_86 hd t x1 x3 (some t) r10 G h hk)
def fbX7_goThrough_17 (t : Nat) (x1 : Option Nat) (x3 : Int32)  (G : GS) : Option ((Int32 × GS) ⊕ (GS)) :=
  x1.bind fun a1 => (zgR G 3 a1 1).bind fun r3 => r3.bind fun a5 => (zln G a5).bind fun v7 => if v7 ≤ x3 then (zo (some G)) else ((zgR G 3 a1 1).bind fun r10 => r10.bind fun a12 => (zaI G 50 a12 x3).bind fun v14 => (zgR G 7 t 6).bind fun r16 => r16.bind fun a18 => zk [8] G a18 <| (fX8_clear_0 a18 G).bind fun G22 => (fX1_isNonterminal_0 v14 G22).bind fun v24 => if v24 = 0 then ((zgR G22 7 t 6).bind fun r26 => r26.bind fun a28 => zk [8] G22 a28 <| (fX8_add_0 a28 (1 + v14) G22).bind fun G32 => fX7_goThrough_60 t (some a1) x3 v14 G32) else (fX7_goThrough_60 t (some a1) x3 v14 G22))
def flX7_goThrough_17 (t : Nat) (x1 : Option Nat) (x3 : Int32) (G : GS) : Option (GS) := zloop (fun s : Int32 × GS => fbX7_goThrough_17 t x1 s.1 s.2) (x3, G)
theorem wfbX7_goThrough_17 {F : zF} (hd : 5 ≤ F.2.2.2) (t : Nat) (x1 : Option Nat) (x3 : Int32) (G : GS) {a : (Int32 × GS) ⊕ (GS)} (h : fbX7_goThrough_17 t x1 x3 G = some a) (hk : (zcase (fun s : Int32 × GS => J mX7_goThrough F s.2 17 [(0, vR (some t)), (1, vR x1), (3, vI s.1)] []) (zKV F)) a) : J mX7_goThrough F G 17 [(0, vR (some t)), (1, vR x1), (3, vI x3)] [] := by
  unfold fbX7_goThrough_17 at h
  refine j_iload_n (j := 2) dX7_goThrough_17 rfl rfl ?_
  refine j_aload_n (j := 1) dX7_goThrough_18 rfl rfl ?_
  replace h := zbE h
  obtain ⟨a1, e2, h⟩ := h
  subst e2
  replace h := zbE h
  obtain ⟨r3, e4, h⟩ := h
  refine j_getR fgX7_84 (fun _ _ _ => rfl) dX7_goThrough_19 e4 ?_
  replace h := zbE h
  obtain ⟨a5, e6, h⟩ := h
  subst e6
  replace h := zbE h
  obtain ⟨v7, e8, h⟩ := h
  refine j_alen e8 dX7_goThrough_22 ?_
  refine j_icmp_ge (tgt := 95) dX7_goThrough_23 (by decide) (fun c9 => ?_) (fun c9 => ?_)
  · rw [if_pos c9] at h
    replace h := zoE h
    obtain ⟨a, h, rfl⟩ := h
    replace hk := hk
    obtain rfl := Option.some.inj h
    exact j_vret hk.1 hk.2 rfl dX7_goThrough_95
  · rw [if_neg c9] at h
    refine j_aload_n (j := 1) dX7_goThrough_26 rfl rfl ?_
    replace h := zbE h
    obtain ⟨r10, e11, h⟩ := h
    refine j_getR fgX7_84 (fun _ _ _ => rfl) dX7_goThrough_27 e11 ?_
    refine j_iload_n (j := 2) dX7_goThrough_30 rfl rfl ?_
    replace h := zbE h
    obtain ⟨a12, e13, h⟩ := h
    subst e13
    replace h := zbE h
    obtain ⟨v14, e15, h⟩ := h
    refine j_iald (Or.inl rfl) e15 dX7_goThrough_31 ?_
    refine j_istore (lv' := [(4, vI v14), (0, vR (some t)), (1, vR (some a1)), (3, vI x3)]) dX7_goThrough_32 (Nat.le_of_ble_eq_true rfl) rfl ?_
    refine j_aload_n (j := 1) dX7_goThrough_34 rfl rfl ?_
    replace h := zbE h
    obtain ⟨r16, e17, h⟩ := h
    refine j_getR fgX7_28 (fun _ _ _ => rfl) dX7_goThrough_35 e17 ?_
    replace h := zbE h
    obtain ⟨a18, e19, h⟩ := h
    subst e19
    replace h := zkE h
    obtain ⟨e20, h⟩ := h
    replace h := zbE h
    obtain ⟨G22, e21, h⟩ := h
    refine j_cont (zrV (As := []) msX7_77 (yX8_clear_ok e21) (Nat.le_trans (Nat.le_of_ble_eq_true rfl) hd) (zk_8 _ e20) rfl rfl (Nat.le_of_ble_eq_true rfl) dX7_goThrough_38) ?_
    refine j_iload (j := 0) dX7_goThrough_41 rfl ?_
    replace h := zbE h
    obtain ⟨v24, e23, h⟩ := h
    refine j_cont (zrSN (As := [vI v14]) msX7_88 q401 (yX1_isNonterminal_ok e23) (Nat.le_trans (Nat.le_of_ble_eq_true rfl) hd) rfl rfl (Nat.le_of_ble_eq_true rfl) dX7_goThrough_43) ?_
    refine j_if_ne (tgt := 60) dX7_goThrough_46 (by decide) (fun c25 => ?_) (fun c25 => ?_)
    · rw [if_pos c25] at h
      refine j_aload_n (j := 1) dX7_goThrough_49 rfl rfl ?_
      replace h := zbE h
      obtain ⟨r26, e27, h⟩ := h
      refine j_getR fgX7_28 (fun _ _ _ => rfl) dX7_goThrough_50 e27 ?_
      refine j_iconst (v := 1) dX7_goThrough_53 (by decide) ?_
      refine j_iload (j := 0) dX7_goThrough_54 rfl ?_
      refine j_iadd dX7_goThrough_56 ?_
      replace h := zbE h
      obtain ⟨a28, e29, h⟩ := h
      subst e29
      replace h := zkE h
      obtain ⟨e30, h⟩ := h
      replace h := zbE h
      obtain ⟨G32, e31, h⟩ := h
      refine j_cont (zrV (As := [vI (1 + v14)]) msX7_80 (yX8_add_ok e31) (Nat.le_trans (Nat.le_of_ble_eq_true rfl) hd) (zk_8 _ e30) rfl rfl (Nat.le_of_ble_eq_true rfl) dX7_goThrough_57) ?_
      exact J.sub (zall [1, 2, 3, 0] rfl) (wfX7_goThrough_60 hd t (some a1) x3 v14  G32 h hk)
    · rw [if_neg c25] at h
      exact J.sub (zall [1, 2, 3, 0] rfl) (wfX7_goThrough_60 hd t (some a1) x3 v14  G22 h hk)
theorem wflX7_goThrough_17 {F : zF} (hd : 5 ≤ F.2.2.2) (t : Nat) (x1 : Option Nat) (x3 : Int32) (G : GS) {a : GS} (h : flX7_goThrough_17 t x1 x3 G = some a) (hk : zKV F a) : J mX7_goThrough F G 17 [(0, vR (some t)), (1, vR x1), (3, vI x3)] [] := by
  unfold flX7_goThrough_17 at h
  exact zloop_walk (P := (fun s : Int32 × GS => J mX7_goThrough F s.2 17 [(0, vR (some t)), (1, vR x1), (3, vI s.1)] [])) (fun s b e hk => wfbX7_goThrough_17 hd t x1 s.1 s.2 e hk) (x3, G) _ h hk
def fX7_goThrough_0 (t : Nat) (x1 : Option Nat) (x2 : Int32)  (G : GS) : Option (GS) :=
  (zgR G 7 t 4).bind fun r1 => r1.bind fun a3 => zk [8] G a3 <| (fX8_clear_0 a3 G).bind fun G7 => (zgR G7 7 t 4).bind fun r8 => r8.bind fun a10 => zk [8] G7 a10 <| (fX8_add_0 a10 0 G7).bind fun G14 => flX7_goThrough_17 t x1 x2 G14
theorem wfX7_goThrough_0 {F : zF} (hd : 5 ≤ F.2.2.2) (t : Nat) (x1 : Option Nat) (x2 : Int32)  (G : GS) {a : GS} (h : fX7_goThrough_0 t x1 x2  G = some a) (hk : zKV F a) : J mX7_goThrough F G 0 [(0, vR (some t)), (1, vR x1), (2, vI x2)] [] := by
  unfold fX7_goThrough_0 at h
  refine j_aload_n (j := 0) dX7_goThrough_0 rfl rfl ?_
  replace h := zbE h
  obtain ⟨r1, e2, h⟩ := h
  refine j_getR fgX7_21 (fun _ _ _ => rfl) dX7_goThrough_1 e2 ?_
  replace h := zbE h
  obtain ⟨a3, e4, h⟩ := h
  subst e4
  replace h := zkE h
  obtain ⟨e5, h⟩ := h
  replace h := zbE h
  obtain ⟨G7, e6, h⟩ := h
  refine j_cont (zrV (As := []) msX7_77 (yX8_clear_ok e6) (Nat.le_trans (Nat.le_of_ble_eq_true rfl) hd) (zk_8 _ e5) rfl rfl (Nat.le_of_ble_eq_true rfl) dX7_goThrough_4) ?_
  refine j_aload_n (j := 0) dX7_goThrough_7 rfl rfl ?_
  replace h := zbE h
  obtain ⟨r8, e9, h⟩ := h
  refine j_getR fgX7_21 (fun _ _ _ => rfl) dX7_goThrough_8 e9 ?_
  refine j_iconst (v := 0) dX7_goThrough_11 (by decide) ?_
  replace h := zbE h
  obtain ⟨a10, e11, h⟩ := h
  subst e11
  replace h := zkE h
  obtain ⟨e12, h⟩ := h
  replace h := zbE h
  obtain ⟨G14, e13, h⟩ := h
  refine j_cont (zrV (As := [vI 0]) msX7_80 (yX8_add_ok e13) (Nat.le_trans (Nat.le_of_ble_eq_true rfl) hd) (zk_8 _ e12) rfl rfl (Nat.le_of_ble_eq_true rfl) dX7_goThrough_12) ?_
  refine j_iload_n (j := 2) dX7_goThrough_15 rfl rfl ?_
  refine j_istore_n (lv' := [(3, vI x2), (0, vR (some t)), (1, vR x1), (2, vI x2)]) dX7_goThrough_16 rfl (Nat.le_of_ble_eq_true rfl) rfl ?_
  exact J.sub (zall [1, 2, 0] rfl) (wflX7_goThrough_17 hd t x1 x2  G14 h hk)
theorem yX7_goThrough_ok {t : Nat} {x1 : Option Nat} {x2 : Int32} {G : GS} {G1 : GS} (h : fX7_goThrough_0 t x1 x2 G = some G1) : zRuns yX7_goThrough (ws_ yX7_goThrough cX7_goThrough 5 none) [vR (some t), vR x1, vI x2] (.inl none, G, G1, 5) :=
  zentry (M := mX7_goThrough) (plainFor_of_name (by decide +kernel)) ⟨rfl, rfl, rfl, rfl⟩ (Nat.le_of_ble_eq_true rfl) (wfX7_goThrough_0 (Nat.le_refl _) t x1 x2 G h ⟨rfl, rfl⟩)
theorem fgX7_31 : zFG RX7 31 6 0 (.object "java/util/List") := ⟨(RX7, TX7, 7, tyX7), rfl, by decide, in_X7, rfl, "SelahGenerator$Pairs", Or.inl rfl, Or.inl q1411⟩
theorem fgX7_60 : zFG RX7 60 2 0 (.int) := ⟨(RX3, TX3, 2, tyX3), rfl, by decide, in_X3, rfl, "SelahGenerator$Rule", Or.inl rfl, Or.inr ⟨_, zxw 109 rfl⟩⟩
theorem msX7_102_J19 : zSF RX7 102 RJ19 ⟨"java/util/Iterator", "next", "()Ljava/lang/Object;"⟩ yJ19_next cJ19_next 3 (some (Jvm.ClassFile.FieldType.object "java/lang/Object")) 0 := ⟨lw_F q1351 q359 q361 q147 q363, zfw 18 rfl, ⟨12, _, rfl, rfl⟩, (by decide +kernel), (by decide)⟩
theorem msX7_105 : zSV RX7 105 RX8 yX8_addAll cX8_addAll 4 (some Jvm.ClassFile.FieldType.boolean) 1 := ⟨lw_V q1395 q1391 q1392 q169 q1393, (by decide +kernel), (by decide)⟩
theorem msX7_56 : zSV RX7 56 RX7 yX7_goThrough cX7_goThrough 5 none 2 := ⟨lw_V q1353 q1355 qs22 q168 q1356, (by decide +kernel), (by decide)⟩
theorem msX7_92_J2 : zSF RX7 92 RJ2 ⟨"java/util/List", "iterator", "()Ljava/util/Iterator;"⟩ yJ2_iterator cJ2_iterator 1 (some (Jvm.ClassFile.FieldType.object "java/util/Iterator")) 0 := ⟨lw_F q1347 q288 q290 q126 q292, zfw 12 rfl, ⟨11, _, rfl, rfl⟩, (by decide +kernel), (by decide)⟩
theorem msX7_96_J19 : zSF RX7 96 RJ19 ⟨"java/util/Iterator", "hasNext", "()Z"⟩ yJ19_hasNext cJ19_hasNext 1 (some Jvm.ClassFile.FieldType.boolean) 0 := ⟨lw_F q1349 q323 q325 q147 q327, zfw 17 rfl, ⟨12, _, rfl, rfl⟩, (by decide +kernel), (by decide)⟩
abbrev mX7_findFirst : zM := (cX7_findFirst, RX7, 4, none, "findFirst", [], "()V")
def fX7_findFirst_68 (t : Nat) (x1 : Int32)  (G : GS) : Option ((Int32 × GS) ⊕ (GS)) :=
  some (.inl (x1, G))
theorem wfX7_findFirst_68 {F : zF} (hd : 6 ≤ F.2.2.2) (t : Nat) (x1 : Int32)  (G : GS) {a : (Int32 × GS) ⊕ (GS)} (h : fX7_findFirst_68 t x1  G = some a) (hk : (zcase (fun s : Int32 × GS => J mX7_findFirst F s.2 2 [(0, vR (some t)), (1, vI s.1)] []) (zKV F)) a) : J mX7_findFirst F G 68 [(0, vR (some t)), (1, vI x1)] [] := by
  unfold fX7_findFirst_68 at h
  refine j_goto (tgt := 2) dX7_findFirst_68 (by decide) ?_
  obtain rfl := Option.some.inj h
  exact J.sub (zall [0, 1] rfl) hk
def fbX7_findFirst_18 (t : Nat) (x1 : Int32) (x2 : Option Nat)  (G : GS) : Option ((Int32 × GS) ⊕ ((Int32 × GS) ⊕ (GS))) :=
  x2.bind fun a1 => zk [13] G a1 <| (fJ19_hasNext_0 a1 G).bind fun v5 => if v5 = 0 then (zo (fX7_findFirst_68 t x1 G)) else (zk [13] G a1 <| zb2 (fJ19_next_0 a1 G) fun r9 G10 => zkq [3] G10 r9 (zk [7] G10 t <| (fX7_goThrough_0 t r9 0 G10).bind fun G14 => (zgR G14 7 t 1).bind fun r15 => r9.bind fun a17 => (zgI G14 3 a17 0).bind fun v19 => r15.bind fun a21 => (zaR G14 55 a21 (v19 - 20)).bind fun r23 => (zgR G14 7 t 4).bind fun r25 => r23.bind fun a27 => zk [8] G14 a27 <| zb2 (fX8_addAll_0 a27 r25 G14) fun v31 G32 => some (.inl ((x1 ||| v31), G32))))
def flX7_findFirst_18 (t : Nat) (x1 : Int32) (x2 : Option Nat) (G : GS) : Option ((Int32 × GS) ⊕ (GS)) := zloop (fun s : Int32 × GS => fbX7_findFirst_18 t s.1 x2 s.2) (x1, G)
theorem wfbX7_findFirst_18 {F : zF} (hd : 6 ≤ F.2.2.2) (t : Nat) (x1 : Int32) (x2 : Option Nat) (G : GS) {a : (Int32 × GS) ⊕ ((Int32 × GS) ⊕ (GS))} (h : fbX7_findFirst_18 t x1 x2 G = some a) (hk : (zcase (fun s : Int32 × GS => J mX7_findFirst F s.2 18 [(0, vR (some t)), (1, vI s.1), (2, vR x2)] []) ((zcase (fun s : Int32 × GS => J mX7_findFirst F s.2 2 [(0, vR (some t)), (1, vI s.1)] []) (zKV F)))) a) : J mX7_findFirst F G 18 [(0, vR (some t)), (1, vI x1), (2, vR x2)] [] := by
  unfold fbX7_findFirst_18 at h
  refine j_aload_n (j := 2) dX7_findFirst_18 rfl rfl ?_
  replace h := zbE h
  obtain ⟨a1, e2, h⟩ := h
  subst e2
  replace h := zkE h
  obtain ⟨e3, h⟩ := h
  replace h := zbE h
  obtain ⟨v5, e4, h⟩ := h
  refine j_cont (zrF (As := []) msX7_96_J19 (yJ19_hasNext_ok e4) (Nat.le_trans (Nat.le_of_ble_eq_true rfl) hd) (zk_13 _ e3) rfl rfl (Nat.le_of_ble_eq_true rfl) dX7_findFirst_19) ?_
  refine j_if_eq (tgt := 68) dX7_findFirst_24 (by decide) (fun c6 => ?_) (fun c6 => ?_)
  · rw [if_pos c6] at h
    replace h := zoE h
    obtain ⟨a, h, rfl⟩ := h
    replace hk := hk
    exact J.sub (zall [0, 1] rfl) (wfX7_findFirst_68 hd t x1  G h hk)
  · rw [if_neg c6] at h
    refine j_aload_n (j := 2) dX7_findFirst_27 rfl rfl ?_
    replace h := zkE h
    obtain ⟨e7, h⟩ := h
    replace h := zb2E h
    obtain ⟨r9, G10, e8, h⟩ := h
    refine j_cont (zrF (As := []) msX7_102_J19 (yJ19_next_ok e8) (Nat.le_trans (Nat.le_of_ble_eq_true rfl) hd) (zk_13 _ e7) rfl rfl (Nat.le_of_ble_eq_true rfl) dX7_findFirst_28) ?_
    replace h := zkqE h
    obtain ⟨e11, h⟩ := h
    refine j_castq (fun k => j_castN dX7_findFirst_33 k) (fun b q33 k => j_castS (zk_3 _ (e11 b q33)) ⟨2, _, rfl, rfl⟩ q1352 dX7_findFirst_33 k) ?_
    refine j_astore_n (lv' := [(3, vR r9), (0, vR (some t)), (1, vI x1), (2, vR (some a1))]) dX7_findFirst_36 rfl (Nat.le_of_ble_eq_true rfl) rfl ?_
    refine j_aload_n (j := 1) dX7_findFirst_37 rfl rfl ?_
    refine j_aload_n (j := 0) dX7_findFirst_38 rfl rfl ?_
    refine j_iconst (v := 0) dX7_findFirst_39 (by decide) ?_
    replace h := zkE h
    obtain ⟨e12, h⟩ := h
    replace h := zbE h
    obtain ⟨G14, e13, h⟩ := h
    refine j_cont (zrV (As := [vR r9, vI 0]) msX7_56 (yX7_goThrough_ok e13) (Nat.le_trans (Nat.le_of_ble_eq_true rfl) hd) (zk_7 _ e12) rfl rfl (Nat.le_of_ble_eq_true rfl) dX7_findFirst_40) ?_
    refine j_iload_n (j := 2) dX7_findFirst_43 rfl rfl ?_
    refine j_aload_n (j := 1) dX7_findFirst_44 rfl rfl ?_
    replace h := zbE h
    obtain ⟨r15, e16, h⟩ := h
    refine j_getR fgX7_11 (fun _ _ _ => rfl) dX7_findFirst_45 e16 ?_
    refine j_aload_n (j := 0) dX7_findFirst_48 rfl rfl ?_
    replace h := zbE h
    obtain ⟨a17, e18, h⟩ := h
    subst e18
    replace h := zbE h
    obtain ⟨v19, e20, h⟩ := h
    refine j_getI fgX7_60 (fun _ _ _ => rfl) dX7_findFirst_49 e20 ?_
    refine j_bipush (v := 20) dX7_findFirst_52 (by decide) ?_
    refine j_isub dX7_findFirst_54 ?_
    replace h := zbE h
    obtain ⟨a21, e22, h⟩ := h
    subst e22
    replace h := zbE h
    obtain ⟨r23, e24, h⟩ := h
    refine j_aald (Or.inr (Or.inl rfl)) e24 dX7_findFirst_55 ?_
    refine j_aload_n (j := 1) dX7_findFirst_56 rfl rfl ?_
    replace h := zbE h
    obtain ⟨r25, e26, h⟩ := h
    refine j_getR fgX7_21 (fun _ _ _ => rfl) dX7_findFirst_57 e26 ?_
    replace h := zbE h
    obtain ⟨a27, e28, h⟩ := h
    subst e28
    replace h := zkE h
    obtain ⟨e29, h⟩ := h
    replace h := zb2E h
    obtain ⟨v31, G32, e30, h⟩ := h
    refine j_cont (zrV (As := [vR r25]) msX7_105 (yX8_addAll_ok e30) (Nat.le_trans (Nat.le_of_ble_eq_true rfl) hd) (zk_8 _ e29) rfl rfl (Nat.le_of_ble_eq_true rfl) dX7_findFirst_60) ?_
    refine j_ior dX7_findFirst_63 ?_
    refine j_istore_n (lv' := [(1, vI (x1 ||| v31)), (3, vR (some a17)), (0, vR (some t)), (2, vR (some a1))]) dX7_findFirst_64 rfl (Nat.le_of_ble_eq_true rfl) rfl ?_
    refine j_goto (tgt := 18) dX7_findFirst_65 (by decide) ?_
    obtain rfl := Option.some.inj h
    exact J.sub (zall [2, 0, 3] rfl) hk
theorem wflX7_findFirst_18 {F : zF} (hd : 6 ≤ F.2.2.2) (t : Nat) (x1 : Int32) (x2 : Option Nat) (G : GS) {a : (Int32 × GS) ⊕ (GS)} (h : flX7_findFirst_18 t x1 x2 G = some a) (hk : (zcase (fun s : Int32 × GS => J mX7_findFirst F s.2 2 [(0, vR (some t)), (1, vI s.1)] []) (zKV F)) a) : J mX7_findFirst F G 18 [(0, vR (some t)), (1, vI x1), (2, vR x2)] [] := by
  unfold flX7_findFirst_18 at h
  exact zloop_walk (P := (fun s : Int32 × GS => J mX7_findFirst F s.2 18 [(0, vR (some t)), (1, vI s.1), (2, vR x2)] [])) (fun s b e hk => wfbX7_findFirst_18 hd t s.1 x2 s.2 e hk) (x1, G) _ h hk
def fbX7_findFirst_2 (t : Nat) (x1 : Int32)  (G : GS) : Option ((Int32 × GS) ⊕ (GS)) :=
  if x1 = 0 then (zo (some G)) else ((zgR G 7 t 0).bind fun r2 => r2.bind fun a4 => zk [12] G a4 <| zb2 (fJ2_iterator_0 a4 G) fun r8 G9 => flX7_findFirst_18 t 0 r8 G9)
def flX7_findFirst_2 (t : Nat) (x1 : Int32) (G : GS) : Option (GS) := zloop (fun s : Int32 × GS => fbX7_findFirst_2 t s.1 s.2) (x1, G)
theorem wfbX7_findFirst_2 {F : zF} (hd : 6 ≤ F.2.2.2) (t : Nat) (x1 : Int32) (G : GS) {a : (Int32 × GS) ⊕ (GS)} (h : fbX7_findFirst_2 t x1 G = some a) (hk : (zcase (fun s : Int32 × GS => J mX7_findFirst F s.2 2 [(0, vR (some t)), (1, vI s.1)] []) (zKV F)) a) : J mX7_findFirst F G 2 [(0, vR (some t)), (1, vI x1)] [] := by
  unfold fbX7_findFirst_2 at h
  refine j_iload_n (j := 1) dX7_findFirst_2 rfl rfl ?_
  refine j_if_eq (tgt := 71) dX7_findFirst_3 (by decide) (fun c1 => ?_) (fun c1 => ?_)
  · rw [if_pos c1] at h
    replace h := zoE h
    obtain ⟨a, h, rfl⟩ := h
    replace hk := hk
    obtain rfl := Option.some.inj h
    exact j_vret hk.1 hk.2 rfl dX7_findFirst_71
  · rw [if_neg c1] at h
    refine j_iconst (v := 0) dX7_findFirst_6 (by decide) ?_
    refine j_istore_n (lv' := [(1, vI 0), (0, vR (some t))]) dX7_findFirst_7 rfl (Nat.le_of_ble_eq_true rfl) rfl ?_
    refine j_aload_n (j := 1) dX7_findFirst_8 rfl rfl ?_
    replace h := zbE h
    obtain ⟨r2, e3, h⟩ := h
    refine j_getR fgX7_31 (fun _ _ _ => rfl) dX7_findFirst_9 e3 ?_
    replace h := zbE h
    obtain ⟨a4, e5, h⟩ := h
    subst e5
    replace h := zkE h
    obtain ⟨e6, h⟩ := h
    replace h := zb2E h
    obtain ⟨r8, G9, e7, h⟩ := h
    refine j_cont (zrF (As := []) msX7_92_J2 (yJ2_iterator_ok e7) (Nat.le_trans (Nat.le_of_ble_eq_true rfl) hd) (zk_12 _ e6) rfl rfl (Nat.le_of_ble_eq_true rfl) dX7_findFirst_12) ?_
    refine j_astore_n (lv' := [(2, vR r8), (1, vI 0), (0, vR (some t))]) dX7_findFirst_17 rfl (Nat.le_of_ble_eq_true rfl) rfl ?_
    exact J.sub (zall [2, 1, 0] rfl) (wflX7_findFirst_18 hd t 0 r8  G9 h hk)
theorem wflX7_findFirst_2 {F : zF} (hd : 6 ≤ F.2.2.2) (t : Nat) (x1 : Int32) (G : GS) {a : GS} (h : flX7_findFirst_2 t x1 G = some a) (hk : zKV F a) : J mX7_findFirst F G 2 [(0, vR (some t)), (1, vI x1)] [] := by
  unfold flX7_findFirst_2 at h
  exact zloop_walk (P := (fun s : Int32 × GS => J mX7_findFirst F s.2 2 [(0, vR (some t)), (1, vI s.1)] [])) (fun s b e hk => wfbX7_findFirst_2 hd t s.1 s.2 e hk) (x1, G) _ h hk
def fX7_findFirst_0 (t : Nat)  (G : GS) : Option (GS) :=
  flX7_findFirst_2 t 1 G
theorem wfX7_findFirst_0 {F : zF} (hd : 6 ≤ F.2.2.2) (t : Nat)  (G : GS) {a : GS} (h : fX7_findFirst_0 t  G = some a) (hk : zKV F a) : J mX7_findFirst F G 0 [(0, vR (some t))] [] := by
  unfold fX7_findFirst_0 at h
  refine j_iconst (v := 1) dX7_findFirst_0 (by decide) ?_
  refine j_istore_n (lv' := [(1, vI 1), (0, vR (some t))]) dX7_findFirst_1 rfl (Nat.le_of_ble_eq_true rfl) rfl ?_
  exact J.sub (zall [1, 0] rfl) (wflX7_findFirst_2 hd t 1  G h hk)
theorem yX7_findFirst_ok {t : Nat} {G : GS} {G1 : GS} (h : fX7_findFirst_0 t G = some G1) : zRuns yX7_findFirst (ws_ yX7_findFirst cX7_findFirst 4 none) [vR (some t)] (.inl none, G, G1, 6) :=
  zentry (M := mX7_findFirst) (plainFor_of_name (by decide +kernel)) ⟨rfl, rfl, rfl, rfl⟩ (Nat.le_of_ble_eq_true rfl) (wfX7_findFirst_0 (Nat.le_refl _) t G h ⟨rfl, rfl⟩)
abbrev mX8_keepPairs : zM := (cX8_keepPairs, RX8, 2, none, "keepPairs", [], "()V")
def fbX8_keepPairs_2 (t : Nat) (x1 : Int32)  (G : GS) : Option ((Int32 × GS) ⊕ (GS)) :=
  if 14 ≤ x1 then (zo (some G)) else ((zgR G 8 t 0).bind fun r2 => r2.bind fun a4 => (zaL G 51 a4 (0 : Int32)).bind fun l6 => (zsL G 51 a4 (0 : Int32) (l6 &&& (((1 : Int64) <<< (x1.toInt64 &&& 63)) ^^^ -1))).bind fun G8 => some (.inl ((x1 + 1), G8)))
def flX8_keepPairs_2 (t : Nat) (x1 : Int32) (G : GS) : Option (GS) := zloop (fun s : Int32 × GS => fbX8_keepPairs_2 t s.1 s.2) (x1, G)
theorem wfbX8_keepPairs_2 {F : zF} (hd : 1 ≤ F.2.2.2) (t : Nat) (x1 : Int32) (G : GS) {a : (Int32 × GS) ⊕ (GS)} (h : fbX8_keepPairs_2 t x1 G = some a) (hk : (zcase (fun s : Int32 × GS => J mX8_keepPairs F s.2 2 [(0, vR (some t)), (1, vI s.1)] []) (zKV F)) a) : J mX8_keepPairs F G 2 [(0, vR (some t)), (1, vI x1)] [] := by
  unfold fbX8_keepPairs_2 at h
  refine j_iload_n (j := 1) dX8_keepPairs_2 rfl rfl ?_
  refine j_bipush (v := 14) dX8_keepPairs_3 (by decide) ?_
  refine j_icmp_ge (tgt := 30) dX8_keepPairs_5 (by decide) (fun c1 => ?_) (fun c1 => ?_)
  · rw [if_pos c1] at h
    replace h := zoE h
    obtain ⟨a, h, rfl⟩ := h
    replace hk := hk
    obtain rfl := Option.some.inj h
    exact j_vret hk.1 hk.2 rfl dX8_keepPairs_30
  · rw [if_neg c1] at h
    refine j_aload_n (j := 0) dX8_keepPairs_8 rfl rfl ?_
    replace h := zbE h
    obtain ⟨r2, e3, h⟩ := h
    refine j_getR fgX8_9 (fun _ _ _ => rfl) dX8_keepPairs_9 e3 ?_
    refine j_iconst (v := 0) dX8_keepPairs_12 (by decide) ?_
    refine j_dup2_11 dX8_keepPairs_13 rfl rfl ?_
    replace h := zbE h
    obtain ⟨a4, e5, h⟩ := h
    subst e5
    replace h := zbE h
    obtain ⟨l6, e7, h⟩ := h
    refine j_lald rfl e7 dX8_keepPairs_14 ?_
    refine j_lconst (v := 1) dX8_keepPairs_15 rfl ?_
    refine j_iload_n (j := 1) dX8_keepPairs_16 rfl rfl ?_
    refine j_lshl dX8_keepPairs_17 ?_
    refine j_ldc2 (v := -1) q1394 dX8_keepPairs_18 ?_
    refine j_lxor dX8_keepPairs_21 ?_
    refine j_land dX8_keepPairs_22 ?_
    replace h := zbE h
    obtain ⟨G8, e9, h⟩ := h
    refine j_last e9 dX8_keepPairs_23 ?_
    refine j_iinc (j := 1) (v := (x1 + 1)) (lv' := [(1, vI (x1 + 1)), (0, vR (some t))]) dX8_keepPairs_24 rfl rfl (Nat.le_of_ble_eq_true rfl) rfl ?_
    refine j_goto (tgt := 2) dX8_keepPairs_27 (by decide) ?_
    obtain rfl := Option.some.inj h
    exact J.sub (zall [1, 0] rfl) hk
theorem wflX8_keepPairs_2 {F : zF} (hd : 1 ≤ F.2.2.2) (t : Nat) (x1 : Int32) (G : GS) {a : GS} (h : flX8_keepPairs_2 t x1 G = some a) (hk : zKV F a) : J mX8_keepPairs F G 2 [(0, vR (some t)), (1, vI x1)] [] := by
  unfold flX8_keepPairs_2 at h
  exact zloop_walk (P := (fun s : Int32 × GS => J mX8_keepPairs F s.2 2 [(0, vR (some t)), (1, vI s.1)] [])) (fun s b e hk => wfbX8_keepPairs_2 hd t s.1 s.2 e hk) (x1, G) _ h hk
def fX8_keepPairs_0 (t : Nat)  (G : GS) : Option (GS) :=
  flX8_keepPairs_2 t 0 G
theorem wfX8_keepPairs_0 {F : zF} (hd : 1 ≤ F.2.2.2) (t : Nat)  (G : GS) {a : GS} (h : fX8_keepPairs_0 t  G = some a) (hk : zKV F a) : J mX8_keepPairs F G 0 [(0, vR (some t))] [] := by
  unfold fX8_keepPairs_0 at h
  refine j_iconst (v := 0) dX8_keepPairs_0 (by decide) ?_
  refine j_istore_n (lv' := [(1, vI 0), (0, vR (some t))]) dX8_keepPairs_1 rfl (Nat.le_of_ble_eq_true rfl) rfl ?_
  exact J.sub (zall [1, 0] rfl) (wflX8_keepPairs_2 hd t 0  G h hk)
theorem yX8_keepPairs_ok {t : Nat} {G : GS} {G1 : GS} (h : fX8_keepPairs_0 t G = some G1) : zRuns yX8_keepPairs (ws_ yX8_keepPairs cX8_keepPairs 2 none) [vR (some t)] (.inl none, G, G1, 1) :=
  zentry (M := mX8_keepPairs) (plainFor_of_name (by decide +kernel)) ⟨rfl, rfl, rfl, rfl⟩ (Nat.le_of_ble_eq_true rfl) (wfX8_keepPairs_0 (Nat.le_refl _) t G h ⟨rfl, rfl⟩)
theorem fgX7_17 : zFG RX7 17 6 2 (.array (.object "SelahGenerator$Strings")) := ⟨(RX7, TX7, 7, tyX7), rfl, by decide, in_X7, rfl, "SelahGenerator$Pairs", Or.inl rfl, Or.inl q1413⟩
theorem msX7_71 : zSV RX7 71 RX8 yX8_keepPairs cX8_keepPairs 2 none 0 := ⟨lw_V q1405 q1406 q1407 q169 q1408, (by decide +kernel), (by decide)⟩
abbrev mX7_followIn : zM := (cX7_followIn, RX7, 3, (some Jvm.ClassFile.FieldType.boolean), "followIn", [], "(LSelahGenerator$Rule;I)Z")
def fX7_followIn_0 (t : Nat) (x1 : Option Nat) (x2 : Int32)  (G : GS) : Option ((Int32) × GS) :=
  zk [7] G t <| (fX7_goThrough_0 t x1 (x2 + 1) G).bind fun G3 => (zgR G3 7 t 2).bind fun r4 => x1.bind fun a6 => (zgI G3 3 a6 0).bind fun v8 => r4.bind fun a10 => (zaR G3 55 a10 (v8 - 20)).bind fun r12 => zk [7] G3 t <| (fX7_goOn_0 t r12 G3).bind fun G16 => (zgR G16 7 t 4).bind fun r17 => r17.bind fun a19 => zk [8] G16 a19 <| (fX8_keepPairs_0 a19 G16).bind fun G23 => (zgR G23 7 t 2).bind fun r24 => (zgR G23 3 a6 1).bind fun r26 => r26.bind fun a28 => (zaI G23 50 a28 x2).bind fun v30 => r24.bind fun a32 => (zaR G23 55 a32 (v30 - 20)).bind fun r34 => (zgR G23 7 t 4).bind fun r36 => r34.bind fun a38 => zk [8] G23 a38 <| zb2 (fX8_addAll_0 a38 r36 G23) fun v42 G43 => zcond (zbb v42) (some (v42, G43))
theorem wfX7_followIn_0 {F : zF} (hd : 6 ≤ F.2.2.2) (t : Nat) (x1 : Option Nat) (x2 : Int32)  (G : GS) {a : (Int32) × GS} (h : fX7_followIn_0 t x1 x2  G = some a) (hk : zKI F a) : J mX7_followIn F G 0 [(0, vR (some t)), (1, vR x1), (2, vI x2)] [] := by
  unfold fX7_followIn_0 at h
  refine j_aload_n (j := 0) dX7_followIn_0 rfl rfl ?_
  refine j_aload_n (j := 1) dX7_followIn_1 rfl rfl ?_
  refine j_iload_n (j := 2) dX7_followIn_2 rfl rfl ?_
  refine j_iconst (v := 1) dX7_followIn_3 (by decide) ?_
  refine j_iadd dX7_followIn_4 ?_
  replace h := zkE h
  obtain ⟨e1, h⟩ := h
  replace h := zbE h
  obtain ⟨G3, e2, h⟩ := h
  refine j_cont (zrV (As := [vR x1, vI (x2 + 1)]) msX7_56 (yX7_goThrough_ok e2) (Nat.le_trans (Nat.le_of_ble_eq_true rfl) hd) (zk_7 _ e1) rfl rfl (Nat.le_of_ble_eq_true rfl) dX7_followIn_5) ?_
  refine j_aload_n (j := 0) dX7_followIn_8 rfl rfl ?_
  refine j_aload_n (j := 0) dX7_followIn_9 rfl rfl ?_
  replace h := zbE h
  obtain ⟨r4, e5, h⟩ := h
  refine j_getR fgX7_17 (fun _ _ _ => rfl) dX7_followIn_10 e5 ?_
  refine j_aload_n (j := 1) dX7_followIn_13 rfl rfl ?_
  replace h := zbE h
  obtain ⟨a6, e7, h⟩ := h
  subst e7
  replace h := zbE h
  obtain ⟨v8, e9, h⟩ := h
  refine j_getI fgX7_60 (fun _ _ _ => rfl) dX7_followIn_14 e9 ?_
  refine j_bipush (v := 20) dX7_followIn_17 (by decide) ?_
  refine j_isub dX7_followIn_19 ?_
  replace h := zbE h
  obtain ⟨a10, e11, h⟩ := h
  subst e11
  replace h := zbE h
  obtain ⟨r12, e13, h⟩ := h
  refine j_aald (Or.inr (Or.inl rfl)) e13 dX7_followIn_20 ?_
  replace h := zkE h
  obtain ⟨e14, h⟩ := h
  replace h := zbE h
  obtain ⟨G16, e15, h⟩ := h
  refine j_cont (zrV (As := [vR r12]) msX7_64 (yX7_goOn_ok e15) (Nat.le_trans (Nat.le_of_ble_eq_true rfl) hd) (zk_7 _ e14) rfl rfl (Nat.le_of_ble_eq_true rfl) dX7_followIn_21) ?_
  refine j_aload_n (j := 0) dX7_followIn_24 rfl rfl ?_
  replace h := zbE h
  obtain ⟨r17, e18, h⟩ := h
  refine j_getR fgX7_21 (fun _ _ _ => rfl) dX7_followIn_25 e18 ?_
  replace h := zbE h
  obtain ⟨a19, e20, h⟩ := h
  subst e20
  replace h := zkE h
  obtain ⟨e21, h⟩ := h
  replace h := zbE h
  obtain ⟨G23, e22, h⟩ := h
  refine j_cont (zrV (As := []) msX7_71 (yX8_keepPairs_ok e22) (Nat.le_trans (Nat.le_of_ble_eq_true rfl) hd) (zk_8 _ e21) rfl rfl (Nat.le_of_ble_eq_true rfl) dX7_followIn_28) ?_
  refine j_aload_n (j := 0) dX7_followIn_31 rfl rfl ?_
  replace h := zbE h
  obtain ⟨r24, e25, h⟩ := h
  refine j_getR fgX7_17 (fun _ _ _ => rfl) dX7_followIn_32 e25 ?_
  refine j_aload_n (j := 1) dX7_followIn_35 rfl rfl ?_
  replace h := zbE h
  obtain ⟨r26, e27, h⟩ := h
  refine j_getR fgX7_84 (fun _ _ _ => rfl) dX7_followIn_36 e27 ?_
  refine j_iload_n (j := 2) dX7_followIn_39 rfl rfl ?_
  replace h := zbE h
  obtain ⟨a28, e29, h⟩ := h
  subst e29
  replace h := zbE h
  obtain ⟨v30, e31, h⟩ := h
  refine j_iald (Or.inl rfl) e31 dX7_followIn_40 ?_
  refine j_bipush (v := 20) dX7_followIn_41 (by decide) ?_
  refine j_isub dX7_followIn_43 ?_
  replace h := zbE h
  obtain ⟨a32, e33, h⟩ := h
  subst e33
  replace h := zbE h
  obtain ⟨r34, e35, h⟩ := h
  refine j_aald (Or.inr (Or.inl rfl)) e35 dX7_followIn_44 ?_
  refine j_aload_n (j := 0) dX7_followIn_45 rfl rfl ?_
  replace h := zbE h
  obtain ⟨r36, e37, h⟩ := h
  refine j_getR fgX7_21 (fun _ _ _ => rfl) dX7_followIn_46 e37 ?_
  replace h := zbE h
  obtain ⟨a38, e39, h⟩ := h
  subst e39
  replace h := zkE h
  obtain ⟨e40, h⟩ := h
  replace h := zb2E h
  obtain ⟨v42, G43, e41, h⟩ := h
  refine j_cont (zrV (As := [vR r36]) msX7_105 (yX8_addAll_ok e41) (Nat.le_trans (Nat.le_of_ble_eq_true rfl) hd) (zk_8 _ e40) rfl rfl (Nat.le_of_ble_eq_true rfl) dX7_followIn_49) ?_
  replace h := zcondE h
  obtain ⟨e44, h⟩ := h
  obtain rfl := Option.some.inj h
  exact j_zret hk.1 hk.2 rfl (zbb_n e44) dX7_followIn_52
theorem yX7_followIn_ok {t : Nat} {x1 : Option Nat} {x2 : Int32} {G : GS} {r : Int32} {G1 : GS} (h : fX7_followIn_0 t x1 x2 G = some (r, G1)) : zRuns yX7_followIn (ws_ yX7_followIn cX7_followIn 3 (some Jvm.ClassFile.FieldType.boolean)) [vR (some t), vR x1, vI x2] (.inl (some (vI r)), G, G1, 6) :=
  zentry (M := mX7_followIn) (plainFor_of_name (by decide +kernel)) ⟨rfl, rfl, rfl, rfl⟩ (Nat.le_of_ble_eq_true rfl) (wfX7_followIn_0 (Nat.le_refl _) t x1 x2 G h ⟨rfl, rfl⟩)
end
