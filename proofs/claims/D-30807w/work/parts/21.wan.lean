/-! printed: functions and walks -/
set_option maxRecDepth 100000
noncomputable section
theorem msX1_115_J2 : zSF RX1 115 RJ2 ⟨"java/util/List", "remove", "(I)Ljava/lang/Object;"⟩ yJ2_remove cJ2_remove 4 (some (Jvm.ClassFile.FieldType.object "java/lang/Object")) 1 := ⟨lw_F q1830 q1833 q1835 q126 q1837, zfw 13 rfl, ⟨11, _, rfl, rfl⟩, (by decide +kernel), (by decide)⟩
abbrev mX1_removeRule : zM := (cX1_removeRule, RX1, 3, (some Jvm.ClassFile.FieldType.int), "removeRule", [], "(I)I")
def fX1_removeRule_0 (t : Nat) (x1 : Int32)  (G : GS) : Option (((Int32) ⊕ String) × GS) :=
  (zgR G 1 t 0).bind fun r1 => zk [1] G t <| zb3 (fX1_number_0 t x1 G) (fun v5 G6 => r1.bind fun a9 => zk [12] G6 a9 <| zb2 (fJ2_remove_0 a9 v5 G6) fun r13 G14 => zkq [3] G14 r13 ((zgR G14 1 t 0).bind fun r16 => r16.bind fun a18 => zk [12] G14 a18 <| (fJ2_size_0 a18 G14).bind fun v22 => zk [1] G14 t <| zb2 (fX1_changed_0 t v22 G14) fun v25 G26 => some (.inl v25, G26))) (fun X7 G8 => some (.inr X7, G8))
theorem wfX1_removeRule_0 {F : zF} (hd : 9 ≤ F.2.2.2) (t : Nat) (x1 : Int32)  (G : GS) {a : ((Int32) ⊕ String) × GS} (h : fX1_removeRule_0 t x1  G = some a) (hk : zKXI F a) : J mX1_removeRule F G 0 [(0, vR (some t)), (1, vI x1)] [] := by
  unfold fX1_removeRule_0 at h
  refine j_aload_n (j := 0) dX1_removeRule_0 rfl rfl ?_
  replace h := zbE h
  obtain ⟨r1, e2, h⟩ := h
  refine j_getR fgX1_16 (fun _ _ _ => rfl) dX1_removeRule_1 e2 ?_
  refine j_aload_n (j := 0) dX1_removeRule_4 rfl rfl ?_
  refine j_iload_n (j := 1) dX1_removeRule_5 rfl rfl ?_
  replace h := zkE h
  obtain ⟨e3, h⟩ := h
  replace h := zb3E h
  rcases h with ⟨v5, G6, e4, h⟩ | ⟨X7, G8, e4, h⟩
  · refine j_cont (zrV (As := [vI x1]) msX1_60 (yX1_number_ok e4) (Nat.le_trans (Nat.le_of_ble_eq_true rfl) hd) (zk_1 _ e3) rfl rfl (Nat.le_of_ble_eq_true rfl) dX1_removeRule_6) ?_
    replace h := zbE h
    obtain ⟨a9, e10, h⟩ := h
    subst e10
    replace h := zkE h
    obtain ⟨e11, h⟩ := h
    replace h := zb2E h
    obtain ⟨r13, G14, e12, h⟩ := h
    refine j_cont (zrF (As := [vI v5]) msX1_115_J2 (yJ2_remove_ok e12) (Nat.le_trans (Nat.le_of_ble_eq_true rfl) hd) (zk_12 _ e11) rfl rfl (Nat.le_of_ble_eq_true rfl) dX1_removeRule_9) ?_
    replace h := zkqE h
    obtain ⟨e15, h⟩ := h
    refine j_castq (fun k => j_castN dX1_removeRule_14 k) (fun b q27 k => j_castS (zk_3 _ (e15 b q27)) ⟨2, _, rfl, rfl⟩ q1615 dX1_removeRule_14 k) ?_
    refine j_astore_n (lv' := [(2, vR r13), (0, vR (some t)), (1, vI x1)]) dX1_removeRule_17 rfl (Nat.le_of_ble_eq_true rfl) rfl ?_
    refine j_aload_n (j := 1) dX1_removeRule_18 rfl rfl ?_
    refine j_aload_n (j := 1) dX1_removeRule_19 rfl rfl ?_
    replace h := zbE h
    obtain ⟨r16, e17, h⟩ := h
    refine j_getR fgX1_16 (fun _ _ _ => rfl) dX1_removeRule_20 e17 ?_
    replace h := zbE h
    obtain ⟨a18, e19, h⟩ := h
    subst e19
    replace h := zkE h
    obtain ⟨e20, h⟩ := h
    replace h := zbE h
    obtain ⟨v22, e21, h⟩ := h
    refine j_cont (zrF (As := []) msX1_54_J2 (yJ2_size_ok e21) (Nat.le_trans (Nat.le_of_ble_eq_true rfl) hd) (zk_12 _ e20) rfl rfl (Nat.le_of_ble_eq_true rfl) dX1_removeRule_23) ?_
    replace h := zkE h
    obtain ⟨e23, h⟩ := h
    replace h := zb2E h
    obtain ⟨v25, G26, e24, h⟩ := h
    refine j_cont (zrV (As := [vI v22]) msX1_90 (yX1_changed_ok e24) (Nat.le_trans (Nat.le_of_ble_eq_true rfl) hd) (zk_1 _ e23) rfl rfl (Nat.le_of_ble_eq_true rfl) dX1_removeRule_28) ?_
    obtain rfl := Option.some.inj h
    exact j_iret hk.1 hk.2 rfl dX1_removeRule_31
  · refine j_thr (zrV (As := [vI x1]) msX1_60 (yX1_number_ok e4) (Nat.le_trans (Nat.le_of_ble_eq_true rfl) hd) (zk_1 _ e3) rfl rfl (Nat.le_of_ble_eq_true rfl) dX1_removeRule_6) ?_
    obtain rfl := Option.some.inj h
    exact jx_out hk.1 hk.2 (by decide)
theorem yX1_removeRule_ok {t : Nat} {x1 : Int32} {G : GS} {r : (Int32) ⊕ String} {G1 : GS} (h : fX1_removeRule_0 t x1 G = some (r, G1)) : zRuns yX1_removeRule (ws_ yX1_removeRule cX1_removeRule 3 (some Jvm.ClassFile.FieldType.int)) [vR (some t), vI x1] (zout (fun v => some (vI v)) r, G, G1, 9) :=
  zentry (M := mX1_removeRule) (plainFor_of_name (by decide +kernel)) ⟨rfl, rfl, rfl, rfl⟩ (Nat.le_of_ble_eq_true rfl) (wfX1_removeRule_0 (Nat.le_refl _) t x1 G h ⟨rfl, rfl⟩)
abbrev mX1_ruleCount : zM := (cX1_ruleCount, RX1, 1, (some Jvm.ClassFile.FieldType.int), "ruleCount", [], "()I")
def fX1_ruleCount_0 (t : Nat)  (G : GS) : Option (Int32) :=
  (zgR G 1 t 0).bind fun r1 => r1.bind fun a3 => zk [12] G a3 <| (fJ2_size_0 a3 G).bind fun v7 => some v7
theorem wfX1_ruleCount_0 {F : zF} (hd : 2 ≤ F.2.2.2) (t : Nat)  (G : GS) {a : Int32} (h : fX1_ruleCount_0 t  G = some a) (hk : zKPI F G a) : J mX1_ruleCount F G 0 [(0, vR (some t))] [] := by
  unfold fX1_ruleCount_0 at h
  refine j_aload_n (j := 0) dX1_ruleCount_0 rfl rfl ?_
  replace h := zbE h
  obtain ⟨r1, e2, h⟩ := h
  refine j_getR fgX1_16 (fun _ _ _ => rfl) dX1_ruleCount_1 e2 ?_
  replace h := zbE h
  obtain ⟨a3, e4, h⟩ := h
  subst e4
  replace h := zkE h
  obtain ⟨e5, h⟩ := h
  replace h := zbE h
  obtain ⟨v7, e6, h⟩ := h
  refine j_cont (zrF (As := []) msX1_54_J2 (yJ2_size_ok e6) (Nat.le_trans (Nat.le_of_ble_eq_true rfl) hd) (zk_12 _ e5) rfl rfl (Nat.le_of_ble_eq_true rfl) dX1_ruleCount_4) ?_
  obtain rfl := Option.some.inj h
  exact j_iret hk.1 hk.2 rfl dX1_ruleCount_9
theorem yX1_ruleCount_ok {t : Nat} {G : GS} {r : Int32} (h : fX1_ruleCount_0 t G = some r) : zRuns yX1_ruleCount (ws_ yX1_ruleCount cX1_ruleCount 1 (some Jvm.ClassFile.FieldType.int)) [vR (some t)] (.inl (some (vI r)), G, G, 2) :=
  zentry (M := mX1_ruleCount) (plainFor_of_name (by decide +kernel)) ⟨rfl, rfl, rfl, rfl⟩ (Nat.le_of_ble_eq_true rfl) (wfX1_ruleCount_0 (Nat.le_refl _) t G h ⟨rfl, rfl⟩)
theorem fgX1_143 : zFG RX1 143 4 3 (.array (.int)) := ⟨(RX5, TX5, 10, tyX5), rfl, by decide, in_X5, rfl, "SelahGenerator$Sets", Or.inl rfl, Or.inr ⟨_, zxw 58 rfl⟩⟩
abbrev mX1_shortestOf : zM := (cX1_shortestOf, RX1, 2, (some Jvm.ClassFile.FieldType.int), "shortestOf", [], "(I)I")
def fX1_shortestOf_0 (t : Nat) (x1 : Int32)  (G : GS) : Option (((Int32) ⊕ String) × GS) :=
  zk [1] G t <| zb2 (fX1_sets_0 t G) fun r3 G4 => r3.bind fun a5 => (zgR G4 5 a5 3).bind fun r7 => zb3 (fX1_index_0 x1 G4) (fun v10 G11 => r7.bind fun a14 => (zaI G11 50 a14 v10).bind fun v16 => some (.inl v16, G11)) (fun X12 G13 => some (.inr X12, G13))
theorem wfX1_shortestOf_0 {F : zF} (hd : 52 ≤ F.2.2.2) (t : Nat) (x1 : Int32)  (G : GS) {a : ((Int32) ⊕ String) × GS} (h : fX1_shortestOf_0 t x1  G = some a) (hk : zKXI F a) : J mX1_shortestOf F G 0 [(0, vR (some t)), (1, vI x1)] [] := by
  unfold fX1_shortestOf_0 at h
  refine j_aload_n (j := 0) dX1_shortestOf_0 rfl rfl ?_
  replace h := zkE h
  obtain ⟨e1, h⟩ := h
  replace h := zb2E h
  obtain ⟨r3, G4, e2, h⟩ := h
  refine j_cont (zrV (As := []) msX1_128 (yX1_sets_ok e2) (Nat.le_trans (Nat.le_of_ble_eq_true rfl) hd) (zk_1 _ e1) rfl rfl (Nat.le_of_ble_eq_true rfl) dX1_shortestOf_1) ?_
  replace h := zbE h
  obtain ⟨a5, e6, h⟩ := h
  subst e6
  replace h := zbE h
  obtain ⟨r7, e8, h⟩ := h
  refine j_getR fgX1_143 (fun _ _ _ => rfl) dX1_shortestOf_4 e8 ?_
  refine j_iload_n (j := 1) dX1_shortestOf_7 rfl rfl ?_
  replace h := zb3E h
  rcases h with ⟨v10, G11, e9, h⟩ | ⟨X12, G13, e9, h⟩
  · refine j_cont (zrS (As := [vI x1]) msX1_76 (yX1_index_ok e9) (Nat.le_trans (Nat.le_of_ble_eq_true rfl) hd) rfl rfl (Nat.le_of_ble_eq_true rfl) dX1_shortestOf_8) ?_
    replace h := zbE h
    obtain ⟨a14, e15, h⟩ := h
    subst e15
    replace h := zbE h
    obtain ⟨v16, e17, h⟩ := h
    refine j_iald (Or.inl rfl) e17 dX1_shortestOf_11 ?_
    obtain rfl := Option.some.inj h
    exact j_iret hk.1 hk.2 rfl dX1_shortestOf_12
  · refine j_thr (zrS (As := [vI x1]) msX1_76 (yX1_index_ok e9) (Nat.le_trans (Nat.le_of_ble_eq_true rfl) hd) rfl rfl (Nat.le_of_ble_eq_true rfl) dX1_shortestOf_8) ?_
    obtain rfl := Option.some.inj h
    exact jx_out hk.1 hk.2 (by decide)
theorem yX1_shortestOf_ok {t : Nat} {x1 : Int32} {G : GS} {r : (Int32) ⊕ String} {G1 : GS} (h : fX1_shortestOf_0 t x1 G = some (r, G1)) : zRuns yX1_shortestOf (ws_ yX1_shortestOf cX1_shortestOf 2 (some Jvm.ClassFile.FieldType.int)) [vR (some t), vI x1] (zout (fun v => some (vI v)) r, G, G1, 52) :=
  zentry (M := mX1_shortestOf) (plainFor_of_name (by decide +kernel)) ⟨rfl, rfl, rfl, rfl⟩ (Nat.le_of_ble_eq_true rfl) (wfX1_shortestOf_0 (Nat.le_refl _) t x1 G h ⟨rfl, rfl⟩)
abbrev mJ20_sub : zM := (cJ20_sub, RJ20, 3, (some Jvm.ClassFile.FieldType.int), "sub", [], "(III)I")
def fJ20_sub_0 (x0 : Int32) (x1 : Int32) (x2 : Int32)  (G : GS) : Option (Int32) :=
  if 0 ≤ (x0 - x1) then (some (x0 - x1)) else (some ((x0 - x1) + x2))
theorem wfJ20_sub_0 {F : zF} (hd : 1 ≤ F.2.2.2) (x0 : Int32) (x1 : Int32) (x2 : Int32)  (G : GS) {a : Int32} (h : fJ20_sub_0 x0 x1 x2  G = some a) (hk : zKPI F G a) : J mJ20_sub F G 0 [(0, vI x0), (1, vI x1), (2, vI x2)] [] := by
  unfold fJ20_sub_0 at h
  refine j_iload_n (j := 0) dJ20_sub_0 rfl rfl ?_
  refine j_iload_n (j := 1) dJ20_sub_1 rfl rfl ?_
  refine j_isub dJ20_sub_2 ?_
  refine j_dup dJ20_sub_3 rfl ?_
  refine j_istore_n (lv' := [(0, vI (x0 - x1)), (1, vI x1), (2, vI x2)]) dJ20_sub_4 rfl (Nat.le_of_ble_eq_true rfl) rfl ?_
  refine j_if_ge (tgt := 12) dJ20_sub_5 (by decide) (fun c1 => ?_) (fun c1 => ?_)
  · rw [if_pos c1] at h
    refine j_iload_n (j := 0) dJ20_sub_12 rfl rfl ?_
    obtain rfl := Option.some.inj h
    exact j_iret hk.1 hk.2 rfl dJ20_sub_13
  · rw [if_neg c1] at h
    refine j_iload_n (j := 0) dJ20_sub_8 rfl rfl ?_
    refine j_iload_n (j := 2) dJ20_sub_9 rfl rfl ?_
    refine j_iadd dJ20_sub_10 ?_
    refine j_istore_n (lv' := [(0, vI ((x0 - x1) + x2)), (1, vI x1), (2, vI x2)]) dJ20_sub_11 rfl (Nat.le_of_ble_eq_true rfl) rfl ?_
    refine j_iload_n (j := 0) dJ20_sub_12 rfl rfl ?_
    obtain rfl := Option.some.inj h
    exact j_iret hk.1 hk.2 rfl dJ20_sub_13
theorem yJ20_sub_ok {x0 : Int32} {x1 : Int32} {x2 : Int32} {G : GS} {r : Int32} (h : fJ20_sub_0 x0 x1 x2 G = some r) : zRuns yJ20_sub (ws_ yJ20_sub cJ20_sub 3 (some Jvm.ClassFile.FieldType.int)) [vI x0, vI x1, vI x2] (.inl (some (vI r)), G, G, 1) :=
  zentry (M := mJ20_sub) (plainFor_of_name (by decide +kernel)) ⟨rfl, rfl, rfl, rfl⟩ (Nat.le_of_ble_eq_true rfl) (wfJ20_sub_0 (Nat.le_refl _) x0 x1 x2 G h ⟨rfl, rfl⟩)
theorem msJ20_127 : zSS RJ20 127 yJ20_sub cJ20_sub 3 (some Jvm.ClassFile.FieldType.int) 3 := ⟨lw_S q983 q984 q148 q985, (by decide +kernel), (by decide)⟩
abbrev mJ20_size : zM := (cJ20_size, RJ20, 1, (some Jvm.ClassFile.FieldType.int), "size", [], "()I")
def fJ20_size_0 (t : Nat)  (G : GS) : Option (Int32) :=
  (zgI G 14 t 2).bind fun v1 => (zgI G 14 t 1).bind fun v3 => (zgR G 14 t 0).bind fun r5 => r5.bind fun a7 => (zln G a7).bind fun v9 => (fJ20_sub_0 v1 v3 v9 G).bind fun v12 => some v12
theorem wfJ20_size_0 {F : zF} (hd : 2 ≤ F.2.2.2) (t : Nat)  (G : GS) {a : Int32} (h : fJ20_size_0 t  G = some a) (hk : zKPI F G a) : J mJ20_size F G 0 [(0, vR (some t))] [] := by
  unfold fJ20_size_0 at h
  refine j_aload_n (j := 0) dJ20_size_0 rfl rfl ?_
  replace h := zbE h
  obtain ⟨v1, e2, h⟩ := h
  refine j_getI fgJ20_20 (fun _ _ _ => rfl) dJ20_size_1 e2 ?_
  refine j_aload_n (j := 0) dJ20_size_4 rfl rfl ?_
  replace h := zbE h
  obtain ⟨v3, e4, h⟩ := h
  refine j_getI fgJ20_24 (fun _ _ _ => rfl) dJ20_size_5 e4 ?_
  refine j_aload_n (j := 0) dJ20_size_8 rfl rfl ?_
  replace h := zbE h
  obtain ⟨r5, e6, h⟩ := h
  refine j_getR fgJ20_3 (fun _ _ _ => rfl) dJ20_size_9 e6 ?_
  replace h := zbE h
  obtain ⟨a7, e8, h⟩ := h
  subst e8
  replace h := zbE h
  obtain ⟨v9, e10, h⟩ := h
  refine j_alen e10 dJ20_size_12 ?_
  replace h := zbE h
  obtain ⟨v12, e11, h⟩ := h
  refine j_cont (zrS (As := [vI v1, vI v3, vI v9]) msJ20_127 (yJ20_sub_ok e11) (Nat.le_trans (Nat.le_of_ble_eq_true rfl) hd) rfl rfl (Nat.le_of_ble_eq_true rfl) dJ20_size_13) ?_
  obtain rfl := Option.some.inj h
  exact j_iret hk.1 hk.2 rfl dJ20_size_16
theorem yJ20_size_ok {t : Nat} {G : GS} {r : Int32} (h : fJ20_size_0 t G = some r) : zRuns yJ20_size (ws_ yJ20_size cJ20_size 1 (some Jvm.ClassFile.FieldType.int)) [vR (some t)] (.inl (some (vI r)), G, G, 2) :=
  zentry (M := mJ20_size) (plainFor_of_name (by decide +kernel)) ⟨rfl, rfl, rfl, rfl⟩ (Nat.le_of_ble_eq_true rfl) (wfJ20_size_0 (Nat.le_refl _) t G h ⟨rfl, rfl⟩)
theorem fgX1_216 : zFG RX1 216 8 1 (.object "java/util/ArrayDeque") := ⟨(RX10, TX10, 8, tyX10), rfl, by decide, in_X10, rfl, "SelahGenerator$Parse", Or.inl rfl, Or.inr ⟨_, zxw 67 rfl⟩⟩
theorem msX1_220 : zSV RX1 220 RJ20 yJ20_size cJ20_size 1 (some Jvm.ClassFile.FieldType.int) 0 := ⟨lw_V q1459 q981 q3275 q148 q982, (by decide +kernel), (by decide)⟩
abbrev mX1_stackDepth : zM := (cX1_stackDepth, RX1, 1, (some Jvm.ClassFile.FieldType.int), "stackDepth", [], "()I")
def fX1_stackDepth_0 (t : Nat)  (G : GS) : Option (Int32) :=
  (zgR G 1 t 3).bind fun r1 => zopt r1 (some 0) (fun a3 => (zgR G 1 t 3).bind fun r4 => r4.bind fun a6 => (zgR G 9 a6 1).bind fun r8 => r8.bind fun a10 => zk [14] G a10 <| (fJ20_size_0 a10 G).bind fun v14 => some v14)
theorem wfX1_stackDepth_0 {F : zF} (hd : 3 ≤ F.2.2.2) (t : Nat)  (G : GS) {a : Int32} (h : fX1_stackDepth_0 t  G = some a) (hk : zKPI F G a) : J mX1_stackDepth F G 0 [(0, vR (some t))] [] := by
  unfold fX1_stackDepth_0 at h
  refine j_aload_n (j := 0) dX1_stackDepth_0 rfl rfl ?_
  replace h := zbE h
  obtain ⟨r1, e2, h⟩ := h
  refine j_getR fgX1_43 (fun _ _ _ => rfl) dX1_stackDepth_1 e2 ?_
  rcases r1 with _ | a3
  · replace h := zopt_n h
    refine j_ifnonnull0 dX1_stackDepth_4 ?_
    refine j_iconst (v := 0) dX1_stackDepth_7 (by decide) ?_
    refine j_goto (tgt := 21) dX1_stackDepth_8 (by decide) ?_
    obtain rfl := Option.some.inj h
    exact j_iret hk.1 hk.2 rfl dX1_stackDepth_21
  · replace h := zopt_s h
    refine j_ifnonnull1 (tgt := 11) dX1_stackDepth_4 (by decide) ?_
    refine j_aload_n (j := 0) dX1_stackDepth_11 rfl rfl ?_
    replace h := zbE h
    obtain ⟨r4, e5, h⟩ := h
    refine j_getR fgX1_43 (fun _ _ _ => rfl) dX1_stackDepth_12 e5 ?_
    replace h := zbE h
    obtain ⟨a6, e7, h⟩ := h
    subst e7
    replace h := zbE h
    obtain ⟨r8, e9, h⟩ := h
    refine j_getR fgX1_216 (fun _ _ _ => rfl) dX1_stackDepth_15 e9 ?_
    replace h := zbE h
    obtain ⟨a10, e11, h⟩ := h
    subst e11
    replace h := zkE h
    obtain ⟨e12, h⟩ := h
    replace h := zbE h
    obtain ⟨v14, e13, h⟩ := h
    refine j_cont (zrV (As := []) msX1_220 (yJ20_size_ok e13) (Nat.le_trans (Nat.le_of_ble_eq_true rfl) hd) (zk_14 _ e12) rfl rfl (Nat.le_of_ble_eq_true rfl) dX1_stackDepth_18) ?_
    obtain rfl := Option.some.inj h
    exact j_iret hk.1 hk.2 rfl dX1_stackDepth_21
theorem yX1_stackDepth_ok {t : Nat} {G : GS} {r : Int32} (h : fX1_stackDepth_0 t G = some r) : zRuns yX1_stackDepth (ws_ yX1_stackDepth cX1_stackDepth 1 (some Jvm.ClassFile.FieldType.int)) [vR (some t)] (.inl (some (vI r)), G, G, 3) :=
  zentry (M := mX1_stackDepth) (plainFor_of_name (by decide +kernel)) ⟨rfl, rfl, rfl, rfl⟩ (Nat.le_of_ble_eq_true rfl) (wfX1_stackDepth_0 (Nat.le_refl _) t G h ⟨rfl, rfl⟩)
theorem fgJ32_1 : zFG RJ32 1 14 3 (.object "java/util/ArrayDeque") := ⟨(RJ32, TJ32, 4, tyJ32), rfl, by decide, in_J32, rfl, "java/util/ArrayDeque$DeqIterator", Or.inl rfl, Or.inl q1231⟩
theorem fgJ32_26 : zFG RJ32 26 13 1 (.int) := ⟨(RJ20, TJ20, 3, tyJ20), rfl, by decide, in_J20, rfl, "java/util/ArrayDeque", Or.inl rfl, Or.inl q2424⟩
theorem fpJ32_19_J32 : zFP RJ32 19 14 1 (.int) false := ⟨(RJ32, TJ32, 4, tyJ32), rfl, by decide, in_J32, tyJ32_ok, nmJ32, rfl, rfl, (by decide), "java/util/ArrayDeque$DeqIterator", Or.inl rfl, q1229⟩
theorem fpJ32_1_J32 : zFP RJ32 1 14 3 (.object "java/util/ArrayDeque") true := ⟨(RJ32, TJ32, 4, tyJ32), rfl, by decide, in_J32, tyJ32_ok, nmJ32, rfl, rfl, (by intro _; rfl), "java/util/ArrayDeque$DeqIterator", Or.inl rfl, q1231⟩
theorem fpJ32_23_J32 : zFP RJ32 23 14 2 (.int) false := ⟨(RJ32, TJ32, 4, tyJ32), rfl, by decide, in_J32, tyJ32_ok, nmJ32, rfl, rfl, (by decide), "java/util/ArrayDeque$DeqIterator", Or.inl rfl, q1230⟩
theorem fpJ32_29_J32 : zFP RJ32 29 14 0 (.int) false := ⟨(RJ32, TJ32, 4, tyJ32), rfl, by decide, in_J32, tyJ32_ok, nmJ32, rfl, rfl, (by decide), "java/util/ArrayDeque$DeqIterator", Or.inl rfl, q1228⟩
theorem msJ32_13 : zSV RJ32 13 RJ20 yJ20_size cJ20_size 1 (some Jvm.ClassFile.FieldType.int) 0 := ⟨lw_V q1227 q981 q3275 q148 q982, (by decide +kernel), (by decide)⟩
abbrev mJ32_init : zM := (cJ32_init, RJ32, 2, none, "<init>", [], "(Ljava/util/ArrayDeque;)V")
def fJ32_init_0 (t : Nat) (x1 : Option Nat)  (G : GS) : Option (GS) :=
  (zpR G 15 t 3 x1).bind fun G1 => (zgR G1 15 t 3).bind fun r3 => r3.bind fun a5 => zk [14] G1 a5 <| (fJ20_size_0 a5 G1).bind fun v9 => (zpI G1 15 t 1 v9).bind fun G10 => (zpI G10 15 t 2 (-1)).bind fun G12 => x1.bind fun a14 => (zgI G12 14 a14 1).bind fun v16 => (zpI G12 15 t 0 v16).bind fun G18 => some G18
theorem wfJ32_init_0 {F : zF} (hd : 3 ≤ F.2.2.2) (t : Nat) (x1 : Option Nat)  (G : GS) {a : GS} (h : fJ32_init_0 t x1  G = some a) (hk : zKV F a) : J mJ32_init F G 0 [(0, vR (some t)), (1, vR x1)] [] := by
  unfold fJ32_init_0 at h
  refine j_aload_n (j := 0) dJ32_init_0 rfl rfl ?_
  refine j_aload_n (j := 1) dJ32_init_1 rfl rfl ?_
  replace h := zbE h
  obtain ⟨G1, e2, h⟩ := h
  refine j_putR fpJ32_1_J32 (Or.inr rfl) (Or.inl ⟨_, rfl⟩) dJ32_init_2 e2 ?_
  refine j_aload_n (j := 0) dJ32_init_5 rfl rfl ?_
  refine j_objinit q1226 q181 q182 (Nat.le_trans (Nat.le_of_ble_eq_true rfl) hd) (Nat.le_of_ble_eq_true rfl) dJ32_init_6 ?_
  refine j_aload_n (j := 0) dJ32_init_9 rfl rfl ?_
  refine j_aload_n (j := 0) dJ32_init_10 rfl rfl ?_
  replace h := zbE h
  obtain ⟨r3, e4, h⟩ := h
  refine j_getR fgJ32_1 (fun _ _ _ => rfl) dJ32_init_11 e4 ?_
  replace h := zbE h
  obtain ⟨a5, e6, h⟩ := h
  subst e6
  replace h := zkE h
  obtain ⟨e7, h⟩ := h
  replace h := zbE h
  obtain ⟨v9, e8, h⟩ := h
  refine j_cont (zrV (As := []) msJ32_13 (yJ20_size_ok e8) (Nat.le_trans (Nat.le_of_ble_eq_true rfl) hd) (zk_14 _ e7) rfl rfl (Nat.le_of_ble_eq_true rfl) dJ32_init_14) ?_
  replace h := zbE h
  obtain ⟨G10, e11, h⟩ := h
  refine j_putI fpJ32_19_J32 (Or.inl rfl) rfl dJ32_init_17 e11 ?_
  refine j_aload_n (j := 0) dJ32_init_20 rfl rfl ?_
  refine j_iconst (v := (-1)) dJ32_init_21 (by decide) ?_
  replace h := zbE h
  obtain ⟨G12, e13, h⟩ := h
  refine j_putI fpJ32_23_J32 (Or.inl rfl) rfl dJ32_init_22 e13 ?_
  refine j_aload_n (j := 0) dJ32_init_25 rfl rfl ?_
  refine j_aload_n (j := 1) dJ32_init_26 rfl rfl ?_
  replace h := zbE h
  obtain ⟨a14, e15, h⟩ := h
  subst e15
  replace h := zbE h
  obtain ⟨v16, e17, h⟩ := h
  refine j_getI fgJ32_26 (fun _ _ _ => rfl) dJ32_init_27 e17 ?_
  replace h := zbE h
  obtain ⟨G18, e19, h⟩ := h
  refine j_putI fpJ32_29_J32 (Or.inl rfl) rfl dJ32_init_30 e19 ?_
  obtain rfl := Option.some.inj h
  exact j_vret hk.1 hk.2 rfl dJ32_init_33
theorem yJ32_init_ok {t : Nat} {x1 : Option Nat} {G : GS} {G1 : GS} (h : fJ32_init_0 t x1 G = some G1) : zRuns yJ32_init (ws_ yJ32_init cJ32_init 2 none) [vR (some t), vR x1] (.inl none, G, G1, 3) :=
  zentry (M := mJ32_init) (plainFor_of_name (by decide +kernel)) ⟨rfl, rfl, rfl, rfl⟩ (Nat.le_of_ble_eq_true rfl) (wfJ32_init_0 (Nat.le_refl _) t x1 G h ⟨rfl, rfl⟩)
theorem msJ20_133 : zSI RJ20 133 yJ32_init cJ32_init 2 1 := ⟨q1225, q164, q1223, q1224, rfl, (by decide +kernel), (by decide)⟩
abbrev mJ20_iterator : zM := (cJ20_iterator, RJ20, 1, (some (Jvm.ClassFile.FieldType.object "java/util/Iterator")), "iterator", [], "()Ljava/util/Iterator;")
def fJ20_iterator_0 (t : Nat)  (G : GS) : Option ((Option Nat) × GS) :=
  zl (al G 15 0 4) fun G1 => (fJ32_init_0 (gz G) (some t) G1).bind fun G4 => some ((some (gz G)), G4)
theorem wfJ20_iterator_0 {F : zF} (hd : 4 ≤ F.2.2.2) (t : Nat)  (G : GS) {a : (Option Nat) × GS} (h : fJ20_iterator_0 t  G = some a) (hk : zKR F a) : J mJ20_iterator F G 0 [(0, vR (some t))] [] := by
  unfold fJ20_iterator_0 at h
  replace h := zlE h
  obtain ⟨G1, e2, h⟩ := h
  refine j_new (c := 14) (n := 4) (r := (RJ32, TJ32, 4, tyJ32)) rfl rfl in_J32 tyJ32_ok nwJ32 q1221 q1222 q164 dJ20_iterator_0 ?_
  rw [show al G (14 + 1) 0 4 = G1 from e2.symm]
  refine j_dup dJ20_iterator_3 rfl ?_
  refine j_aload_n (j := 0) dJ20_iterator_4 rfl rfl ?_
  replace h := zbE h
  obtain ⟨G4, e3, h⟩ := h
  refine j_cont (zrI (As := [vR (some t)]) msJ20_133 (yJ32_init_ok e3) (Nat.le_trans (Nat.le_of_ble_eq_true rfl) hd) rfl rfl (Nat.le_of_ble_eq_true rfl) dJ20_iterator_5) ?_
  obtain rfl := Option.some.inj h
  exact j_aret hk.1 hk.2 rfl (Or.inl ⟨_, rfl⟩) dJ20_iterator_8
theorem yJ20_iterator_ok {t : Nat} {G : GS} {r : Option Nat} {G1 : GS} (h : fJ20_iterator_0 t G = some (r, G1)) : zRuns yJ20_iterator (ws_ yJ20_iterator cJ20_iterator 1 (some (Jvm.ClassFile.FieldType.object "java/util/Iterator"))) [vR (some t)] (.inl (some (vR r)), G, G1, 4) :=
  zentry (M := mJ20_iterator) (plainFor_of_name (by decide +kernel)) ⟨rfl, rfl, rfl, rfl⟩ (Nat.le_of_ble_eq_true rfl) (wfJ20_iterator_0 (Nat.le_refl _) t G h ⟨rfl, rfl⟩)
abbrev mJ20_nonNullElementAt : zM := (cJ20_nonNullElementAt, RJ20, 3, (some (Jvm.ClassFile.FieldType.object "java/lang/Object")), "nonNullElementAt", [], "([Ljava/lang/Object;I)Ljava/lang/Object;")
def fJ20_nonNullElementAt_0 (x0 : Option Nat) (x1 : Int32)  (G : GS) : Option ((Option Nat) × GS) :=
  x0.bind fun a1 => (zaR G 54 a1 x1).bind fun r3 => zopt r3 none (fun a5 => some ((some a5), G))
theorem wfJ20_nonNullElementAt_0 {F : zF} (hd : 1 ≤ F.2.2.2) (x0 : Option Nat) (x1 : Int32)  (G : GS) {a : (Option Nat) × GS} (h : fJ20_nonNullElementAt_0 x0 x1  G = some a) (hk : zKR F a) : J mJ20_nonNullElementAt F G 0 [(0, vR x0), (1, vI x1)] [] := by
  unfold fJ20_nonNullElementAt_0 at h
  refine j_aload_n (j := 0) dJ20_nonNullElementAt_0 rfl rfl ?_
  refine j_iload_n (j := 1) dJ20_nonNullElementAt_1 rfl rfl ?_
  replace h := zbE h
  obtain ⟨a1, e2, h⟩ := h
  subst e2
  replace h := zbE h
  obtain ⟨r3, e4, h⟩ := h
  refine j_aald (Or.inl rfl) e4 dJ20_nonNullElementAt_2 ?_
  refine j_astore_n (lv' := [(2, vR r3), (0, vR (some a1)), (1, vI x1)]) dJ20_nonNullElementAt_3 rfl (Nat.le_of_ble_eq_true rfl) rfl ?_
  refine j_aload_n (j := 0) dJ20_nonNullElementAt_4 rfl rfl ?_
  rcases r3 with _ | a5
  · replace h := zopt_n h
    refine j_ifnonnull0 dJ20_nonNullElementAt_5 ?_
    cases h
  · replace h := zopt_s h
    refine j_ifnonnull1 (tgt := 16) dJ20_nonNullElementAt_5 (by decide) ?_
    refine j_aload_n (j := 0) dJ20_nonNullElementAt_16 rfl rfl ?_
    obtain rfl := Option.some.inj h
    exact j_aret hk.1 hk.2 rfl (Or.inl ⟨_, rfl⟩) dJ20_nonNullElementAt_17
theorem yJ20_nonNullElementAt_ok {x0 : Option Nat} {x1 : Int32} {G : GS} {r : Option Nat} {G1 : GS} (h : fJ20_nonNullElementAt_0 x0 x1 G = some (r, G1)) : zRuns yJ20_nonNullElementAt (ws_ yJ20_nonNullElementAt cJ20_nonNullElementAt 3 (some (Jvm.ClassFile.FieldType.object "java/lang/Object"))) [vR x0, vI x1] (.inl (some (vR r)), G, G1, 1) :=
  zentry (M := mJ20_nonNullElementAt) (plainFor_of_name (by decide +kernel)) ⟨rfl, rfl, rfl, rfl⟩ (Nat.le_of_ble_eq_true rfl) (wfJ20_nonNullElementAt_0 (Nat.le_refl _) x0 x1 G h ⟨rfl, rfl⟩)
theorem fgJ32_19 : zFG RJ32 19 14 1 (.int) := ⟨(RJ32, TJ32, 4, tyJ32), rfl, by decide, in_J32, rfl, "java/util/ArrayDeque$DeqIterator", Or.inl rfl, Or.inl q1229⟩
theorem fgJ32_29 : zFG RJ32 29 14 0 (.int) := ⟨(RJ32, TJ32, 4, tyJ32), rfl, by decide, in_J32, rfl, "java/util/ArrayDeque$DeqIterator", Or.inl rfl, Or.inl q1228⟩
theorem fgJ32_35 : zFG RJ32 35 13 0 (.array (.object "java/lang/Object")) := ⟨(RJ20, TJ20, 3, tyJ20), rfl, by decide, in_J20, rfl, "java/util/ArrayDeque", Or.inl rfl, Or.inl q2423⟩
theorem msJ32_39 : zSS RJ32 39 yJ20_nonNullElementAt cJ20_nonNullElementAt 3 (some (Jvm.ClassFile.FieldType.object "java/lang/Object")) 2 := ⟨lw_S q353 q354 q148 q355, (by decide +kernel), (by decide)⟩
theorem msJ32_43 : zSS RJ32 43 yJ20_inc cJ20_inc 2 (some Jvm.ClassFile.FieldType.int) 2 := ⟨lw_S q356 q357 q148 q358, (by decide +kernel), (by decide)⟩
abbrev mJ32_next : zM := (cJ32_next, RJ32, 3, (some (Jvm.ClassFile.FieldType.object "java/lang/Object")), "next", [], "()Ljava/lang/Object;")
def fJ32_next_0 (t : Nat)  (G : GS) : Option ((Option Nat) × GS) :=
  (zgI G 15 t 1).bind fun v1 => if 0 < v1 then ((zgR G 15 t 3).bind fun r4 => r4.bind fun a6 => (zgR G 14 a6 0).bind fun r8 => (zgI G 15 t 0).bind fun v10 => zb2 (fJ20_nonNullElementAt_0 r8 v10 G) fun r13 G14 => (zgI G14 15 t 0).bind fun v15 => (zpI G14 15 t 2 v15).bind fun G17 => r8.bind fun a19 => (zln G17 a19).bind fun v21 => (fJ20_inc_0 v15 v21 G17).bind fun v24 => (zpI G17 15 t 0 v24).bind fun G25 => (zgI G25 15 t 1).bind fun v27 => (zpI G25 15 t 1 (v27 - 1)).bind fun G29 => some (r13, G29)) else none
theorem wfJ32_next_0 {F : zF} (hd : 2 ≤ F.2.2.2) (t : Nat)  (G : GS) {a : (Option Nat) × GS} (h : fJ32_next_0 t  G = some a) (hk : zKR F a) : J mJ32_next F G 0 [(0, vR (some t))] [] := by
  unfold fJ32_next_0 at h
  refine j_aload_n (j := 0) dJ32_next_0 rfl rfl ?_
  replace h := zbE h
  obtain ⟨v1, e2, h⟩ := h
  refine j_getI fgJ32_19 (fun _ _ _ => rfl) dJ32_next_1 e2 ?_
  refine j_if_gt (tgt := 15) dJ32_next_4 (by decide) (fun c3 => ?_) (fun c3 => ?_)
  · rw [if_pos c3] at h
    refine j_aload_n (j := 0) dJ32_next_15 rfl rfl ?_
    replace h := zbE h
    obtain ⟨r4, e5, h⟩ := h
    refine j_getR fgJ32_1 (fun _ _ _ => rfl) dJ32_next_16 e5 ?_
    replace h := zbE h
    obtain ⟨a6, e7, h⟩ := h
    subst e7
    replace h := zbE h
    obtain ⟨r8, e9, h⟩ := h
    refine j_getR fgJ32_35 (fun _ _ _ => rfl) dJ32_next_19 e9 ?_
    refine j_astore_n (lv' := [(1, vR r8), (0, vR (some t))]) dJ32_next_22 rfl (Nat.le_of_ble_eq_true rfl) rfl ?_
    refine j_aload_n (j := 0) dJ32_next_23 rfl rfl ?_
    refine j_aload_n (j := 1) dJ32_next_24 rfl rfl ?_
    replace h := zbE h
    obtain ⟨v10, e11, h⟩ := h
    refine j_getI fgJ32_29 (fun _ _ _ => rfl) dJ32_next_25 e11 ?_
    replace h := zb2E h
    obtain ⟨r13, G14, e12, h⟩ := h
    refine j_cont (zrS (As := [vR r8, vI v10]) msJ32_39 (yJ20_nonNullElementAt_ok e12) (Nat.le_trans (Nat.le_of_ble_eq_true rfl) hd) rfl rfl (Nat.le_of_ble_eq_true rfl) dJ32_next_28) ?_
    refine j_astore_n (lv' := [(2, vR r13), (1, vR r8), (0, vR (some t))]) dJ32_next_31 rfl (Nat.le_of_ble_eq_true rfl) rfl ?_
    refine j_aload_n (j := 2) dJ32_next_32 rfl rfl ?_
    refine j_aload_n (j := 2) dJ32_next_33 rfl rfl ?_
    refine j_aload_n (j := 2) dJ32_next_34 rfl rfl ?_
    replace h := zbE h
    obtain ⟨v15, e16, h⟩ := h
    refine j_getI fgJ32_29 (fun _ _ _ => rfl) dJ32_next_35 e16 ?_
    refine j_dup_x1 dJ32_next_38 rfl rfl ?_
    replace h := zbE h
    obtain ⟨G17, e18, h⟩ := h
    refine j_putI fpJ32_23_J32 (Or.inl rfl) rfl dJ32_next_39 e18 ?_
    refine j_aload_n (j := 1) dJ32_next_42 rfl rfl ?_
    replace h := zbE h
    obtain ⟨a19, e20, h⟩ := h
    subst e20
    replace h := zbE h
    obtain ⟨v21, e22, h⟩ := h
    refine j_alen e22 dJ32_next_43 ?_
    replace h := zbE h
    obtain ⟨v24, e23, h⟩ := h
    refine j_cont (zrS (As := [vI v15, vI v21]) msJ32_43 (yJ20_inc_ok e23) (Nat.le_trans (Nat.le_of_ble_eq_true rfl) hd) rfl rfl (Nat.le_of_ble_eq_true rfl) dJ32_next_44) ?_
    replace h := zbE h
    obtain ⟨G25, e26, h⟩ := h
    refine j_putI fpJ32_29_J32 (Or.inl rfl) rfl dJ32_next_47 e26 ?_
    refine j_aload_n (j := 2) dJ32_next_50 rfl rfl ?_
    refine j_dup dJ32_next_51 rfl ?_
    replace h := zbE h
    obtain ⟨v27, e28, h⟩ := h
    refine j_getI fgJ32_19 (fun _ _ _ => rfl) dJ32_next_52 e28 ?_
    refine j_iconst (v := 1) dJ32_next_55 (by decide) ?_
    refine j_isub dJ32_next_56 ?_
    replace h := zbE h
    obtain ⟨G29, e30, h⟩ := h
    refine j_putI fpJ32_19_J32 (Or.inl rfl) rfl dJ32_next_57 e30 ?_
    refine j_aload_n (j := 0) dJ32_next_60 rfl rfl ?_
    obtain rfl := Option.some.inj h
    exact j_aret hk.1 hk.2 rfl (Or.inl ⟨_, rfl⟩) dJ32_next_61
  · rw [if_neg c3] at h
    cases h
theorem yJ32_next_ok {t : Nat} {G : GS} {r : Option Nat} {G1 : GS} (h : fJ32_next_0 t G = some (r, G1)) : zRuns yJ32_next (ws_ yJ32_next cJ32_next 3 (some (Jvm.ClassFile.FieldType.object "java/lang/Object"))) [vR (some t)] (.inl (some (vR r)), G, G1, 2) :=
  zentry (M := mJ32_next) (plainFor_of_name (by decide +kernel)) ⟨rfl, rfl, rfl, rfl⟩ (Nat.le_of_ble_eq_true rfl) (wfJ32_next_0 (Nat.le_refl _) t G h ⟨rfl, rfl⟩)
theorem zk_15 : ∀ k, [15].contains k = true → zKc k = some "java/util/ArrayDeque$DeqIterator" := fun k h => by rw [zKc_one h]; rfl
theorem msX1_223 : zSV RX1 223 RX1 yX1_stackDepth cX1_stackDepth 1 (some Jvm.ClassFile.FieldType.int) 0 := ⟨lw_V q1464 q1456 q1457 q123 q1458, (by decide +kernel), (by decide)⟩
theorem msX1_226 : zSV RX1 226 RJ20 yJ20_iterator cJ20_iterator 1 (some (Jvm.ClassFile.FieldType.object "java/util/Iterator")) 0 := ⟨lw_V q1465 q1218 q3276 q148 q1220, (by decide +kernel), (by decide)⟩
theorem msX1_230_J32 : zSF RX1 230 RJ32 ⟨"java/util/Iterator", "next", "()Ljava/lang/Object;"⟩ yJ32_next cJ32_next 3 (some (Jvm.ClassFile.FieldType.object "java/lang/Object")) 0 := ⟨lw_F q1467 q348 q350 q164 q352, zfw 2 rfl, ⟨14, _, rfl, rfl⟩, (by decide +kernel), (by decide)⟩
abbrev mX1_stackAt : zM := (cX1_stackAt, RX1, 5, (some Jvm.ClassFile.FieldType.int), "stackAt", [], "(I)I")
def fX1_stackAt_54 (x2 : Option Nat)  (G : GS) : Option ((Int32) × GS) :=
  x2.bind fun a1 => zk [15] G a1 <| zb2 (fJ32_next_0 a1 G) fun r5 G6 => zkq [21, 61] G6 r5 (r5.bind fun a8 => zk [21, 61] G6 a8 <| (fJ26_intValue_0 a8 G6).bind fun v12 => some (v12, G6))
theorem wfX1_stackAt_54 {F : zF} (hd : 5 ≤ F.2.2.2) (x2 : Option Nat)  (G : GS) {a : (Int32) × GS} (h : fX1_stackAt_54 x2  G = some a) (hk : zKI F a) : J mX1_stackAt F G 54 [(2, vR x2)] [] := by
  unfold fX1_stackAt_54 at h
  refine j_aload_n (j := 0) dX1_stackAt_54 rfl rfl ?_
  replace h := zbE h
  obtain ⟨a1, e2, h⟩ := h
  subst e2
  replace h := zkE h
  obtain ⟨e3, h⟩ := h
  replace h := zb2E h
  obtain ⟨r5, G6, e4, h⟩ := h
  refine j_cont (zrF (As := []) msX1_230_J32 (yJ32_next_ok e4) (Nat.le_trans (Nat.le_of_ble_eq_true rfl) hd) (zk_15 _ e3) rfl rfl (Nat.le_of_ble_eq_true rfl) dX1_stackAt_55) ?_
  replace h := zkqE h
  obtain ⟨e7, h⟩ := h
  refine j_castq (fun k => j_castN dX1_stackAt_60 k) (fun b q13 k => j_castS (zk_21_61 _ (e7 b q13)) ⟨20, _, rfl, rfl⟩ q1468 dX1_stackAt_60 k) ?_
  replace h := zbE h
  obtain ⟨a8, e9, h⟩ := h
  subst e9
  replace h := zkE h
  obtain ⟨e10, h⟩ := h
  replace h := zbE h
  obtain ⟨v12, e11, h⟩ := h
  refine j_cont (zrV (As := []) msX1_238 (yJ26_intValue_ok e11) (Nat.le_trans (Nat.le_of_ble_eq_true rfl) hd) (zk_21_61 _ e10) rfl rfl (Nat.le_of_ble_eq_true rfl) dX1_stackAt_63) ?_
  obtain rfl := Option.some.inj h
  exact j_iret hk.1 hk.2 rfl dX1_stackAt_66
def fbX1_stackAt_29 (x1 : Int32) (x2 : Option Nat) (x3 : Int32)  (G : GS) : Option ((Int32 × GS) ⊕ ((Int32) × GS)) :=
  if x1 ≤ x3 then (zo (fX1_stackAt_54 x2 G)) else (x2.bind fun a2 => zk [15] G a2 <| zb2 (fJ32_next_0 a2 G) fun r6 G7 => zkq [21, 61] G7 r6 (r6.bind fun a9 => zk [21, 61] G7 a9 <| (fJ26_intValue_0 a9 G7).bind fun v13 => some (.inl ((x3 + 1), G7))))
def flX1_stackAt_29 (x1 : Int32) (x2 : Option Nat) (x3 : Int32) (G : GS) : Option ((Int32) × GS) := zloop (fun s : Int32 × GS => fbX1_stackAt_29 x1 x2 s.1 s.2) (x3, G)
theorem wfbX1_stackAt_29 {F : zF} (hd : 5 ≤ F.2.2.2) (x1 : Int32) (x2 : Option Nat) (x3 : Int32) (G : GS) {a : (Int32 × GS) ⊕ ((Int32) × GS)} (h : fbX1_stackAt_29 x1 x2 x3 G = some a) (hk : (zcase (fun s : Int32 × GS => J mX1_stackAt F s.2 29 [(1, vI x1), (2, vR x2), (3, vI s.1)] []) (zKI F)) a) : J mX1_stackAt F G 29 [(1, vI x1), (2, vR x2), (3, vI x3)] [] := by
  unfold fbX1_stackAt_29 at h
  refine j_iload_n (j := 2) dX1_stackAt_29 rfl rfl ?_
  refine j_iload_n (j := 0) dX1_stackAt_30 rfl rfl ?_
  refine j_icmp_ge (tgt := 54) dX1_stackAt_31 (by decide) (fun c1 => ?_) (fun c1 => ?_)
  · rw [if_pos c1] at h
    replace h := zoE h
    obtain ⟨a, h, rfl⟩ := h
    replace hk := hk
    exact J.sub (zall [1] rfl) (wfX1_stackAt_54 hd x2  G h hk)
  · rw [if_neg c1] at h
    refine j_aload_n (j := 1) dX1_stackAt_34 rfl rfl ?_
    replace h := zbE h
    obtain ⟨a2, e3, h⟩ := h
    subst e3
    replace h := zkE h
    obtain ⟨e4, h⟩ := h
    replace h := zb2E h
    obtain ⟨r6, G7, e5, h⟩ := h
    refine j_cont (zrF (As := []) msX1_230_J32 (yJ32_next_ok e5) (Nat.le_trans (Nat.le_of_ble_eq_true rfl) hd) (zk_15 _ e4) rfl rfl (Nat.le_of_ble_eq_true rfl) dX1_stackAt_35) ?_
    replace h := zkqE h
    obtain ⟨e8, h⟩ := h
    refine j_castq (fun k => j_castN dX1_stackAt_40 k) (fun b q14 k => j_castS (zk_21_61 _ (e8 b q14)) ⟨20, _, rfl, rfl⟩ q1468 dX1_stackAt_40 k) ?_
    replace h := zbE h
    obtain ⟨a9, e10, h⟩ := h
    subst e10
    replace h := zkE h
    obtain ⟨e11, h⟩ := h
    replace h := zbE h
    obtain ⟨v13, e12, h⟩ := h
    refine j_cont (zrV (As := []) msX1_238 (yJ26_intValue_ok e12) (Nat.le_trans (Nat.le_of_ble_eq_true rfl) hd) (zk_21_61 _ e11) rfl rfl (Nat.le_of_ble_eq_true rfl) dX1_stackAt_43) ?_
    refine j_istore (lv' := [(4, vI v13), (1, vI x1), (2, vR (some a2)), (3, vI x3)]) dX1_stackAt_46 (Nat.le_of_ble_eq_true rfl) rfl ?_
    refine j_iinc (j := 3) (v := (x3 + 1)) (lv' := [(3, vI (x3 + 1)), (4, vI v13), (1, vI x1), (2, vR (some a2))]) dX1_stackAt_48 rfl rfl (Nat.le_of_ble_eq_true rfl) rfl ?_
    refine j_goto (tgt := 29) dX1_stackAt_51 (by decide) ?_
    obtain rfl := Option.some.inj h
    exact J.sub (zall [2, 3, 0] rfl) hk
theorem wflX1_stackAt_29 {F : zF} (hd : 5 ≤ F.2.2.2) (x1 : Int32) (x2 : Option Nat) (x3 : Int32) (G : GS) {a : (Int32) × GS} (h : flX1_stackAt_29 x1 x2 x3 G = some a) (hk : zKI F a) : J mX1_stackAt F G 29 [(1, vI x1), (2, vR x2), (3, vI x3)] [] := by
  unfold flX1_stackAt_29 at h
  exact zloop_walk (P := (fun s : Int32 × GS => J mX1_stackAt F s.2 29 [(1, vI x1), (2, vR x2), (3, vI s.1)] [])) (fun s b e hk => wfbX1_stackAt_29 hd x1 x2 s.1 s.2 e hk) (x3, G) _ h hk
def fX1_stackAt_0 (t : Nat) (x1 : Int32)  (G : GS) : Option ((Int32) × GS) :=
  zk [1] G t <| (fX1_stackDepth_0 t G).bind fun v3 => (fX1_isIn_0 x1 0 (v3 - 1) G).bind fun v5 => if v5 = 0 then (some ((-1), G)) else ((zgR G 1 t 3).bind fun r7 => r7.bind fun a9 => (zgR G 9 a9 1).bind fun r11 => r11.bind fun a13 => zk [14] G a13 <| zb2 (fJ20_iterator_0 a13 G) fun r17 G18 => flX1_stackAt_29 x1 r17 0 G18)
theorem wfX1_stackAt_0 {F : zF} (hd : 5 ≤ F.2.2.2) (t : Nat) (x1 : Int32)  (G : GS) {a : (Int32) × GS} (h : fX1_stackAt_0 t x1  G = some a) (hk : zKI F a) : J mX1_stackAt F G 0 [(0, vR (some t)), (1, vI x1)] [] := by
  unfold fX1_stackAt_0 at h
  refine j_iload_n (j := 1) dX1_stackAt_0 rfl rfl ?_
  refine j_iconst (v := 0) dX1_stackAt_1 (by decide) ?_
  refine j_aload_n (j := 0) dX1_stackAt_2 rfl rfl ?_
  replace h := zkE h
  obtain ⟨e1, h⟩ := h
  replace h := zbE h
  obtain ⟨v3, e2, h⟩ := h
  refine j_cont (zrV (As := []) msX1_223 (yX1_stackDepth_ok e2) (Nat.le_trans (Nat.le_of_ble_eq_true rfl) hd) (zk_1 _ e1) rfl rfl (Nat.le_of_ble_eq_true rfl) dX1_stackAt_3) ?_
  refine j_iconst (v := 1) dX1_stackAt_6 (by decide) ?_
  refine j_isub dX1_stackAt_7 ?_
  replace h := zbE h
  obtain ⟨v5, e4, h⟩ := h
  refine j_cont (zrS (As := [vI x1, vI 0, vI (v3 - 1)]) msX1_3 (yX1_isIn_ok e4) (Nat.le_trans (Nat.le_of_ble_eq_true rfl) hd) rfl rfl (Nat.le_of_ble_eq_true rfl) dX1_stackAt_8) ?_
  refine j_if_ne (tgt := 16) dX1_stackAt_11 (by decide) (fun c6 => ?_) (fun c6 => ?_)
  · rw [if_pos c6] at h
    refine j_iconst (v := (-1)) dX1_stackAt_14 (by decide) ?_
    obtain rfl := Option.some.inj h
    exact j_iret hk.1 hk.2 rfl dX1_stackAt_15
  · rw [if_neg c6] at h
    refine j_aload_n (j := 0) dX1_stackAt_16 rfl rfl ?_
    replace h := zbE h
    obtain ⟨r7, e8, h⟩ := h
    refine j_getR fgX1_43 (fun _ _ _ => rfl) dX1_stackAt_17 e8 ?_
    replace h := zbE h
    obtain ⟨a9, e10, h⟩ := h
    subst e10
    replace h := zbE h
    obtain ⟨r11, e12, h⟩ := h
    refine j_getR fgX1_216 (fun _ _ _ => rfl) dX1_stackAt_20 e12 ?_
    replace h := zbE h
    obtain ⟨a13, e14, h⟩ := h
    subst e14
    replace h := zkE h
    obtain ⟨e15, h⟩ := h
    replace h := zb2E h
    obtain ⟨r17, G18, e16, h⟩ := h
    refine j_cont (zrV (As := []) msX1_226 (yJ20_iterator_ok e16) (Nat.le_trans (Nat.le_of_ble_eq_true rfl) hd) (zk_14 _ e15) rfl rfl (Nat.le_of_ble_eq_true rfl) dX1_stackAt_23) ?_
    refine j_astore_n (lv' := [(2, vR r17), (0, vR (some t)), (1, vI x1)]) dX1_stackAt_26 rfl (Nat.le_of_ble_eq_true rfl) rfl ?_
    refine j_iconst (v := 0) dX1_stackAt_27 (by decide) ?_
    refine j_istore_n (lv' := [(3, vI 0), (2, vR r17), (0, vR (some t)), (1, vI x1)]) dX1_stackAt_28 rfl (Nat.le_of_ble_eq_true rfl) rfl ?_
    exact J.sub (zall [3, 1, 0] rfl) (wflX1_stackAt_29 hd x1 r17 0  G18 h hk)
theorem yX1_stackAt_ok {t : Nat} {x1 : Int32} {G : GS} {r : Int32} {G1 : GS} (h : fX1_stackAt_0 t x1 G = some (r, G1)) : zRuns yX1_stackAt (ws_ yX1_stackAt cX1_stackAt 5 (some Jvm.ClassFile.FieldType.int)) [vR (some t), vI x1] (.inl (some (vI r)), G, G1, 5) :=
  zentry (M := mX1_stackAt) (plainFor_of_name (by decide +kernel)) ⟨rfl, rfl, rfl, rfl⟩ (Nat.le_of_ble_eq_true rfl) (wfX1_stackAt_0 (Nat.le_refl _) t x1 G h ⟨rfl, rfl⟩)
theorem msJ20_42 : zSI RJ20 42 yJ0_init cJ0_init 1 0 := ⟨q193, q124, q2420, q192, rfl, (by decide +kernel), (by decide)⟩
abbrev mJ20_init : zM := (cJ20_init, RJ20, 1, none, "<init>", [], "()V")
def fJ20_init_0 (t : Nat)  (G : GS) : Option (GS) :=
  (fJ0_init_0 t G).bind fun G2 => (zna G2 54 (17 : Int32)).bind fun G3 => (zpR G3 14 t 0 (some (gz G2))).bind fun G5 => some G5
theorem wfJ20_init_0 {F : zF} (hd : 3 ≤ F.2.2.2) (t : Nat)  (G : GS) {a : GS} (h : fJ20_init_0 t  G = some a) (hk : zKV F a) : J mJ20_init F G 0 [(0, vR (some t))] [] := by
  unfold fJ20_init_0 at h
  refine j_aload_n (j := 0) dJ20_init_0 rfl rfl ?_
  replace h := zbE h
  obtain ⟨G2, e1, h⟩ := h
  refine j_cont (zrI (As := []) msJ20_42 (yJ0_init_ok e1) (Nat.le_trans (Nat.le_of_ble_eq_true rfl) hd) rfl rfl (Nat.le_of_ble_eq_true rfl) dJ20_init_1) ?_
  refine j_aload_n (j := 0) dJ20_init_4 rfl rfl ?_
  refine j_bipush (v := 17) dJ20_init_5 (by decide) ?_
  replace h := zbE h
  obtain ⟨G3, e4, h⟩ := h
  refine j_anewa (t := 4) rfl (Or.inl rfl) q2421 e4 dJ20_init_7 ?_
  replace h := zbE h
  obtain ⟨G5, e6, h⟩ := h
  refine j_putR fpJ20_3_J20 (Or.inl rfl) (Or.inr ⟨_, rfl⟩) dJ20_init_10 e6 ?_
  obtain rfl := Option.some.inj h
  exact j_vret hk.1 hk.2 rfl dJ20_init_13
theorem yJ20_init_ok {t : Nat} {G : GS} {G1 : GS} (h : fJ20_init_0 t G = some G1) : zRuns yJ20_init (ws_ yJ20_init cJ20_init 1 none) [vR (some t)] (.inl none, G, G1, 3) :=
  zentry (M := mJ20_init) (plainFor_of_name (by decide +kernel)) ⟨rfl, rfl, rfl, rfl⟩ (Nat.le_of_ble_eq_true rfl) (wfJ20_init_0 (Nat.le_refl _) t G h ⟨rfl, rfl⟩)
theorem fpX10_18_X10 : zFP RX10 18 8 1 (.object "java/util/ArrayDeque") true := ⟨(RX10, TX10, 8, tyX10), rfl, by decide, in_X10, tyX10_ok, nmX10, rfl, rfl, (by intro _; rfl), "SelahGenerator$Parse", Or.inl rfl, q2466⟩
theorem fpX10_25_X10 : zFP RX10 25 8 2 (.object "java/util/List") true := ⟨(RX10, TX10, 8, tyX10), rfl, by decide, in_X10, tyX10_ok, nmX10, rfl, rfl, (by intro _; rfl), "SelahGenerator$Parse", Or.inl rfl, q2468⟩
theorem fpX10_29_X10 : zFP RX10 29 8 3 (.object "java/util/List") true := ⟨(RX10, TX10, 8, tyX10), rfl, by decide, in_X10, tyX10_ok, nmX10, rfl, rfl, (by intro _; rfl), "SelahGenerator$Parse", Or.inl rfl, q2470⟩
theorem fpX10_32_X10 : zFP RX10 32 8 4 (.object "java/util/List") true := ⟨(RX10, TX10, 8, tyX10), rfl, by decide, in_X10, tyX10_ok, nmX10, rfl, rfl, (by intro _; rfl), "SelahGenerator$Parse", Or.inl rfl, q2472⟩
theorem fpX10_39_X10 : zFP RX10 39 8 0 (.int) true := ⟨(RX10, TX10, 8, tyX10), rfl, by decide, in_X10, tyX10_ok, nmX10, rfl, rfl, (by intro _; rfl), "SelahGenerator$Parse", Or.inl rfl, q2465⟩
theorem fpX10_3_X10 : zFP RX10 3 8 7 (.object "SelahGenerator") true := ⟨(RX10, TX10, 8, tyX10), rfl, by decide, in_X10, tyX10_ok, nmX10, rfl, rfl, (by intro _; rfl), "SelahGenerator$Parse", Or.inl rfl, q2477⟩
theorem msX10_17 : zSI RX10 17 yJ20_init cJ20_init 1 0 := ⟨q2419, q148, q2417, q2418, rfl, (by decide +kernel), (by decide)⟩
theorem msX10_24 : zSI RX10 24 yJ2_init cJ2_init 1 0 := ⟨q187, q126, q2435, q186, rfl, (by decide +kernel), (by decide)⟩
abbrev mX10_init : zM := (cX10_init, RX10, 3, none, "<init>", [], "(LSelahGenerator;I)V")
def fX10_init_0 (t : Nat) (x1 : Option Nat) (x2 : Int32)  (G : GS) : Option (GS) :=
  (zpR G 9 t 7 x1).bind fun G1 => zl (al G1 14 0 3) fun G3 => (fJ20_init_0 (gz G1) G3).bind fun G6 => (zpR G6 9 t 1 (some (gz G1))).bind fun G7 => zl (al G7 12 0 3) fun G9 => (fJ2_init_0 (gz G7) G9).bind fun G12 => (zpR G12 9 t 2 (some (gz G7))).bind fun G13 => zl (al G13 12 0 3) fun G15 => (fJ2_init_0 (gz G13) G15).bind fun G18 => (zpR G18 9 t 3 (some (gz G13))).bind fun G19 => zl (al G19 12 0 3) fun G21 => (fJ2_init_0 (gz G19) G21).bind fun G24 => (zpR G24 9 t 4 (some (gz G19))).bind fun G25 => (zpI G25 9 t 5 1).bind fun G27 => (zpI G27 9 t 0 x2).bind fun G29 => (zgR G29 9 t 1).bind fun r31 => zb2 (fJ26_valueOf_0 20 G29) fun r34 G35 => r31.bind fun a36 => zk [14] G35 a36 <| (fJ20_push_0 a36 r34 G35).bind fun G40 => some G40
theorem wfX10_init_0 {F : zF} (hd : 7 ≤ F.2.2.2) (t : Nat) (x1 : Option Nat) (x2 : Int32)  (G : GS) {a : GS} (h : fX10_init_0 t x1 x2  G = some a) (hk : zKV F a) : J mX10_init F G 0 [(0, vR (some t)), (1, vR x1), (2, vI x2)] [] := by
  unfold fX10_init_0 at h
  refine j_aload_n (j := 0) dX10_init_0 rfl rfl ?_
  refine j_aload_n (j := 1) dX10_init_1 rfl rfl ?_
  replace h := zbE h
  obtain ⟨G1, e2, h⟩ := h
  refine j_putR fpX10_3_X10 (Or.inr rfl) (Or.inl ⟨_, rfl⟩) dX10_init_2 e2 ?_
  refine j_aload_n (j := 0) dX10_init_5 rfl rfl ?_
  refine j_objinit q2415 q181 q182 (Nat.le_trans (Nat.le_of_ble_eq_true rfl) hd) (Nat.le_of_ble_eq_true rfl) dX10_init_6 ?_
  refine j_aload_n (j := 0) dX10_init_9 rfl rfl ?_
  replace h := zlE h
  obtain ⟨G3, e4, h⟩ := h
  refine j_new (c := 13) (n := 3) (r := (RJ20, TJ20, 3, tyJ20)) rfl rfl in_J20 tyJ20_ok nwJ20 q2416 q1992 q148 dX10_init_10 ?_
  rw [show al G1 (13 + 1) 0 3 = G3 from e4.symm]
  refine j_dup dX10_init_13 rfl ?_
  replace h := zbE h
  obtain ⟨G6, e5, h⟩ := h
  refine j_cont (zrI (As := []) msX10_17 (yJ20_init_ok e5) (Nat.le_trans (Nat.le_of_ble_eq_true rfl) hd) rfl rfl (Nat.le_of_ble_eq_true rfl) dX10_init_14) ?_
  replace h := zbE h
  obtain ⟨G7, e8, h⟩ := h
  refine j_putR fpX10_18_X10 (Or.inr rfl) (Or.inl ⟨_, rfl⟩) dX10_init_17 e8 ?_
  refine j_aload_n (j := 0) dX10_init_20 rfl rfl ?_
  replace h := zlE h
  obtain ⟨G9, e10, h⟩ := h
  refine j_new (c := 11) (n := 3) (r := (RJ2, TJ2, 3, tyJ2)) rfl rfl in_J2 tyJ2_ok nwJ2 q2434 q184 q126 dX10_init_21 ?_
  rw [show al G7 (11 + 1) 0 3 = G9 from e10.symm]
  refine j_dup dX10_init_24 rfl ?_
  replace h := zbE h
  obtain ⟨G12, e11, h⟩ := h
  refine j_cont (zrI (As := []) msX10_24 (yJ2_init_ok e11) (Nat.le_trans (Nat.le_of_ble_eq_true rfl) hd) rfl rfl (Nat.le_of_ble_eq_true rfl) dX10_init_25) ?_
  replace h := zbE h
  obtain ⟨G13, e14, h⟩ := h
  refine j_putR fpX10_25_X10 (Or.inr rfl) (Or.inl ⟨_, rfl⟩) dX10_init_28 e14 ?_
  refine j_aload_n (j := 0) dX10_init_31 rfl rfl ?_
  replace h := zlE h
  obtain ⟨G15, e16, h⟩ := h
  refine j_new (c := 11) (n := 3) (r := (RJ2, TJ2, 3, tyJ2)) rfl rfl in_J2 tyJ2_ok nwJ2 q2434 q184 q126 dX10_init_32 ?_
  rw [show al G13 (11 + 1) 0 3 = G15 from e16.symm]
  refine j_dup dX10_init_35 rfl ?_
  replace h := zbE h
  obtain ⟨G18, e17, h⟩ := h
  refine j_cont (zrI (As := []) msX10_24 (yJ2_init_ok e17) (Nat.le_trans (Nat.le_of_ble_eq_true rfl) hd) rfl rfl (Nat.le_of_ble_eq_true rfl) dX10_init_36) ?_
  replace h := zbE h
  obtain ⟨G19, e20, h⟩ := h
  refine j_putR fpX10_29_X10 (Or.inr rfl) (Or.inl ⟨_, rfl⟩) dX10_init_39 e20 ?_
  refine j_aload_n (j := 0) dX10_init_42 rfl rfl ?_
  replace h := zlE h
  obtain ⟨G21, e22, h⟩ := h
  refine j_new (c := 11) (n := 3) (r := (RJ2, TJ2, 3, tyJ2)) rfl rfl in_J2 tyJ2_ok nwJ2 q2434 q184 q126 dX10_init_43 ?_
  rw [show al G19 (11 + 1) 0 3 = G21 from e22.symm]
  refine j_dup dX10_init_46 rfl ?_
  replace h := zbE h
  obtain ⟨G24, e23, h⟩ := h
  refine j_cont (zrI (As := []) msX10_24 (yJ2_init_ok e23) (Nat.le_trans (Nat.le_of_ble_eq_true rfl) hd) rfl rfl (Nat.le_of_ble_eq_true rfl) dX10_init_47) ?_
  replace h := zbE h
  obtain ⟨G25, e26, h⟩ := h
  refine j_putR fpX10_32_X10 (Or.inr rfl) (Or.inl ⟨_, rfl⟩) dX10_init_50 e26 ?_
  refine j_aload_n (j := 0) dX10_init_53 rfl rfl ?_
  refine j_iconst (v := 1) dX10_init_54 (by decide) ?_
  replace h := zbE h
  obtain ⟨G27, e28, h⟩ := h
  refine j_putI fpX10_35_X10 (Or.inl rfl) rfl dX10_init_55 e28 ?_
  refine j_aload_n (j := 0) dX10_init_58 rfl rfl ?_
  refine j_iload_n (j := 2) dX10_init_59 rfl rfl ?_
  replace h := zbE h
  obtain ⟨G29, e30, h⟩ := h
  refine j_putI fpX10_39_X10 (Or.inr rfl) rfl dX10_init_60 e30 ?_
  refine j_aload_n (j := 0) dX10_init_63 rfl rfl ?_
  replace h := zbE h
  obtain ⟨r31, e32, h⟩ := h
  refine j_getR fgX10_18 (fun _ _ _ => rfl) dX10_init_64 e32 ?_
  refine j_bipush (v := 20) dX10_init_67 (by decide) ?_
  replace h := zb2E h
  obtain ⟨r34, G35, e33, h⟩ := h
  refine j_cont (zrS (As := [vI 20]) msX10_42 (yJ26_valueOf_ok e33) (Nat.le_trans (Nat.le_of_ble_eq_true rfl) hd) rfl rfl (Nat.le_of_ble_eq_true rfl) dX10_init_69) ?_
  replace h := zbE h
  obtain ⟨a36, e37, h⟩ := h
  subst e37
  replace h := zkE h
  obtain ⟨e38, h⟩ := h
  replace h := zbE h
  obtain ⟨G40, e39, h⟩ := h
  refine j_cont (zrV (As := [vR r34]) msX10_48 (yJ20_push_ok e39) (Nat.le_trans (Nat.le_of_ble_eq_true rfl) hd) (zk_14 _ e38) rfl rfl (Nat.le_of_ble_eq_true rfl) dX10_init_72) ?_
  obtain rfl := Option.some.inj h
  exact j_vret hk.1 hk.2 rfl dX10_init_75
theorem yX10_init_ok {t : Nat} {x1 : Option Nat} {x2 : Int32} {G : GS} {G1 : GS} (h : fX10_init_0 t x1 x2 G = some G1) : zRuns yX10_init (ws_ yX10_init cX10_init 3 none) [vR (some t), vR x1, vI x2] (.inl none, G, G1, 7) :=
  zentry (M := mX10_init) (plainFor_of_name (by decide +kernel)) ⟨rfl, rfl, rfl, rfl⟩ (Nat.le_of_ble_eq_true rfl) (wfX10_init_0 (Nat.le_refl _) t x1 x2 G h ⟨rfl, rfl⟩)
theorem msX1_196 : zSV RX1 196 RX1 yX1_isLL1 cX1_isLL1 1 (some Jvm.ClassFile.FieldType.boolean) 0 := ⟨lw_V q2408 q1311 q1312 q123 q1313, (by decide +kernel), (by decide)⟩
theorem msX1_199 : zSV RX1 199 RX1 yX1_isStrongLL2 cX1_isStrongLL2 1 (some Jvm.ClassFile.FieldType.boolean) 0 := ⟨lw_V q2409 q1444 q1445 q123 q1446, (by decide +kernel), (by decide)⟩
theorem msX1_204 : zSI RX1 204 yX10_init cX10_init 3 2 := ⟨q2414, q171, q2412, q2413, rfl, (by decide +kernel), (by decide)⟩
abbrev mX1_start : zM := (cX1_start, RX1, 2, (some Jvm.ClassFile.FieldType.int), "start", [], "(I)I")
def fX1_start_57 (t : Nat) (x1 : Int32) (s0 : Int32) (G : GS) : Option (((Int32) ⊕ String) × GS) :=
  zb3 (fX1_may_0 s0 G) (fun u5 G2 => zl (al G2 9 0 8) fun G6 => (fX10_init_0 (gz G2) (some t) x1 G6).bind fun G9 => (zpR G9 1 t 3 (some (gz G2))).bind fun G10 => (zgR G10 1 t 0).bind fun r12 => r12.bind fun a14 => zk [12] G10 a14 <| (fJ2_size_0 a14 G10).bind fun v18 => some (.inl v18, G10)) (fun X3 G4 => some (.inr X3, G4))
theorem wfX1_start_57 {F : zF} (hd : 53 ≤ F.2.2.2) (t : Nat) (x1 : Int32) (s0 : Int32) (G : GS) {a : ((Int32) ⊕ String) × GS} (h : fX1_start_57 t x1 s0 G = some a) (hk : zKXI F a) : J mX1_start F G 57 [(0, vR (some t)), (1, vI x1)] [vI s0] := by
  unfold fX1_start_57 at h
  replace h := zb3E h
  rcases h with ⟨u5, G2, e1, h⟩ | ⟨X3, G4, e1, h⟩
  · refine j_cont (zrS (As := [vI s0]) msX1_79 (yX1_may_ok e1) (Nat.le_trans (Nat.le_of_ble_eq_true rfl) hd) rfl rfl (Nat.le_of_ble_eq_true rfl) dX1_start_57) ?_
    refine j_aload_n (j := 0) dX1_start_60 rfl rfl ?_
    replace h := zlE h
    obtain ⟨G6, e7, h⟩ := h
    refine j_new (c := 8) (n := 8) (r := (RX10, TX10, 8, tyX10)) rfl rfl in_X10 tyX10_ok nwX10 q2410 q2411 q171 dX1_start_61 ?_
    rw [show al G2 (8 + 1) 0 8 = G6 from e7.symm]
    refine j_dup dX1_start_64 rfl ?_
    refine j_aload_n (j := 0) dX1_start_65 rfl rfl ?_
    refine j_iload_n (j := 1) dX1_start_66 rfl rfl ?_
    replace h := zbE h
    obtain ⟨G9, e8, h⟩ := h
    refine j_cont (zrI (As := [vR (some t), vI x1]) msX1_204 (yX10_init_ok e8) (Nat.le_trans (Nat.le_of_ble_eq_true rfl) hd) rfl rfl (Nat.le_of_ble_eq_true rfl) dX1_start_67) ?_
    replace h := zbE h
    obtain ⟨G10, e11, h⟩ := h
    refine j_putR fpX1_43_X1 (Or.inl rfl) (Or.inl ⟨_, rfl⟩) dX1_start_70 e11 ?_
    refine j_aload_n (j := 0) dX1_start_73 rfl rfl ?_
    replace h := zbE h
    obtain ⟨r12, e13, h⟩ := h
    refine j_getR fgX1_16 (fun _ _ _ => rfl) dX1_start_74 e13 ?_
    replace h := zbE h
    obtain ⟨a14, e15, h⟩ := h
    subst e15
    replace h := zkE h
    obtain ⟨e16, h⟩ := h
    replace h := zbE h
    obtain ⟨v18, e17, h⟩ := h
    refine j_cont (zrF (As := []) msX1_54_J2 (yJ2_size_ok e17) (Nat.le_trans (Nat.le_of_ble_eq_true rfl) hd) (zk_12 _ e16) rfl rfl (Nat.le_of_ble_eq_true rfl) dX1_start_77) ?_
    obtain rfl := Option.some.inj h
    exact j_iret hk.1 hk.2 rfl dX1_start_82
  · refine j_thr (zrS (As := [vI s0]) msX1_79 (yX1_may_ok e1) (Nat.le_trans (Nat.le_of_ble_eq_true rfl) hd) rfl rfl (Nat.le_of_ble_eq_true rfl) dX1_start_57) ?_
    obtain rfl := Option.some.inj h
    exact jx_out hk.1 hk.2 (by decide)
def fX1_start_56 (t : Nat) (x1 : Int32)  (G : GS) : Option (((Int32) ⊕ String) × GS) :=
  fX1_start_57 t x1 0 G
theorem wfX1_start_56 {F : zF} (hd : 53 ≤ F.2.2.2) (t : Nat) (x1 : Int32)  (G : GS) {a : ((Int32) ⊕ String) × GS} (h : fX1_start_56 t x1  G = some a) (hk : zKXI F a) : J mX1_start F G 56 [(0, vR (some t)), (1, vI x1)] [] := by
  unfold fX1_start_56 at h
  refine j_iconst (v := 0) dX1_start_56 (by decide) ?_
  exact J.sub (zall [0, 1] rfl) (wfX1_start_57 hd t x1 0 G h hk)
def fX1_start_52 (t : Nat) (x1 : Int32)  (G : GS) : Option (((Int32) ⊕ String) × GS) :=
  fX1_start_57 t x1 1 G
theorem wfX1_start_52 {F : zF} (hd : 53 ≤ F.2.2.2) (t : Nat) (x1 : Int32)  (G : GS) {a : ((Int32) ⊕ String) × GS} (h : fX1_start_52 t x1  G = some a) (hk : zKXI F a) : J mX1_start F G 52 [(0, vR (some t)), (1, vI x1)] [] := by
  unfold fX1_start_52 at h
  refine j_iconst (v := 1) dX1_start_52 (by decide) ?_
  refine j_goto (tgt := 57) dX1_start_53 (by decide) ?_
  exact J.sub (zall [0, 1] rfl) (wfX1_start_57 hd t x1 1 G h hk)
def fX1_start_15 (t : Nat) (x1 : Int32) (s0 : Int32) (G : GS) : Option (((Int32) ⊕ String) × GS) :=
  zb3 (fX1_argument_0 s0 G) (fun u5 G2 => (zgR G2 1 t 0).bind fun r6 => r6.bind fun a8 => zk [12] G2 a8 <| (fJ2_isEmpty_0 a8 G2).bind fun v12 => if v12 = 0 then (if x1 = 1 then (zk [1] G2 t <| zb2 (fX1_isLL1_0 t G2) fun v17 G18 => if v17 = 0 then (fX1_start_56 t x1 G18) else (fX1_start_52 t x1 G18)) else (zk [1] G2 t <| zb2 (fX1_isStrongLL2_0 t G2) fun v22 G23 => if v22 = 0 then (fX1_start_56 t x1 G23) else (fX1_start_52 t x1 G23))) else (fX1_start_56 t x1 G2)) (fun X3 G4 => some (.inr X3, G4))
theorem wfX1_start_15 {F : zF} (hd : 53 ≤ F.2.2.2) (t : Nat) (x1 : Int32) (s0 : Int32) (G : GS) {a : ((Int32) ⊕ String) × GS} (h : fX1_start_15 t x1 s0 G = some a) (hk : zKXI F a) : J mX1_start F G 15 [(0, vR (some t)), (1, vI x1)] [vI s0] := by
  unfold fX1_start_15 at h
  replace h := zb3E h
  rcases h with ⟨u5, G2, e1, h⟩ | ⟨X3, G4, e1, h⟩
  · refine j_cont (zrS (As := [vI s0]) msX1_101 (yX1_argument_ok e1) (Nat.le_trans (Nat.le_of_ble_eq_true rfl) hd) rfl rfl (Nat.le_of_ble_eq_true rfl) dX1_start_15) ?_
    refine j_aload_n (j := 0) dX1_start_18 rfl rfl ?_
    replace h := zbE h
    obtain ⟨r6, e7, h⟩ := h
    refine j_getR fgX1_16 (fun _ _ _ => rfl) dX1_start_19 e7 ?_
    replace h := zbE h
    obtain ⟨a8, e9, h⟩ := h
    subst e9
    replace h := zkE h
    obtain ⟨e10, h⟩ := h
    replace h := zbE h
    obtain ⟨v12, e11, h⟩ := h
    refine j_cont (zrF (As := []) msX1_192_J2 (yJ2_isEmpty_ok e11) (Nat.le_trans (Nat.le_of_ble_eq_true rfl) hd) (zk_12 _ e10) rfl rfl (Nat.le_of_ble_eq_true rfl) dX1_start_22) ?_
    refine j_if_ne (tgt := 56) dX1_start_27 (by decide) (fun c13 => ?_) (fun c13 => ?_)
    · rw [if_pos c13] at h
      refine j_iload_n (j := 1) dX1_start_30 rfl rfl ?_
      refine j_iconst (v := 1) dX1_start_31 (by decide) ?_
      refine j_icmp_ne (tgt := 45) dX1_start_32 (by decide) (fun c14 => ?_) (fun c14 => ?_)
      · rw [if_pos c14] at h
        refine j_aload_n (j := 0) dX1_start_35 rfl rfl ?_
        replace h := zkE h
        obtain ⟨e15, h⟩ := h
        replace h := zb2E h
        obtain ⟨v17, G18, e16, h⟩ := h
        refine j_cont (zrV (As := []) msX1_196 (yX1_isLL1_ok e16) (Nat.le_trans (Nat.le_of_ble_eq_true rfl) hd) (zk_1 _ e15) rfl rfl (Nat.le_of_ble_eq_true rfl) dX1_start_36) ?_
        refine j_if_eq (tgt := 56) dX1_start_39 (by decide) (fun c19 => ?_) (fun c19 => ?_)
        · rw [if_pos c19] at h
          exact J.sub (zall [0, 1] rfl) (wfX1_start_56 hd t x1  G18 h hk)
        · rw [if_neg c19] at h
          refine j_goto (tgt := 52) dX1_start_42 (by decide) ?_
          exact J.sub (zall [0, 1] rfl) (wfX1_start_52 hd t x1  G18 h hk)
      · rw [if_neg c14] at h
        refine j_aload_n (j := 0) dX1_start_45 rfl rfl ?_
        replace h := zkE h
        obtain ⟨e20, h⟩ := h
        replace h := zb2E h
        obtain ⟨v22, G23, e21, h⟩ := h
        refine j_cont (zrV (As := []) msX1_199 (yX1_isStrongLL2_ok e21) (Nat.le_trans (Nat.le_of_ble_eq_true rfl) hd) (zk_1 _ e20) rfl rfl (Nat.le_of_ble_eq_true rfl) dX1_start_46) ?_
        refine j_if_eq (tgt := 56) dX1_start_49 (by decide) (fun c24 => ?_) (fun c24 => ?_)
        · rw [if_pos c24] at h
          exact J.sub (zall [0, 1] rfl) (wfX1_start_56 hd t x1  G23 h hk)
        · rw [if_neg c24] at h
          exact J.sub (zall [0, 1] rfl) (wfX1_start_52 hd t x1  G23 h hk)
    · rw [if_neg c13] at h
      exact J.sub (zall [0, 1] rfl) (wfX1_start_56 hd t x1  G2 h hk)
  · refine j_thr (zrS (As := [vI s0]) msX1_101 (yX1_argument_ok e1) (Nat.le_trans (Nat.le_of_ble_eq_true rfl) hd) rfl rfl (Nat.le_of_ble_eq_true rfl) dX1_start_15) ?_
    obtain rfl := Option.some.inj h
    exact jx_out hk.1 hk.2 (by decide)
def fX1_start_10 (t : Nat) (x1 : Int32)  (G : GS) : Option (((Int32) ⊕ String) × GS) :=
  fX1_start_15 t x1 1 G
theorem wfX1_start_10 {F : zF} (hd : 53 ≤ F.2.2.2) (t : Nat) (x1 : Int32)  (G : GS) {a : ((Int32) ⊕ String) × GS} (h : fX1_start_10 t x1  G = some a) (hk : zKXI F a) : J mX1_start F G 10 [(0, vR (some t)), (1, vI x1)] [] := by
  unfold fX1_start_10 at h
  refine j_iconst (v := 1) dX1_start_10 (by decide) ?_
  refine j_goto (tgt := 15) dX1_start_11 (by decide) ?_
  exact J.sub (zall [0, 1] rfl) (wfX1_start_15 hd t x1 1 G h hk)
def fX1_start_0 (t : Nat) (x1 : Int32)  (G : GS) : Option (((Int32) ⊕ String) × GS) :=
  if x1 = 1 then (fX1_start_10 t x1 G) else (if x1 = 2 then (fX1_start_10 t x1 G) else (fX1_start_15 t x1 0 G))
theorem wfX1_start_0 {F : zF} (hd : 53 ≤ F.2.2.2) (t : Nat) (x1 : Int32)  (G : GS) {a : ((Int32) ⊕ String) × GS} (h : fX1_start_0 t x1  G = some a) (hk : zKXI F a) : J mX1_start F G 0 [(0, vR (some t)), (1, vI x1)] [] := by
  unfold fX1_start_0 at h
  refine j_iload_n (j := 1) dX1_start_0 rfl rfl ?_
  refine j_iconst (v := 1) dX1_start_1 (by decide) ?_
  refine j_icmp_eq (tgt := 10) dX1_start_2 (by decide) (fun c1 => ?_) (fun c1 => ?_)
  · rw [if_pos c1] at h
    exact J.sub (zall [0, 1] rfl) (wfX1_start_10 hd t x1  G h hk)
  · rw [if_neg c1] at h
    refine j_iload_n (j := 1) dX1_start_5 rfl rfl ?_
    refine j_iconst (v := 2) dX1_start_6 (by decide) ?_
    refine j_icmp_ne (tgt := 14) dX1_start_7 (by decide) (fun c2 => ?_) (fun c2 => ?_)
    · rw [if_pos c2] at h
      exact J.sub (zall [0, 1] rfl) (wfX1_start_10 hd t x1  G h hk)
    · rw [if_neg c2] at h
      refine j_iconst (v := 0) dX1_start_14 (by decide) ?_
      exact J.sub (zall [0, 1] rfl) (wfX1_start_15 hd t x1 0 G h hk)
theorem yX1_start_ok {t : Nat} {x1 : Int32} {G : GS} {r : (Int32) ⊕ String} {G1 : GS} (h : fX1_start_0 t x1 G = some (r, G1)) : zRuns yX1_start (ws_ yX1_start cX1_start 2 (some Jvm.ClassFile.FieldType.int)) [vR (some t), vI x1] (zout (fun v => some (vI v)) r, G, G1, 53) :=
  zentry (M := mX1_start) (plainFor_of_name (by decide +kernel)) ⟨rfl, rfl, rfl, rfl⟩ (Nat.le_of_ble_eq_true rfl) (wfX1_start_0 (Nat.le_refl _) t x1 G h ⟨rfl, rfl⟩)
abbrev mX1_symbolAt : zM := (cX1_symbolAt, RX1, 4, (some Jvm.ClassFile.FieldType.int), "symbolAt", [], "(II)I")
def fX1_symbolAt_0 (t : Nat) (x1 : Int32) (x2 : Int32)  (G : GS) : Option (((Int32) ⊕ String) × GS) :=
  zk [1] G t <| zb3 (fX1_rule_0 t x1 G) (fun r3 G4 => r3.bind fun a7 => (zgR G4 3 a7 1).bind fun r9 => r9.bind fun a11 => (zln G4 a11).bind fun v13 => (fX1_isIn_0 x2 0 (v13 - 1) G4).bind fun v16 => if v16 = 0 then (some (.inl (-1), G4)) else ((zaI G4 50 a11 x2).bind fun v18 => some (.inl v18, G4))) (fun X5 G6 => some (.inr X5, G6))
theorem wfX1_symbolAt_0 {F : zF} (hd : 10 ≤ F.2.2.2) (t : Nat) (x1 : Int32) (x2 : Int32)  (G : GS) {a : ((Int32) ⊕ String) × GS} (h : fX1_symbolAt_0 t x1 x2  G = some a) (hk : zKXI F a) : J mX1_symbolAt F G 0 [(0, vR (some t)), (1, vI x1), (2, vI x2)] [] := by
  unfold fX1_symbolAt_0 at h
  refine j_aload_n (j := 0) dX1_symbolAt_0 rfl rfl ?_
  refine j_iload_n (j := 1) dX1_symbolAt_1 rfl rfl ?_
  replace h := zkE h
  obtain ⟨e1, h⟩ := h
  replace h := zb3E h
  rcases h with ⟨r3, G4, e2, h⟩ | ⟨X5, G6, e2, h⟩
  · refine j_cont (zrV (As := [vI x1]) msX1_93 (yX1_rule_ok e2) (Nat.le_trans (Nat.le_of_ble_eq_true rfl) hd) (zk_1 _ e1) rfl rfl (Nat.le_of_ble_eq_true rfl) dX1_symbolAt_2) ?_
    replace h := zbE h
    obtain ⟨a7, e8, h⟩ := h
    subst e8
    replace h := zbE h
    obtain ⟨r9, e10, h⟩ := h
    refine j_getR fgX1_104 (fun _ _ _ => rfl) dX1_symbolAt_5 e10 ?_
    refine j_astore_n (lv' := [(3, vR r9), (0, vR (some t)), (1, vI x1), (2, vI x2)]) dX1_symbolAt_8 rfl (Nat.le_of_ble_eq_true rfl) rfl ?_
    refine j_iload_n (j := 3) dX1_symbolAt_9 rfl rfl ?_
    refine j_iconst (v := 0) dX1_symbolAt_10 (by decide) ?_
    refine j_aload_n (j := 0) dX1_symbolAt_11 rfl rfl ?_
    replace h := zbE h
    obtain ⟨a11, e12, h⟩ := h
    subst e12
    replace h := zbE h
    obtain ⟨v13, e14, h⟩ := h
    refine j_alen e14 dX1_symbolAt_12 ?_
    refine j_iconst (v := 1) dX1_symbolAt_13 (by decide) ?_
    refine j_isub dX1_symbolAt_14 ?_
    replace h := zbE h
    obtain ⟨v16, e15, h⟩ := h
    refine j_cont (zrS (As := [vI x2, vI 0, vI (v13 - 1)]) msX1_3 (yX1_isIn_ok e15) (Nat.le_trans (Nat.le_of_ble_eq_true rfl) hd) rfl rfl (Nat.le_of_ble_eq_true rfl) dX1_symbolAt_15) ?_
    refine j_if_eq (tgt := 27) dX1_symbolAt_18 (by decide) (fun c17 => ?_) (fun c17 => ?_)
    · rw [if_pos c17] at h
      refine j_iconst (v := (-1)) dX1_symbolAt_27 (by decide) ?_
      obtain rfl := Option.some.inj h
      exact j_iret hk.1 hk.2 rfl dX1_symbolAt_28
    · rw [if_neg c17] at h
      refine j_aload_n (j := 0) dX1_symbolAt_21 rfl rfl ?_
      refine j_iload_n (j := 3) dX1_symbolAt_22 rfl rfl ?_
      replace h := zbE h
      obtain ⟨v18, e19, h⟩ := h
      refine j_iald (Or.inl rfl) e19 dX1_symbolAt_23 ?_
      refine j_goto (tgt := 28) dX1_symbolAt_24 (by decide) ?_
      obtain rfl := Option.some.inj h
      exact j_iret hk.1 hk.2 rfl dX1_symbolAt_28
  · refine j_thr (zrV (As := [vI x1]) msX1_93 (yX1_rule_ok e2) (Nat.le_trans (Nat.le_of_ble_eq_true rfl) hd) (zk_1 _ e1) rfl rfl (Nat.le_of_ble_eq_true rfl) dX1_symbolAt_2) ?_
    obtain rfl := Option.some.inj h
    exact jx_out hk.1 hk.2 (by decide)
theorem yX1_symbolAt_ok {t : Nat} {x1 : Int32} {x2 : Int32} {G : GS} {r : (Int32) ⊕ String} {G1 : GS} (h : fX1_symbolAt_0 t x1 x2 G = some (r, G1)) : zRuns yX1_symbolAt (ws_ yX1_symbolAt cX1_symbolAt 4 (some Jvm.ClassFile.FieldType.int)) [vR (some t), vI x1, vI x2] (zout (fun v => some (vI v)) r, G, G1, 10) :=
  zentry (M := mX1_symbolAt) (plainFor_of_name (by decide +kernel)) ⟨rfl, rfl, rfl, rfl⟩ (Nat.le_of_ble_eq_true rfl) (wfX1_symbolAt_0 (Nat.le_refl _) t x1 x2 G h ⟨rfl, rfl⟩)
abbrev mJ22_size : zM := (cJ22_size, RJ22, 1, (some Jvm.ClassFile.FieldType.int), "size", [], "()I")
def fJ22_size_0 (t : Nat)  (G : GS) : Option (Int32) :=
  (zgI G 16 t 4).bind fun v1 => some v1
theorem wfJ22_size_0 {F : zF} (hd : 1 ≤ F.2.2.2) (t : Nat)  (G : GS) {a : Int32} (h : fJ22_size_0 t  G = some a) (hk : zKPI F G a) : J mJ22_size F G 0 [(0, vR (some t))] [] := by
  unfold fJ22_size_0 at h
  refine j_aload_n (j := 0) dJ22_size_0 rfl rfl ?_
  replace h := zbE h
  obtain ⟨v1, e2, h⟩ := h
  refine j_getI fgJ22_7 (fun _ _ _ => rfl) dJ22_size_1 e2 ?_
  obtain rfl := Option.some.inj h
  exact j_iret hk.1 hk.2 rfl dJ22_size_4
theorem yJ22_size_ok {t : Nat} {G : GS} {r : Int32} (h : fJ22_size_0 t G = some r) : zRuns yJ22_size (ws_ yJ22_size cJ22_size 1 (some Jvm.ClassFile.FieldType.int)) [vR (some t)] (.inl (some (vI r)), G, G, 1) :=
  zentry (M := mJ22_size) (plainFor_of_name (by decide +kernel)) ⟨rfl, rfl, rfl, rfl⟩ (Nat.le_of_ble_eq_true rfl) (wfJ22_size_0 (Nat.le_refl _) t G h ⟨rfl, rfl⟩)
abbrev mJ26_bitCount : zM := (cJ26_bitCount, RJ26, 1, (some Jvm.ClassFile.FieldType.int), "bitCount", [], "(I)I")
def fJ26_bitCount_0 (x0 : Int32)  (G : GS) : Option (Int32) :=
  some ((((((((x0 - ((x0.toUInt32 >>> ((1 : Int32).toUInt32 &&& Int32.toUInt32 31)).toInt32 &&& 1431655765)) &&& 858993459) + (((x0 - ((x0.toUInt32 >>> ((1 : Int32).toUInt32 &&& Int32.toUInt32 31)).toInt32 &&& 1431655765)).toUInt32 >>> ((2 : Int32).toUInt32 &&& Int32.toUInt32 31)).toInt32 &&& 858993459)) + ((((x0 - ((x0.toUInt32 >>> ((1 : Int32).toUInt32 &&& Int32.toUInt32 31)).toInt32 &&& 1431655765)) &&& 858993459) + (((x0 - ((x0.toUInt32 >>> ((1 : Int32).toUInt32 &&& Int32.toUInt32 31)).toInt32 &&& 1431655765)).toUInt32 >>> ((2 : Int32).toUInt32 &&& Int32.toUInt32 31)).toInt32 &&& 858993459)).toUInt32 >>> ((4 : Int32).toUInt32 &&& Int32.toUInt32 31)).toInt32) &&& 252645135) + ((((((x0 - ((x0.toUInt32 >>> ((1 : Int32).toUInt32 &&& Int32.toUInt32 31)).toInt32 &&& 1431655765)) &&& 858993459) + (((x0 - ((x0.toUInt32 >>> ((1 : Int32).toUInt32 &&& Int32.toUInt32 31)).toInt32 &&& 1431655765)).toUInt32 >>> ((2 : Int32).toUInt32 &&& Int32.toUInt32 31)).toInt32 &&& 858993459)) + ((((x0 - ((x0.toUInt32 >>> ((1 : Int32).toUInt32 &&& Int32.toUInt32 31)).toInt32 &&& 1431655765)) &&& 858993459) + (((x0 - ((x0.toUInt32 >>> ((1 : Int32).toUInt32 &&& Int32.toUInt32 31)).toInt32 &&& 1431655765)).toUInt32 >>> ((2 : Int32).toUInt32 &&& Int32.toUInt32 31)).toInt32 &&& 858993459)).toUInt32 >>> ((4 : Int32).toUInt32 &&& Int32.toUInt32 31)).toInt32) &&& 252645135).toUInt32 >>> ((8 : Int32).toUInt32 &&& Int32.toUInt32 31)).toInt32) + (((((((x0 - ((x0.toUInt32 >>> ((1 : Int32).toUInt32 &&& Int32.toUInt32 31)).toInt32 &&& 1431655765)) &&& 858993459) + (((x0 - ((x0.toUInt32 >>> ((1 : Int32).toUInt32 &&& Int32.toUInt32 31)).toInt32 &&& 1431655765)).toUInt32 >>> ((2 : Int32).toUInt32 &&& Int32.toUInt32 31)).toInt32 &&& 858993459)) + ((((x0 - ((x0.toUInt32 >>> ((1 : Int32).toUInt32 &&& Int32.toUInt32 31)).toInt32 &&& 1431655765)) &&& 858993459) + (((x0 - ((x0.toUInt32 >>> ((1 : Int32).toUInt32 &&& Int32.toUInt32 31)).toInt32 &&& 1431655765)).toUInt32 >>> ((2 : Int32).toUInt32 &&& Int32.toUInt32 31)).toInt32 &&& 858993459)).toUInt32 >>> ((4 : Int32).toUInt32 &&& Int32.toUInt32 31)).toInt32) &&& 252645135) + ((((((x0 - ((x0.toUInt32 >>> ((1 : Int32).toUInt32 &&& Int32.toUInt32 31)).toInt32 &&& 1431655765)) &&& 858993459) + (((x0 - ((x0.toUInt32 >>> ((1 : Int32).toUInt32 &&& Int32.toUInt32 31)).toInt32 &&& 1431655765)).toUInt32 >>> ((2 : Int32).toUInt32 &&& Int32.toUInt32 31)).toInt32 &&& 858993459)) + ((((x0 - ((x0.toUInt32 >>> ((1 : Int32).toUInt32 &&& Int32.toUInt32 31)).toInt32 &&& 1431655765)) &&& 858993459) + (((x0 - ((x0.toUInt32 >>> ((1 : Int32).toUInt32 &&& Int32.toUInt32 31)).toInt32 &&& 1431655765)).toUInt32 >>> ((2 : Int32).toUInt32 &&& Int32.toUInt32 31)).toInt32 &&& 858993459)).toUInt32 >>> ((4 : Int32).toUInt32 &&& Int32.toUInt32 31)).toInt32) &&& 252645135).toUInt32 >>> ((8 : Int32).toUInt32 &&& Int32.toUInt32 31)).toInt32).toUInt32 >>> ((16 : Int32).toUInt32 &&& Int32.toUInt32 31)).toInt32) &&& 63)
theorem wfJ26_bitCount_0 {F : zF} (hd : 1 ≤ F.2.2.2) (x0 : Int32)  (G : GS) {a : Int32} (h : fJ26_bitCount_0 x0  G = some a) (hk : zKPI F G a) : J mJ26_bitCount F G 0 [(0, vI x0)] [] := by
  unfold fJ26_bitCount_0 at h
  refine j_iload_n (j := 0) dJ26_bitCount_0 rfl rfl ?_
  refine j_iload_n (j := 0) dJ26_bitCount_1 rfl rfl ?_
  refine j_iconst (v := 1) dJ26_bitCount_2 (by decide) ?_
  refine j_iushr dJ26_bitCount_3 ?_
  refine j_ldcw (v := 1431655765) q1639 dJ26_bitCount_4 ?_
  refine j_iand dJ26_bitCount_7 ?_
  refine j_isub dJ26_bitCount_8 ?_
  refine j_istore_n (lv' := [(0, vI (x0 - ((x0.toUInt32 >>> ((1 : Int32).toUInt32 &&& Int32.toUInt32 31)).toInt32 &&& 1431655765)))]) dJ26_bitCount_9 rfl (Nat.le_of_ble_eq_true rfl) rfl ?_
  refine j_iload_n (j := 0) dJ26_bitCount_10 rfl rfl ?_
  refine j_ldcw (v := 858993459) q1640 dJ26_bitCount_11 ?_
  refine j_iand dJ26_bitCount_14 ?_
  refine j_iload_n (j := 0) dJ26_bitCount_15 rfl rfl ?_
  refine j_iconst (v := 2) dJ26_bitCount_16 (by decide) ?_
  refine j_iushr dJ26_bitCount_17 ?_
  refine j_ldcw (v := 858993459) q1640 dJ26_bitCount_18 ?_
  refine j_iand dJ26_bitCount_21 ?_
  refine j_iadd dJ26_bitCount_22 ?_
  refine j_istore_n (lv' := [(0, vI (((x0 - ((x0.toUInt32 >>> ((1 : Int32).toUInt32 &&& Int32.toUInt32 31)).toInt32 &&& 1431655765)) &&& 858993459) + (((x0 - ((x0.toUInt32 >>> ((1 : Int32).toUInt32 &&& Int32.toUInt32 31)).toInt32 &&& 1431655765)).toUInt32 >>> ((2 : Int32).toUInt32 &&& Int32.toUInt32 31)).toInt32 &&& 858993459)))]) dJ26_bitCount_23 rfl (Nat.le_of_ble_eq_true rfl) rfl ?_
  refine j_iload_n (j := 0) dJ26_bitCount_24 rfl rfl ?_
  refine j_iload_n (j := 0) dJ26_bitCount_25 rfl rfl ?_
  refine j_iconst (v := 4) dJ26_bitCount_26 (by decide) ?_
  refine j_iushr dJ26_bitCount_27 ?_
  refine j_iadd dJ26_bitCount_28 ?_
  refine j_ldcw (v := 252645135) q1641 dJ26_bitCount_29 ?_
  refine j_iand dJ26_bitCount_32 ?_
  refine j_istore_n (lv' := [(0, vI (((((x0 - ((x0.toUInt32 >>> ((1 : Int32).toUInt32 &&& Int32.toUInt32 31)).toInt32 &&& 1431655765)) &&& 858993459) + (((x0 - ((x0.toUInt32 >>> ((1 : Int32).toUInt32 &&& Int32.toUInt32 31)).toInt32 &&& 1431655765)).toUInt32 >>> ((2 : Int32).toUInt32 &&& Int32.toUInt32 31)).toInt32 &&& 858993459)) + ((((x0 - ((x0.toUInt32 >>> ((1 : Int32).toUInt32 &&& Int32.toUInt32 31)).toInt32 &&& 1431655765)) &&& 858993459) + (((x0 - ((x0.toUInt32 >>> ((1 : Int32).toUInt32 &&& Int32.toUInt32 31)).toInt32 &&& 1431655765)).toUInt32 >>> ((2 : Int32).toUInt32 &&& Int32.toUInt32 31)).toInt32 &&& 858993459)).toUInt32 >>> ((4 : Int32).toUInt32 &&& Int32.toUInt32 31)).toInt32) &&& 252645135))]) dJ26_bitCount_33 rfl (Nat.le_of_ble_eq_true rfl) rfl ?_
  refine j_iload_n (j := 0) dJ26_bitCount_34 rfl rfl ?_
  refine j_iload_n (j := 0) dJ26_bitCount_35 rfl rfl ?_
  refine j_bipush (v := 8) dJ26_bitCount_36 (by decide) ?_
  refine j_iushr dJ26_bitCount_38 ?_
  refine j_iadd dJ26_bitCount_39 ?_
  refine j_istore_n (lv' := [(0, vI ((((((x0 - ((x0.toUInt32 >>> ((1 : Int32).toUInt32 &&& Int32.toUInt32 31)).toInt32 &&& 1431655765)) &&& 858993459) + (((x0 - ((x0.toUInt32 >>> ((1 : Int32).toUInt32 &&& Int32.toUInt32 31)).toInt32 &&& 1431655765)).toUInt32 >>> ((2 : Int32).toUInt32 &&& Int32.toUInt32 31)).toInt32 &&& 858993459)) + ((((x0 - ((x0.toUInt32 >>> ((1 : Int32).toUInt32 &&& Int32.toUInt32 31)).toInt32 &&& 1431655765)) &&& 858993459) + (((x0 - ((x0.toUInt32 >>> ((1 : Int32).toUInt32 &&& Int32.toUInt32 31)).toInt32 &&& 1431655765)).toUInt32 >>> ((2 : Int32).toUInt32 &&& Int32.toUInt32 31)).toInt32 &&& 858993459)).toUInt32 >>> ((4 : Int32).toUInt32 &&& Int32.toUInt32 31)).toInt32) &&& 252645135) + ((((((x0 - ((x0.toUInt32 >>> ((1 : Int32).toUInt32 &&& Int32.toUInt32 31)).toInt32 &&& 1431655765)) &&& 858993459) + (((x0 - ((x0.toUInt32 >>> ((1 : Int32).toUInt32 &&& Int32.toUInt32 31)).toInt32 &&& 1431655765)).toUInt32 >>> ((2 : Int32).toUInt32 &&& Int32.toUInt32 31)).toInt32 &&& 858993459)) + ((((x0 - ((x0.toUInt32 >>> ((1 : Int32).toUInt32 &&& Int32.toUInt32 31)).toInt32 &&& 1431655765)) &&& 858993459) + (((x0 - ((x0.toUInt32 >>> ((1 : Int32).toUInt32 &&& Int32.toUInt32 31)).toInt32 &&& 1431655765)).toUInt32 >>> ((2 : Int32).toUInt32 &&& Int32.toUInt32 31)).toInt32 &&& 858993459)).toUInt32 >>> ((4 : Int32).toUInt32 &&& Int32.toUInt32 31)).toInt32) &&& 252645135).toUInt32 >>> ((8 : Int32).toUInt32 &&& Int32.toUInt32 31)).toInt32))]) dJ26_bitCount_40 rfl (Nat.le_of_ble_eq_true rfl) rfl ?_
  refine j_iload_n (j := 0) dJ26_bitCount_41 rfl rfl ?_
  refine j_iload_n (j := 0) dJ26_bitCount_42 rfl rfl ?_
  refine j_bipush (v := 16) dJ26_bitCount_43 (by decide) ?_
  refine j_iushr dJ26_bitCount_45 ?_
  refine j_iadd dJ26_bitCount_46 ?_
  refine j_istore_n (lv' := [(0, vI (((((((x0 - ((x0.toUInt32 >>> ((1 : Int32).toUInt32 &&& Int32.toUInt32 31)).toInt32 &&& 1431655765)) &&& 858993459) + (((x0 - ((x0.toUInt32 >>> ((1 : Int32).toUInt32 &&& Int32.toUInt32 31)).toInt32 &&& 1431655765)).toUInt32 >>> ((2 : Int32).toUInt32 &&& Int32.toUInt32 31)).toInt32 &&& 858993459)) + ((((x0 - ((x0.toUInt32 >>> ((1 : Int32).toUInt32 &&& Int32.toUInt32 31)).toInt32 &&& 1431655765)) &&& 858993459) + (((x0 - ((x0.toUInt32 >>> ((1 : Int32).toUInt32 &&& Int32.toUInt32 31)).toInt32 &&& 1431655765)).toUInt32 >>> ((2 : Int32).toUInt32 &&& Int32.toUInt32 31)).toInt32 &&& 858993459)).toUInt32 >>> ((4 : Int32).toUInt32 &&& Int32.toUInt32 31)).toInt32) &&& 252645135) + ((((((x0 - ((x0.toUInt32 >>> ((1 : Int32).toUInt32 &&& Int32.toUInt32 31)).toInt32 &&& 1431655765)) &&& 858993459) + (((x0 - ((x0.toUInt32 >>> ((1 : Int32).toUInt32 &&& Int32.toUInt32 31)).toInt32 &&& 1431655765)).toUInt32 >>> ((2 : Int32).toUInt32 &&& Int32.toUInt32 31)).toInt32 &&& 858993459)) + ((((x0 - ((x0.toUInt32 >>> ((1 : Int32).toUInt32 &&& Int32.toUInt32 31)).toInt32 &&& 1431655765)) &&& 858993459) + (((x0 - ((x0.toUInt32 >>> ((1 : Int32).toUInt32 &&& Int32.toUInt32 31)).toInt32 &&& 1431655765)).toUInt32 >>> ((2 : Int32).toUInt32 &&& Int32.toUInt32 31)).toInt32 &&& 858993459)).toUInt32 >>> ((4 : Int32).toUInt32 &&& Int32.toUInt32 31)).toInt32) &&& 252645135).toUInt32 >>> ((8 : Int32).toUInt32 &&& Int32.toUInt32 31)).toInt32) + (((((((x0 - ((x0.toUInt32 >>> ((1 : Int32).toUInt32 &&& Int32.toUInt32 31)).toInt32 &&& 1431655765)) &&& 858993459) + (((x0 - ((x0.toUInt32 >>> ((1 : Int32).toUInt32 &&& Int32.toUInt32 31)).toInt32 &&& 1431655765)).toUInt32 >>> ((2 : Int32).toUInt32 &&& Int32.toUInt32 31)).toInt32 &&& 858993459)) + ((((x0 - ((x0.toUInt32 >>> ((1 : Int32).toUInt32 &&& Int32.toUInt32 31)).toInt32 &&& 1431655765)) &&& 858993459) + (((x0 - ((x0.toUInt32 >>> ((1 : Int32).toUInt32 &&& Int32.toUInt32 31)).toInt32 &&& 1431655765)).toUInt32 >>> ((2 : Int32).toUInt32 &&& Int32.toUInt32 31)).toInt32 &&& 858993459)).toUInt32 >>> ((4 : Int32).toUInt32 &&& Int32.toUInt32 31)).toInt32) &&& 252645135) + ((((((x0 - ((x0.toUInt32 >>> ((1 : Int32).toUInt32 &&& Int32.toUInt32 31)).toInt32 &&& 1431655765)) &&& 858993459) + (((x0 - ((x0.toUInt32 >>> ((1 : Int32).toUInt32 &&& Int32.toUInt32 31)).toInt32 &&& 1431655765)).toUInt32 >>> ((2 : Int32).toUInt32 &&& Int32.toUInt32 31)).toInt32 &&& 858993459)) + ((((x0 - ((x0.toUInt32 >>> ((1 : Int32).toUInt32 &&& Int32.toUInt32 31)).toInt32 &&& 1431655765)) &&& 858993459) + (((x0 - ((x0.toUInt32 >>> ((1 : Int32).toUInt32 &&& Int32.toUInt32 31)).toInt32 &&& 1431655765)).toUInt32 >>> ((2 : Int32).toUInt32 &&& Int32.toUInt32 31)).toInt32 &&& 858993459)).toUInt32 >>> ((4 : Int32).toUInt32 &&& Int32.toUInt32 31)).toInt32) &&& 252645135).toUInt32 >>> ((8 : Int32).toUInt32 &&& Int32.toUInt32 31)).toInt32).toUInt32 >>> ((16 : Int32).toUInt32 &&& Int32.toUInt32 31)).toInt32))]) dJ26_bitCount_47 rfl (Nat.le_of_ble_eq_true rfl) rfl ?_
  refine j_iload_n (j := 0) dJ26_bitCount_48 rfl rfl ?_
  refine j_bipush (v := 63) dJ26_bitCount_49 (by decide) ?_
  refine j_iand dJ26_bitCount_51 ?_
  obtain rfl := Option.some.inj h
  exact j_iret hk.1 hk.2 rfl dJ26_bitCount_52
theorem yJ26_bitCount_ok {x0 : Int32} {G : GS} {r : Int32} (h : fJ26_bitCount_0 x0 G = some r) : zRuns yJ26_bitCount (ws_ yJ26_bitCount cJ26_bitCount 1 (some Jvm.ClassFile.FieldType.int)) [vI x0] (.inl (some (vI r)), G, G, 1) :=
  zentry (M := mJ26_bitCount) (plainFor_of_name (by decide +kernel)) ⟨rfl, rfl, rfl, rfl⟩ (Nat.le_of_ble_eq_true rfl) (wfJ26_bitCount_0 (Nat.le_refl _) x0 G h ⟨rfl, rfl⟩)
theorem fgX1_292 : zFG RX1 292 4 6 (.object "java/util/Map") := ⟨(RX5, TX5, 10, tyX5), rfl, by decide, in_X5, rfl, "SelahGenerator$Sets", Or.inl rfl, Or.inr ⟨_, zxw 60 rfl⟩⟩
theorem msX1_296_J22 : zSF RX1 296 RJ22 ⟨"java/util/Map", "size", "()I"⟩ yJ22_size cJ22_size 1 (some Jvm.ClassFile.FieldType.int) 0 := ⟨lw_F q1630 q1633 q994 q150 q996, zfw 21 rfl, ⟨15, _, rfl, rfl⟩, (by decide +kernel), (by decide)⟩
theorem msX1_299 : zSS RX1 299 yJ26_bitCount cJ26_bitCount 1 (some Jvm.ClassFile.FieldType.int) 1 := ⟨lw_S q1636 q1637 q156 q1638, (by decide +kernel), (by decide)⟩
abbrev mX1_tableShare : zM := (cX1_tableShare, RX1, 4, (some Jvm.ClassFile.FieldType.float), "tableShare", [], "()F")
def fX1_tableShare_46 (t : Nat) (x1 : Int32)  (G : GS) : Option ((UInt32) × GS) :=
  if x1 = 0 then (some (FP.fconst0, G)) else (zk [1] G t <| zb2 (fX1_sets_0 t G) fun r4 G5 => r4.bind fun a6 => (zgR G5 5 a6 6).bind fun r8 => r8.bind fun a10 => zk [16] G5 a10 <| (fJ22_size_0 a10 G5).bind fun v14 => (fJ26_bitCount_0 x1 G5).bind fun v16 => zcond (zn32 (FP.fdiv (FP.i2f v14) (FP.i2f (13 * v16)))) (some ((FP.fdiv (FP.i2f v14) (FP.i2f (13 * v16))), G5)))
theorem wfX1_tableShare_46 {F : zF} (hd : 52 ≤ F.2.2.2) (t : Nat) (x1 : Int32)  (G : GS) {a : (UInt32) × GS} (h : fX1_tableShare_46 t x1  G = some a) (hk : zKF F a) : J mX1_tableShare F G 46 [(0, vR (some t)), (1, vI x1)] [] := by
  unfold fX1_tableShare_46 at h
  refine j_iload_n (j := 1) dX1_tableShare_46 rfl rfl ?_
  refine j_if_ne (tgt := 54) dX1_tableShare_47 (by decide) (fun c1 => ?_) (fun c1 => ?_)
  · rw [if_pos c1] at h
    refine j_fconst0 dX1_tableShare_50 ?_
    refine j_goto (tgt := 76) dX1_tableShare_51 (by decide) ?_
    obtain rfl := Option.some.inj h
    exact j_fret hk.1 hk.2 rfl dX1_tableShare_76
  · rw [if_neg c1] at h
    refine j_aload_n (j := 0) dX1_tableShare_54 rfl rfl ?_
    replace h := zkE h
    obtain ⟨e2, h⟩ := h
    replace h := zb2E h
    obtain ⟨r4, G5, e3, h⟩ := h
    refine j_cont (zrV (As := []) msX1_128 (yX1_sets_ok e3) (Nat.le_trans (Nat.le_of_ble_eq_true rfl) hd) (zk_1 _ e2) rfl rfl (Nat.le_of_ble_eq_true rfl) dX1_tableShare_55) ?_
    replace h := zbE h
    obtain ⟨a6, e7, h⟩ := h
    subst e7
    replace h := zbE h
    obtain ⟨r8, e9, h⟩ := h
    refine j_getR fgX1_292 (fun _ _ _ => rfl) dX1_tableShare_58 e9 ?_
    replace h := zbE h
    obtain ⟨a10, e11, h⟩ := h
    subst e11
    replace h := zkE h
    obtain ⟨e12, h⟩ := h
    replace h := zbE h
    obtain ⟨v14, e13, h⟩ := h
    refine j_cont (zrF (As := []) msX1_296_J22 (yJ22_size_ok e13) (Nat.le_trans (Nat.le_of_ble_eq_true rfl) hd) (zk_16 _ e12) rfl rfl (Nat.le_of_ble_eq_true rfl) dX1_tableShare_61) ?_
    refine j_i2f dX1_tableShare_66 ?_
    refine j_bipush (v := 13) dX1_tableShare_67 (by decide) ?_
    refine j_iload_n (j := 1) dX1_tableShare_69 rfl rfl ?_
    replace h := zbE h
    obtain ⟨v16, e15, h⟩ := h
    refine j_cont (zrS (As := [vI x1]) msX1_299 (yJ26_bitCount_ok e15) (Nat.le_trans (Nat.le_of_ble_eq_true rfl) hd) rfl rfl (Nat.le_of_ble_eq_true rfl) dX1_tableShare_70) ?_
    refine j_imul dX1_tableShare_73 ?_
    refine j_i2f dX1_tableShare_74 ?_
    replace h := zcondE h
    obtain ⟨e17, h⟩ := h
    refine j_fdiv dX1_tableShare_75 e17 ?_
    obtain rfl := Option.some.inj h
    exact j_fret hk.1 hk.2 rfl dX1_tableShare_76
def fbX1_tableShare_12 (t : Nat) (x1 : Int32) (x2 : Option Nat)  (G : GS) : Option ((Int32 × GS) ⊕ ((UInt32) × GS)) :=
  x2.bind fun a1 => zk [13] G a1 <| (fJ19_hasNext_0 a1 G).bind fun v5 => if v5 = 0 then (zo (fX1_tableShare_46 t x1 G)) else (zk [13] G a1 <| zb2 (fJ19_next_0 a1 G) fun r9 G10 => zkq [3] G10 r9 (r9.bind fun a12 => (zgI G10 3 a12 0).bind fun v14 => some (.inl ((x1 ||| ((1 : Int32) <<< ((v14 - 20) &&& 31))), G10))))
def flX1_tableShare_12 (t : Nat) (x1 : Int32) (x2 : Option Nat) (G : GS) : Option ((UInt32) × GS) := zloop (fun s : Int32 × GS => fbX1_tableShare_12 t s.1 x2 s.2) (x1, G)
theorem wfbX1_tableShare_12 {F : zF} (hd : 52 ≤ F.2.2.2) (t : Nat) (x1 : Int32) (x2 : Option Nat) (G : GS) {a : (Int32 × GS) ⊕ ((UInt32) × GS)} (h : fbX1_tableShare_12 t x1 x2 G = some a) (hk : (zcase (fun s : Int32 × GS => J mX1_tableShare F s.2 12 [(0, vR (some t)), (1, vI s.1), (2, vR x2)] []) (zKF F)) a) : J mX1_tableShare F G 12 [(0, vR (some t)), (1, vI x1), (2, vR x2)] [] := by
  unfold fbX1_tableShare_12 at h
  refine j_aload_n (j := 2) dX1_tableShare_12 rfl rfl ?_
  replace h := zbE h
  obtain ⟨a1, e2, h⟩ := h
  subst e2
  replace h := zkE h
  obtain ⟨e3, h⟩ := h
  replace h := zbE h
  obtain ⟨v5, e4, h⟩ := h
  refine j_cont (zrF (As := []) msX1_289_J19 (yJ19_hasNext_ok e4) (Nat.le_trans (Nat.le_of_ble_eq_true rfl) hd) (zk_13 _ e3) rfl rfl (Nat.le_of_ble_eq_true rfl) dX1_tableShare_13) ?_
  refine j_if_eq (tgt := 46) dX1_tableShare_18 (by decide) (fun c6 => ?_) (fun c6 => ?_)
  · rw [if_pos c6] at h
    replace h := zoE h
    obtain ⟨a, h, rfl⟩ := h
    replace hk := hk
    exact J.sub (zall [0, 1] rfl) (wfX1_tableShare_46 hd t x1  G h hk)
  · rw [if_neg c6] at h
    refine j_aload_n (j := 2) dX1_tableShare_21 rfl rfl ?_
    replace h := zkE h
    obtain ⟨e7, h⟩ := h
    replace h := zb2E h
    obtain ⟨r9, G10, e8, h⟩ := h
    refine j_cont (zrF (As := []) msX1_230_J19 (yJ19_next_ok e8) (Nat.le_trans (Nat.le_of_ble_eq_true rfl) hd) (zk_13 _ e7) rfl rfl (Nat.le_of_ble_eq_true rfl) dX1_tableShare_22) ?_
    replace h := zkqE h
    obtain ⟨e11, h⟩ := h
    refine j_castq (fun k => j_castN dX1_tableShare_27 k) (fun b q16 k => j_castS (zk_3 _ (e11 b q16)) ⟨2, _, rfl, rfl⟩ q1615 dX1_tableShare_27 k) ?_
    refine j_astore_n (lv' := [(3, vR r9), (0, vR (some t)), (1, vI x1), (2, vR (some a1))]) dX1_tableShare_30 rfl (Nat.le_of_ble_eq_true rfl) rfl ?_
    refine j_iload_n (j := 2) dX1_tableShare_31 rfl rfl ?_
    refine j_iconst (v := 1) dX1_tableShare_32 (by decide) ?_
    refine j_aload_n (j := 0) dX1_tableShare_33 rfl rfl ?_
    replace h := zbE h
    obtain ⟨a12, e13, h⟩ := h
    subst e13
    replace h := zbE h
    obtain ⟨v14, e15, h⟩ := h
    refine j_getI fgX1_118 (fun _ _ _ => rfl) dX1_tableShare_34 e15 ?_
    refine j_bipush (v := 20) dX1_tableShare_37 (by decide) ?_
    refine j_isub dX1_tableShare_39 ?_
    refine j_ishl dX1_tableShare_40 ?_
    refine j_ior dX1_tableShare_41 ?_
    refine j_istore_n (lv' := [(1, vI (x1 ||| ((1 : Int32) <<< ((v14 - 20) &&& 31)))), (3, vR (some a12)), (0, vR (some t)), (2, vR (some a1))]) dX1_tableShare_42 rfl (Nat.le_of_ble_eq_true rfl) rfl ?_
    refine j_goto (tgt := 12) dX1_tableShare_43 (by decide) ?_
    obtain rfl := Option.some.inj h
    exact J.sub (zall [2, 0, 3] rfl) hk
theorem wflX1_tableShare_12 {F : zF} (hd : 52 ≤ F.2.2.2) (t : Nat) (x1 : Int32) (x2 : Option Nat) (G : GS) {a : (UInt32) × GS} (h : flX1_tableShare_12 t x1 x2 G = some a) (hk : zKF F a) : J mX1_tableShare F G 12 [(0, vR (some t)), (1, vI x1), (2, vR x2)] [] := by
  unfold flX1_tableShare_12 at h
  exact zloop_walk (P := (fun s : Int32 × GS => J mX1_tableShare F s.2 12 [(0, vR (some t)), (1, vI s.1), (2, vR x2)] [])) (fun s b e hk => wfbX1_tableShare_12 hd t s.1 x2 s.2 e hk) (x1, G) _ h hk
def fX1_tableShare_0 (t : Nat)  (G : GS) : Option ((UInt32) × GS) :=
  (zgR G 1 t 0).bind fun r1 => r1.bind fun a3 => zk [12] G a3 <| zb2 (fJ2_iterator_0 a3 G) fun r7 G8 => flX1_tableShare_12 t 0 r7 G8
theorem wfX1_tableShare_0 {F : zF} (hd : 52 ≤ F.2.2.2) (t : Nat)  (G : GS) {a : (UInt32) × GS} (h : fX1_tableShare_0 t  G = some a) (hk : zKF F a) : J mX1_tableShare F G 0 [(0, vR (some t))] [] := by
  unfold fX1_tableShare_0 at h
  refine j_iconst (v := 0) dX1_tableShare_0 (by decide) ?_
  refine j_istore_n (lv' := [(1, vI 0), (0, vR (some t))]) dX1_tableShare_1 rfl (Nat.le_of_ble_eq_true rfl) rfl ?_
  refine j_aload_n (j := 1) dX1_tableShare_2 rfl rfl ?_
  replace h := zbE h
  obtain ⟨r1, e2, h⟩ := h
  refine j_getR fgX1_16 (fun _ _ _ => rfl) dX1_tableShare_3 e2 ?_
  replace h := zbE h
  obtain ⟨a3, e4, h⟩ := h
  subst e4
  replace h := zkE h
  obtain ⟨e5, h⟩ := h
  replace h := zb2E h
  obtain ⟨r7, G8, e6, h⟩ := h
  refine j_cont (zrF (As := []) msX1_288_J2 (yJ2_iterator_ok e6) (Nat.le_trans (Nat.le_of_ble_eq_true rfl) hd) (zk_12 _ e5) rfl rfl (Nat.le_of_ble_eq_true rfl) dX1_tableShare_6) ?_
  refine j_astore_n (lv' := [(2, vR r7), (1, vI 0), (0, vR (some t))]) dX1_tableShare_11 rfl (Nat.le_of_ble_eq_true rfl) rfl ?_
  exact J.sub (zall [2, 1, 0] rfl) (wflX1_tableShare_12 hd t 0 r7  G8 h hk)
theorem yX1_tableShare_ok {t : Nat} {G : GS} {r : UInt32} {G1 : GS} (h : fX1_tableShare_0 t G = some (r, G1)) : zRuns yX1_tableShare (ws_ yX1_tableShare cX1_tableShare 4 (some Jvm.ClassFile.FieldType.float)) [vR (some t)] (.inl (some (vF r)), G, G1, 52) :=
  zentry (M := mX1_tableShare) (plainFor_of_name (by decide +kernel)) ⟨rfl, rfl, rfl, rfl⟩ (Nat.le_of_ble_eq_true rfl) (wfX1_tableShare_0 (Nat.le_refl _) t G h ⟨rfl, rfl⟩)
abbrev mX1_tokenCount : zM := (cX1_tokenCount, RX1, 1, (some Jvm.ClassFile.FieldType.int), "tokenCount", [], "()I")
def fX1_tokenCount_0 (t : Nat)  (G : GS) : Option (Int32) :=
  (zgR G 1 t 3).bind fun r1 => zopt r1 (some 0) (fun a3 => (zgR G 1 t 3).bind fun r4 => r4.bind fun a6 => (zgR G 9 a6 2).bind fun r8 => r8.bind fun a10 => zk [12] G a10 <| (fJ2_size_0 a10 G).bind fun v14 => some v14)
theorem wfX1_tokenCount_0 {F : zF} (hd : 2 ≤ F.2.2.2) (t : Nat)  (G : GS) {a : Int32} (h : fX1_tokenCount_0 t  G = some a) (hk : zKPI F G a) : J mX1_tokenCount F G 0 [(0, vR (some t))] [] := by
  unfold fX1_tokenCount_0 at h
  refine j_aload_n (j := 0) dX1_tokenCount_0 rfl rfl ?_
  replace h := zbE h
  obtain ⟨r1, e2, h⟩ := h
  refine j_getR fgX1_43 (fun _ _ _ => rfl) dX1_tokenCount_1 e2 ?_
  rcases r1 with _ | a3
  · replace h := zopt_n h
    refine j_ifnonnull0 dX1_tokenCount_4 ?_
    refine j_iconst (v := 0) dX1_tokenCount_7 (by decide) ?_
    refine j_goto (tgt := 23) dX1_tokenCount_8 (by decide) ?_
    obtain rfl := Option.some.inj h
    exact j_iret hk.1 hk.2 rfl dX1_tokenCount_23
  · replace h := zopt_s h
    refine j_ifnonnull1 (tgt := 11) dX1_tokenCount_4 (by decide) ?_
    refine j_aload_n (j := 0) dX1_tokenCount_11 rfl rfl ?_
    replace h := zbE h
    obtain ⟨r4, e5, h⟩ := h
    refine j_getR fgX1_43 (fun _ _ _ => rfl) dX1_tokenCount_12 e5 ?_
    replace h := zbE h
    obtain ⟨a6, e7, h⟩ := h
    subst e7
    replace h := zbE h
    obtain ⟨r8, e9, h⟩ := h
    refine j_getR fgX1_210 (fun _ _ _ => rfl) dX1_tokenCount_15 e9 ?_
    replace h := zbE h
    obtain ⟨a10, e11, h⟩ := h
    subst e11
    replace h := zkE h
    obtain ⟨e12, h⟩ := h
    replace h := zbE h
    obtain ⟨v14, e13, h⟩ := h
    refine j_cont (zrF (As := []) msX1_54_J2 (yJ2_size_ok e13) (Nat.le_trans (Nat.le_of_ble_eq_true rfl) hd) (zk_12 _ e12) rfl rfl (Nat.le_of_ble_eq_true rfl) dX1_tokenCount_18) ?_
    obtain rfl := Option.some.inj h
    exact j_iret hk.1 hk.2 rfl dX1_tokenCount_23
theorem yX1_tokenCount_ok {t : Nat} {G : GS} {r : Int32} (h : fX1_tokenCount_0 t G = some r) : zRuns yX1_tokenCount (ws_ yX1_tokenCount cX1_tokenCount 1 (some Jvm.ClassFile.FieldType.int)) [vR (some t)] (.inl (some (vI r)), G, G, 2) :=
  zentry (M := mX1_tokenCount) (plainFor_of_name (by decide +kernel)) ⟨rfl, rfl, rfl, rfl⟩ (Nat.le_of_ble_eq_true rfl) (wfX1_tokenCount_0 (Nat.le_refl _) t G h ⟨rfl, rfl⟩)
theorem msX1_122 : zSN RX1 122 yX4_used "SelahGenerator" cX4_used 8 (some Jvm.ClassFile.FieldType.int) 1 := ⟨q283, q146, zxw 55 rfl, (by decide +kernel), (by decide)⟩
abbrev mX1_usedNonterminals : zM := (cX1_usedNonterminals, RX1, 1, (some Jvm.ClassFile.FieldType.int), "usedNonterminals", [], "()I")
def fX1_usedNonterminals_0 (t : Nat)  (G : GS) : Option ((Int32) × GS) :=
  (zgR G 1 t 0).bind fun r1 => zb2 (fX4_used_0 r1 G) fun v4 G5 => some (v4, G5)
theorem wfX1_usedNonterminals_0 {F : zF} (hd : 5 ≤ F.2.2.2) (t : Nat)  (G : GS) {a : (Int32) × GS} (h : fX1_usedNonterminals_0 t  G = some a) (hk : zKI F a) : J mX1_usedNonterminals F G 0 [(0, vR (some t))] [] := by
  unfold fX1_usedNonterminals_0 at h
  refine j_aload_n (j := 0) dX1_usedNonterminals_0 rfl rfl ?_
  replace h := zbE h
  obtain ⟨r1, e2, h⟩ := h
  refine j_getR fgX1_16 (fun _ _ _ => rfl) dX1_usedNonterminals_1 e2 ?_
  replace h := zb2E h
  obtain ⟨v4, G5, e3, h⟩ := h
  refine j_cont (zrSN (As := [vR r1]) msX1_122 q282 (yX4_used_ok e3) (Nat.le_trans (Nat.le_of_ble_eq_true rfl) hd) rfl rfl (Nat.le_of_ble_eq_true rfl) dX1_usedNonterminals_4) ?_
  obtain rfl := Option.some.inj h
  exact j_iret hk.1 hk.2 rfl dX1_usedNonterminals_7
theorem yX1_usedNonterminals_ok {t : Nat} {G : GS} {r : Int32} {G1 : GS} (h : fX1_usedNonterminals_0 t G = some (r, G1)) : zRuns yX1_usedNonterminals (ws_ yX1_usedNonterminals cX1_usedNonterminals 1 (some Jvm.ClassFile.FieldType.int)) [vR (some t)] (.inl (some (vI r)), G, G1, 5) :=
  zentry (M := mX1_usedNonterminals) (plainFor_of_name (by decide +kernel)) ⟨rfl, rfl, rfl, rfl⟩ (Nat.le_of_ble_eq_true rfl) (wfX1_usedNonterminals_0 (Nat.le_refl _) t G h ⟨rfl, rfl⟩)
theorem fgX1_267 : zFG RX1 267 9 2 (.boolean) := ⟨(RX11, TX11, 3, tyX11), rfl, by decide, in_X11, rfl, "SelahGenerator$Fault", Or.inl rfl, Or.inr ⟨_, zxw 74 rfl⟩⟩
abbrev mX1_wasSkipped : zM := (cX1_wasSkipped, RX1, 2, (some Jvm.ClassFile.FieldType.boolean), "wasSkipped", [], "(I)Z")
def fX1_wasSkipped_0 (t : Nat) (x1 : Int32)  (G : GS) : Option (((Int32) ⊕ String) × GS) :=
  zk [1] G t <| zb3 (fX1_fault_0 t x1 G) (fun r3 G4 => r3.bind fun a7 => (zgI G4 10 a7 2).bind fun v9 => zcond (zbb v9) (some (.inl v9, G4))) (fun X5 G6 => some (.inr X5, G6))
theorem wfX1_wasSkipped_0 {F : zF} (hd : 9 ≤ F.2.2.2) (t : Nat) (x1 : Int32)  (G : GS) {a : ((Int32) ⊕ String) × GS} (h : fX1_wasSkipped_0 t x1  G = some a) (hk : zKXI F a) : J mX1_wasSkipped F G 0 [(0, vR (some t)), (1, vI x1)] [] := by
  unfold fX1_wasSkipped_0 at h
  refine j_aload_n (j := 0) dX1_wasSkipped_0 rfl rfl ?_
  refine j_iload_n (j := 1) dX1_wasSkipped_1 rfl rfl ?_
  replace h := zkE h
  obtain ⟨e1, h⟩ := h
  replace h := zb3E h
  rcases h with ⟨r3, G4, e2, h⟩ | ⟨X5, G6, e2, h⟩
  · refine j_cont (zrV (As := [vI x1]) msX1_258 (yX1_fault_ok e2) (Nat.le_trans (Nat.le_of_ble_eq_true rfl) hd) (zk_1 _ e1) rfl rfl (Nat.le_of_ble_eq_true rfl) dX1_wasSkipped_2) ?_
    replace h := zbE h
    obtain ⟨a7, e8, h⟩ := h
    subst e8
    replace h := zbE h
    obtain ⟨v9, e10, h⟩ := h
    refine j_getI fgX1_267 (fun _ _ _ => rfl) dX1_wasSkipped_5 e10 ?_
    replace h := zcondE h
    obtain ⟨e11, h⟩ := h
    obtain rfl := Option.some.inj h
    exact j_zret hk.1 hk.2 rfl (zbb_n e11) dX1_wasSkipped_8
  · refine j_thr (zrV (As := [vI x1]) msX1_258 (yX1_fault_ok e2) (Nat.le_trans (Nat.le_of_ble_eq_true rfl) hd) (zk_1 _ e1) rfl rfl (Nat.le_of_ble_eq_true rfl) dX1_wasSkipped_2) ?_
    obtain rfl := Option.some.inj h
    exact jx_out hk.1 hk.2 (by decide)
theorem yX1_wasSkipped_ok {t : Nat} {x1 : Int32} {G : GS} {r : (Int32) ⊕ String} {G1 : GS} (h : fX1_wasSkipped_0 t x1 G = some (r, G1)) : zRuns yX1_wasSkipped (ws_ yX1_wasSkipped cX1_wasSkipped 2 (some Jvm.ClassFile.FieldType.boolean)) [vR (some t), vI x1] (zout (fun v => some (vI v)) r, G, G1, 9) :=
  zentry (M := mX1_wasSkipped) (plainFor_of_name (by decide +kernel)) ⟨rfl, rfl, rfl, rfl⟩ (Nat.le_of_ble_eq_true rfl) (wfX1_wasSkipped_0 (Nat.le_refl _) t x1 G h ⟨rfl, rfl⟩)
abbrev mJ15_rangeCheck : zM := (cJ15_rangeCheck, RJ15, 3, none, "rangeCheck", [], "(III)V")
def fJ15_rangeCheck_0 (x0 : Int32) (x1 : Int32) (x2 : Int32)  (G : GS) : Option (GS) :=
  if x1 ≤ x2 then (if 0 ≤ x1 then (if x2 ≤ x0 then (some G) else none) else none) else none
theorem wfJ15_rangeCheck_0 {F : zF} (hd : 18 ≤ F.2.2.2) (x0 : Int32) (x1 : Int32) (x2 : Int32)  (G : GS) {a : GS} (h : fJ15_rangeCheck_0 x0 x1 x2  G = some a) (hk : zKV F a) : J mJ15_rangeCheck F G 0 [(0, vI x0), (1, vI x1), (2, vI x2)] [] := by
  unfold fJ15_rangeCheck_0 at h
  refine j_iload_n (j := 1) dJ15_rangeCheck_0 rfl rfl ?_
  refine j_iload_n (j := 2) dJ15_rangeCheck_1 rfl rfl ?_
  refine j_icmp_le (tgt := 46) dJ15_rangeCheck_2 (by decide) (fun c1 => ?_) (fun c1 => ?_)
  · rw [if_pos c1] at h
    refine j_iload_n (j := 1) dJ15_rangeCheck_46 rfl rfl ?_
    refine j_if_ge (tgt := 59) dJ15_rangeCheck_47 (by decide) (fun c2 => ?_) (fun c2 => ?_)
    · rw [if_pos c2] at h
      refine j_iload_n (j := 2) dJ15_rangeCheck_59 rfl rfl ?_
      refine j_iload_n (j := 0) dJ15_rangeCheck_60 rfl rfl ?_
      refine j_icmp_le (tgt := 73) dJ15_rangeCheck_61 (by decide) (fun c3 => ?_) (fun c3 => ?_)
      · rw [if_pos c3] at h
        obtain rfl := Option.some.inj h
        exact j_vret hk.1 hk.2 rfl dJ15_rangeCheck_73
      · rw [if_neg c3] at h
        cases h
    · rw [if_neg c2] at h
      cases h
  · rw [if_neg c1] at h
    cases h
theorem yJ15_rangeCheck_ok {x0 : Int32} {x1 : Int32} {x2 : Int32} {G : GS} {G1 : GS} (h : fJ15_rangeCheck_0 x0 x1 x2 G = some G1) : zRuns yJ15_rangeCheck (ws_ yJ15_rangeCheck cJ15_rangeCheck 3 none) [vI x0, vI x1, vI x2] (.inl none, G, G1, 18) :=
  zentry (M := mJ15_rangeCheck) (plainFor_of_name (by decide +kernel)) ⟨rfl, rfl, rfl, rfl⟩ (Nat.le_of_ble_eq_true rfl) (wfJ15_rangeCheck_0 (Nat.le_refl _) x0 x1 x2 G h ⟨rfl, rfl⟩)
theorem msJ15_13 : zSS RJ15 13 yJ15_rangeCheck cJ15_rangeCheck 3 none 3 := ⟨lw_S q2626 q2627 q141 q2628, (by decide +kernel), (by decide)⟩
abbrev mJ15_fill_2 : zM := (cJ15_fill_2, RJ15, 5, none, "fill", [], "([BIIB)V")
def fbJ15_fill_2_10 (x0 : Option Nat) (x2 : Int32) (x3 : Int32) (x4 : Int32)  (G : GS) : Option ((Int32 × GS) ⊕ (GS)) :=
  if x2 ≤ x4 then (zo (some G)) else (x0.bind fun a2 => (zsB G 53 a2 x4 x3).bind fun G4 => some (.inl ((x4 + 1), G4)))
def flJ15_fill_2_10 (x0 : Option Nat) (x2 : Int32) (x3 : Int32) (x4 : Int32) (G : GS) : Option (GS) := zloop (fun s : Int32 × GS => fbJ15_fill_2_10 x0 x2 x3 s.1 s.2) (x4, G)
theorem wfbJ15_fill_2_10 {F : zF} (hd : 19 ≤ F.2.2.2) (x0 : Option Nat) (x2 : Int32) (x3 : Int32) (x4 : Int32) (G : GS) {a : (Int32 × GS) ⊕ (GS)} (h : fbJ15_fill_2_10 x0 x2 x3 x4 G = some a) (hk : (zcase (fun s : Int32 × GS => J mJ15_fill_2 F s.2 10 [(0, vR x0), (2, vI x2), (3, vI x3), (4, vI s.1)] []) (zKV F)) a) : J mJ15_fill_2 F G 10 [(0, vR x0), (2, vI x2), (3, vI x3), (4, vI x4)] [] := by
  unfold fbJ15_fill_2_10 at h
  refine j_iload (j := 3) dJ15_fill_2_10 rfl ?_
  refine j_iload_n (j := 1) dJ15_fill_2_12 rfl rfl ?_
  refine j_icmp_ge (tgt := 27) dJ15_fill_2_13 (by decide) (fun c1 => ?_) (fun c1 => ?_)
  · rw [if_pos c1] at h
    replace h := zoE h
    obtain ⟨a, h, rfl⟩ := h
    replace hk := hk
    obtain rfl := Option.some.inj h
    exact j_vret hk.1 hk.2 rfl dJ15_fill_2_27
  · rw [if_neg c1] at h
    refine j_aload_n (j := 0) dJ15_fill_2_16 rfl rfl ?_
    refine j_iload (j := 3) dJ15_fill_2_17 rfl ?_
    refine j_iload_n (j := 2) dJ15_fill_2_19 rfl rfl ?_
    replace h := zbE h
    obtain ⟨a2, e3, h⟩ := h
    subst e3
    replace h := zbE h
    obtain ⟨G4, e5, h⟩ := h
    refine j_bast e5 dJ15_fill_2_20 ?_
    refine j_iinc (j := 3) (v := (x4 + 1)) (lv' := [(4, vI (x4 + 1)), (0, vR (some a2)), (2, vI x2), (3, vI x3)]) dJ15_fill_2_21 rfl rfl (Nat.le_of_ble_eq_true rfl) rfl ?_
    refine j_goto (tgt := 10) dJ15_fill_2_24 (by decide) ?_
    obtain rfl := Option.some.inj h
    exact J.sub (zall [1, 2, 3, 0] rfl) hk
theorem wflJ15_fill_2_10 {F : zF} (hd : 19 ≤ F.2.2.2) (x0 : Option Nat) (x2 : Int32) (x3 : Int32) (x4 : Int32) (G : GS) {a : GS} (h : flJ15_fill_2_10 x0 x2 x3 x4 G = some a) (hk : zKV F a) : J mJ15_fill_2 F G 10 [(0, vR x0), (2, vI x2), (3, vI x3), (4, vI x4)] [] := by
  unfold flJ15_fill_2_10 at h
  exact zloop_walk (P := (fun s : Int32 × GS => J mJ15_fill_2 F s.2 10 [(0, vR x0), (2, vI x2), (3, vI x3), (4, vI s.1)] [])) (fun s b e hk => wfbJ15_fill_2_10 hd x0 x2 x3 s.1 s.2 e hk) (x4, G) _ h hk
def fJ15_fill_2_0 (x0 : Option Nat) (x1 : Int32) (x2 : Int32) (x3 : Int32)  (G : GS) : Option (GS) :=
  x0.bind fun a1 => (zln G a1).bind fun v3 => (fJ15_rangeCheck_0 v3 x1 x2 G).bind fun G6 => flJ15_fill_2_10 (some a1) x2 x3 x1 G6
theorem wfJ15_fill_2_0 {F : zF} (hd : 19 ≤ F.2.2.2) (x0 : Option Nat) (x1 : Int32) (x2 : Int32) (x3 : Int32)  (G : GS) {a : GS} (h : fJ15_fill_2_0 x0 x1 x2 x3  G = some a) (hk : zKV F a) : J mJ15_fill_2 F G 0 [(0, vR x0), (1, vI x1), (2, vI x2), (3, vI x3)] [] := by
  unfold fJ15_fill_2_0 at h
  refine j_aload_n (j := 0) dJ15_fill_2_0 rfl rfl ?_
  replace h := zbE h
  obtain ⟨a1, e2, h⟩ := h
  subst e2
  replace h := zbE h
  obtain ⟨v3, e4, h⟩ := h
  refine j_alen e4 dJ15_fill_2_1 ?_
  refine j_iload_n (j := 1) dJ15_fill_2_2 rfl rfl ?_
  refine j_iload_n (j := 2) dJ15_fill_2_3 rfl rfl ?_
  replace h := zbE h
  obtain ⟨G6, e5, h⟩ := h
  refine j_cont (zrS (As := [vI v3, vI x1, vI x2]) msJ15_13 (yJ15_rangeCheck_ok e5) (Nat.le_trans (Nat.le_of_ble_eq_true rfl) hd) rfl rfl (Nat.le_of_ble_eq_true rfl) dJ15_fill_2_4) ?_
  refine j_iload_n (j := 1) dJ15_fill_2_7 rfl rfl ?_
  refine j_istore (lv' := [(4, vI x1), (0, vR (some a1)), (1, vI x1), (2, vI x2), (3, vI x3)]) dJ15_fill_2_8 (Nat.le_of_ble_eq_true rfl) rfl ?_
  exact J.sub (zall [1, 3, 4, 0] rfl) (wflJ15_fill_2_10 hd (some a1) x2 x3 x1  G6 h hk)
theorem yJ15_fill_2_ok {x0 : Option Nat} {x1 : Int32} {x2 : Int32} {x3 : Int32} {G : GS} {G1 : GS} (h : fJ15_fill_2_0 x0 x1 x2 x3 G = some G1) : zRuns yJ15_fill_2 (ws_ yJ15_fill_2 cJ15_fill_2 5 none) [vR x0, vI x1, vI x2, vI x3] (.inl none, G, G1, 19) :=
  zentry (M := mJ15_fill_2) (plainFor_of_name (by decide +kernel)) ⟨rfl, rfl, rfl, rfl⟩ (Nat.le_of_ble_eq_true rfl) (wfJ15_fill_2_0 (Nat.le_refl _) x0 x1 x2 x3 G h ⟨rfl, rfl⟩)
theorem msJ29_236 : zSS RJ29 236 yJ15_fill_2 cJ15_fill_2 5 none 4 := ⟨lw_S q2623 q2624 q141 q2625, (by decide +kernel), (by decide)⟩
abbrev mJ29_fillNull : zM := (cJ29_fillNull, RJ29, 3, none, "fillNull", [], "([BII)V")
def fJ29_fillNull_0 (x0 : Option Nat) (x1 : Int32) (x2 : Int32)  (G : GS) : Option (GS) :=
  (fJ15_fill_2_0 x0 x1 x2 0 G).bind fun G2 => some G2
theorem wfJ29_fillNull_0 {F : zF} (hd : 20 ≤ F.2.2.2) (x0 : Option Nat) (x1 : Int32) (x2 : Int32)  (G : GS) {a : GS} (h : fJ29_fillNull_0 x0 x1 x2  G = some a) (hk : zKV F a) : J mJ29_fillNull F G 0 [(0, vR x0), (1, vI x1), (2, vI x2)] [] := by
  unfold fJ29_fillNull_0 at h
  refine j_aload_n (j := 0) dJ29_fillNull_0 rfl rfl ?_
  refine j_iload_n (j := 1) dJ29_fillNull_1 rfl rfl ?_
  refine j_iload_n (j := 2) dJ29_fillNull_2 rfl rfl ?_
  refine j_iconst (v := 0) dJ29_fillNull_3 (by decide) ?_
  replace h := zbE h
  obtain ⟨G2, e1, h⟩ := h
  refine j_cont (zrS (As := [vR x0, vI x1, vI x2, vI 0]) msJ29_236 (yJ15_fill_2_ok e1) (Nat.le_trans (Nat.le_of_ble_eq_true rfl) hd) rfl rfl (Nat.le_of_ble_eq_true rfl) dJ29_fillNull_4) ?_
  obtain rfl := Option.some.inj h
  exact j_vret hk.1 hk.2 rfl dJ29_fillNull_7
theorem yJ29_fillNull_ok {x0 : Option Nat} {x1 : Int32} {x2 : Int32} {G : GS} {G1 : GS} (h : fJ29_fillNull_0 x0 x1 x2 G = some G1) : zRuns yJ29_fillNull (ws_ yJ29_fillNull cJ29_fillNull 3 none) [vR x0, vI x1, vI x2] (.inl none, G, G1, 20) :=
  zentry (M := mJ29_fillNull) (plainFor_of_name (by decide +kernel)) ⟨rfl, rfl, rfl, rfl⟩ (Nat.le_of_ble_eq_true rfl) (wfJ29_fillNull_0 (Nat.le_refl _) x0 x1 x2 G h ⟨rfl, rfl⟩)
theorem msJ6_380 : zSS RJ6 380 yJ15_fill_2 cJ15_fill_2 5 none 4 := ⟨lw_S q2645 q2624 q141 q2625, (by decide +kernel), (by decide)⟩
abbrev mJ6_fillNull : zM := (cJ6_fillNull, RJ6, 3, none, "fillNull", [], "([BII)V")
def fJ6_fillNull_0 (x0 : Option Nat) (x1 : Int32) (x2 : Int32)  (G : GS) : Option (GS) :=
  (fJ15_fill_2_0 x0 (x1 <<< ((1 : Int32) &&& 31)) (x2 <<< ((1 : Int32) &&& 31)) 0 G).bind fun G2 => some G2
theorem wfJ6_fillNull_0 {F : zF} (hd : 20 ≤ F.2.2.2) (x0 : Option Nat) (x1 : Int32) (x2 : Int32)  (G : GS) {a : GS} (h : fJ6_fillNull_0 x0 x1 x2  G = some a) (hk : zKV F a) : J mJ6_fillNull F G 0 [(0, vR x0), (1, vI x1), (2, vI x2)] [] := by
  unfold fJ6_fillNull_0 at h
  refine j_aload_n (j := 0) dJ6_fillNull_0 rfl rfl ?_
  refine j_iload_n (j := 1) dJ6_fillNull_1 rfl rfl ?_
  refine j_iconst (v := 1) dJ6_fillNull_2 (by decide) ?_
  refine j_ishl dJ6_fillNull_3 ?_
  refine j_iload_n (j := 2) dJ6_fillNull_4 rfl rfl ?_
  refine j_iconst (v := 1) dJ6_fillNull_5 (by decide) ?_
  refine j_ishl dJ6_fillNull_6 ?_
  refine j_iconst (v := 0) dJ6_fillNull_7 (by decide) ?_
  replace h := zbE h
  obtain ⟨G2, e1, h⟩ := h
  refine j_cont (zrS (As := [vR x0, vI (x1 <<< ((1 : Int32) &&& 31)), vI (x2 <<< ((1 : Int32) &&& 31)), vI 0]) msJ6_380 (yJ15_fill_2_ok e1) (Nat.le_trans (Nat.le_of_ble_eq_true rfl) hd) rfl rfl (Nat.le_of_ble_eq_true rfl) dJ6_fillNull_8) ?_
  obtain rfl := Option.some.inj h
  exact j_vret hk.1 hk.2 rfl dJ6_fillNull_11
theorem yJ6_fillNull_ok {x0 : Option Nat} {x1 : Int32} {x2 : Int32} {G : GS} {G1 : GS} (h : fJ6_fillNull_0 x0 x1 x2 G = some G1) : zRuns yJ6_fillNull (ws_ yJ6_fillNull cJ6_fillNull 3 none) [vR x0, vI x1, vI x2] (.inl none, G, G1, 20) :=
  zentry (M := mJ6_fillNull) (plainFor_of_name (by decide +kernel)) ⟨rfl, rfl, rfl, rfl⟩ (Nat.le_of_ble_eq_true rfl) (wfJ6_fillNull_0 (Nat.le_refl _) x0 x1 x2 G h ⟨rfl, rfl⟩)
theorem fpJ3_73_J4 : zFP RJ3 73 21 2 (.boolean) false := ⟨(RJ4, TJ4, 4, tyJ4), rfl, by decide, in_J4, tyJ4_ok, nmJ4, rfl, rfl, (by decide), "java/lang/AbstractStringBuilder", Or.inl rfl, q232⟩
theorem msJ3_133 : zSS RJ3 133 yJ29_fillNull cJ29_fillNull 3 none 3 := ⟨lw_S q2620 q2621 q160 q2622, (by decide +kernel), (by decide)⟩
theorem msJ3_137 : zSS RJ3 137 yJ6_fillNull cJ6_fillNull 3 none 3 := ⟨lw_S q2642 q2643 q130 q2644, (by decide +kernel), (by decide)⟩
abbrev mJ3_setLength : zM := (cJ3_setLength, RJ3, 2, none, "setLength", [], "(I)V")
def fJ3_setLength_76 (t : Nat) (x1 : Int32)  (G : GS) : Option (GS) :=
  (zpI G 22 t 3 x1).bind fun G1 => some G1
theorem wfJ3_setLength_76 {F : zF} (hd : 21 ≤ F.2.2.2) (t : Nat) (x1 : Int32)  (G : GS) {a : GS} (h : fJ3_setLength_76 t x1  G = some a) (hk : zKV F a) : J mJ3_setLength F G 76 [(0, vR (some t)), (1, vI x1)] [] := by
  unfold fJ3_setLength_76 at h
  refine j_aload_n (j := 0) dJ3_setLength_76 rfl rfl ?_
  refine j_iload_n (j := 1) dJ3_setLength_77 rfl rfl ?_
  replace h := zbE h
  obtain ⟨G1, e2, h⟩ := h
  refine j_putI fpJ3_79_J4 (Or.inl rfl) rfl dJ3_setLength_78 e2 ?_
  obtain rfl := Option.some.inj h
  exact j_vret hk.1 hk.2 rfl dJ3_setLength_81
def fJ3_setLength_0 (t : Nat) (x1 : Int32)  (G : GS) : Option (GS) :=
  if 0 ≤ x1 then (zk [22] G t <| (fJ3_ensureCapacityInternal_0 t x1 G).bind fun G4 => (zgI G4 22 t 3).bind fun v5 => if x1 ≤ v5 then ((zgI G4 22 t 3).bind fun v8 => if v8 ≤ x1 then (fJ3_setLength_76 t x1 G4) else ((zpZ G4 22 t 2 1).bind fun G11 => fJ3_setLength_76 t x1 G11)) else (zk [22] G4 t <| (fJ3_isLatin1_0 t G4).bind fun v15 => if v15 = 0 then ((zgR G4 22 t 0).bind fun r17 => (zgI G4 22 t 3).bind fun v19 => (fJ6_fillNull_0 r17 v19 x1 G4).bind fun G22 => fJ3_setLength_76 t x1 G22) else ((zgR G4 22 t 0).bind fun r23 => (zgI G4 22 t 3).bind fun v25 => (fJ29_fillNull_0 r23 v25 x1 G4).bind fun G28 => fJ3_setLength_76 t x1 G28))) else none
theorem wfJ3_setLength_0 {F : zF} (hd : 21 ≤ F.2.2.2) (t : Nat) (x1 : Int32)  (G : GS) {a : GS} (h : fJ3_setLength_0 t x1  G = some a) (hk : zKV F a) : J mJ3_setLength F G 0 [(0, vR (some t)), (1, vI x1)] [] := by
  unfold fJ3_setLength_0 at h
  refine j_iload_n (j := 1) dJ3_setLength_0 rfl rfl ?_
  refine j_if_ge (tgt := 13) dJ3_setLength_1 (by decide) (fun c1 => ?_) (fun c1 => ?_)
  · rw [if_pos c1] at h
    refine j_aload_n (j := 0) dJ3_setLength_13 rfl rfl ?_
    refine j_iload_n (j := 1) dJ3_setLength_14 rfl rfl ?_
    replace h := zkE h
    obtain ⟨e2, h⟩ := h
    replace h := zbE h
    obtain ⟨G4, e3, h⟩ := h
    refine j_cont (zrP (As := [vI x1]) msJ3_100_J4 (yJ3_ensureCapacityInternal_ok e3) (Nat.le_trans (Nat.le_of_ble_eq_true rfl) hd) (zk_22 _ e2) rfl rfl (Nat.le_of_ble_eq_true rfl) dJ3_setLength_15) ?_
    refine j_aload_n (j := 0) dJ3_setLength_18 rfl rfl ?_
    replace h := zbE h
    obtain ⟨v5, e6, h⟩ := h
    refine j_getI fgJ3_79 (fun _ _ _ => rfl) dJ3_setLength_19 e6 ?_
    refine j_iload_n (j := 1) dJ3_setLength_22 rfl rfl ?_
    refine j_icmp_ge (tgt := 63) dJ3_setLength_23 (by decide) (fun c7 => ?_) (fun c7 => ?_)
    · rw [if_pos c7] at h
      refine j_aload_n (j := 0) dJ3_setLength_63 rfl rfl ?_
      replace h := zbE h
      obtain ⟨v8, e9, h⟩ := h
      refine j_getI fgJ3_79 (fun _ _ _ => rfl) dJ3_setLength_64 e9 ?_
      refine j_iload_n (j := 1) dJ3_setLength_67 rfl rfl ?_
      refine j_icmp_le (tgt := 76) dJ3_setLength_68 (by decide) (fun c10 => ?_) (fun c10 => ?_)
      · rw [if_pos c10] at h
        exact J.sub (zall [0, 1] rfl) (wfJ3_setLength_76 hd t x1  G4 h hk)
      · rw [if_neg c10] at h
        refine j_aload_n (j := 0) dJ3_setLength_71 rfl rfl ?_
        refine j_iconst (v := 1) dJ3_setLength_72 (by decide) ?_
        replace h := zbE h
        obtain ⟨G11, e12, h⟩ := h
        refine j_putZ fpJ3_73_J4 (Or.inl rfl) rfl dJ3_setLength_73 e12 ?_
        exact J.sub (zall [0, 1] rfl) (wfJ3_setLength_76 hd t x1  G11 h hk)
    · rw [if_neg c7] at h
      refine j_aload_n (j := 0) dJ3_setLength_26 rfl rfl ?_
      replace h := zkE h
      obtain ⟨e13, h⟩ := h
      replace h := zbE h
      obtain ⟨v15, e14, h⟩ := h
      refine j_cont (zrU (As := []) msJ3_83_J4 (yJ3_isLatin1_ok e14) (Nat.le_trans (Nat.le_of_ble_eq_true rfl) hd) (zk_22 _ e13) rfl rfl (Nat.le_of_ble_eq_true rfl) dJ3_setLength_27) ?_
      refine j_if_eq (tgt := 48) dJ3_setLength_30 (by decide) (fun c16 => ?_) (fun c16 => ?_)
      · rw [if_pos c16] at h
        refine j_aload_n (j := 0) dJ3_setLength_48 rfl rfl ?_
        replace h := zbE h
        obtain ⟨r17, e18, h⟩ := h
        refine j_getR fgJ3_15 (fun _ _ _ => rfl) dJ3_setLength_49 e18 ?_
        refine j_aload_n (j := 0) dJ3_setLength_52 rfl rfl ?_
        replace h := zbE h
        obtain ⟨v19, e20, h⟩ := h
        refine j_getI fgJ3_79 (fun _ _ _ => rfl) dJ3_setLength_53 e20 ?_
        refine j_iload_n (j := 1) dJ3_setLength_56 rfl rfl ?_
        replace h := zbE h
        obtain ⟨G22, e21, h⟩ := h
        refine j_cont (zrS (As := [vR r17, vI v19, vI x1]) msJ3_137 (yJ6_fillNull_ok e21) (Nat.le_trans (Nat.le_of_ble_eq_true rfl) hd) rfl rfl (Nat.le_of_ble_eq_true rfl) dJ3_setLength_57) ?_
        refine j_goto (tgt := 76) dJ3_setLength_60 (by decide) ?_
        exact J.sub (zall [0, 1] rfl) (wfJ3_setLength_76 hd t x1  G22 h hk)
      · rw [if_neg c16] at h
        refine j_aload_n (j := 0) dJ3_setLength_33 rfl rfl ?_
        replace h := zbE h
        obtain ⟨r23, e24, h⟩ := h
        refine j_getR fgJ3_15 (fun _ _ _ => rfl) dJ3_setLength_34 e24 ?_
        refine j_aload_n (j := 0) dJ3_setLength_37 rfl rfl ?_
        replace h := zbE h
        obtain ⟨v25, e26, h⟩ := h
        refine j_getI fgJ3_79 (fun _ _ _ => rfl) dJ3_setLength_38 e26 ?_
        refine j_iload_n (j := 1) dJ3_setLength_41 rfl rfl ?_
        replace h := zbE h
        obtain ⟨G28, e27, h⟩ := h
        refine j_cont (zrS (As := [vR r23, vI v25, vI x1]) msJ3_133 (yJ29_fillNull_ok e27) (Nat.le_trans (Nat.le_of_ble_eq_true rfl) hd) rfl rfl (Nat.le_of_ble_eq_true rfl) dJ3_setLength_42) ?_
        refine j_goto (tgt := 76) dJ3_setLength_45 (by decide) ?_
        exact J.sub (zall [0, 1] rfl) (wfJ3_setLength_76 hd t x1  G28 h hk)
  · rw [if_neg c1] at h
    cases h
theorem yJ3_setLength_ok {t : Nat} {x1 : Int32} {G : GS} {G1 : GS} (h : fJ3_setLength_0 t x1 G = some G1) : zRuns yJ3_setLength (ws_ yJ3_setLength cJ3_setLength 2 none) [vR (some t), vI x1] (.inl none, G, G1, 21) :=
  zentry (M := mJ3_setLength) (plainFor_of_name (by decide +kernel)) ⟨rfl, rfl, rfl, rfl⟩ (Nat.le_of_ble_eq_true rfl) (wfJ3_setLength_0 (Nat.le_refl _) t x1 G h ⟨rfl, rfl⟩)
theorem msJ4_333 : zSP RJ4 333 yJ3_setLength cJ3_setLength 2 none 1 := ⟨lw_SP q2598 q3288 q243 q2599 q127 q2600, (by decide +kernel), (by decide)⟩
abbrev mJ4_setLength : zM := (cJ4_setLength, RJ4, 2, none, "setLength", [], "(I)V")
def fJ4_setLength_0 (t : Nat) (x1 : Int32)  (G : GS) : Option (GS) :=
  zk [22] G t <| (fJ3_setLength_0 t x1 G).bind fun G3 => some G3
theorem wfJ4_setLength_0 {F : zF} (hd : 22 ≤ F.2.2.2) (t : Nat) (x1 : Int32)  (G : GS) {a : GS} (h : fJ4_setLength_0 t x1  G = some a) (hk : zKV F a) : J mJ4_setLength F G 0 [(0, vR (some t)), (1, vI x1)] [] := by
  unfold fJ4_setLength_0 at h
  refine j_aload_n (j := 0) dJ4_setLength_0 rfl rfl ?_
  refine j_iload_n (j := 1) dJ4_setLength_1 rfl rfl ?_
  replace h := zkE h
  obtain ⟨e1, h⟩ := h
  replace h := zbE h
  obtain ⟨G3, e2, h⟩ := h
  refine j_cont (zrSP (As := [vI x1]) msJ4_333 ⟨21, _, rfl, rfl⟩ (yJ3_setLength_ok e2) (Nat.le_trans (Nat.le_of_ble_eq_true rfl) hd) (zk_22 _ e1) rfl rfl (Nat.le_of_ble_eq_true rfl) dJ4_setLength_2) ?_
  obtain rfl := Option.some.inj h
  exact j_vret hk.1 hk.2 rfl dJ4_setLength_5
theorem yJ4_setLength_ok {t : Nat} {x1 : Int32} {G : GS} {G1 : GS} (h : fJ4_setLength_0 t x1 G = some G1) : zRuns yJ4_setLength (ws_ yJ4_setLength cJ4_setLength 2 none) [vR (some t), vI x1] (.inl none, G, G1, 22) :=
  zentry (M := mJ4_setLength) (plainFor_of_name (by decide +kernel)) ⟨rfl, rfl, rfl, rfl⟩ (Nat.le_of_ble_eq_true rfl) (wfJ4_setLength_0 (Nat.le_refl _) t x1 G h ⟨rfl, rfl⟩)
abbrev mJ29_canEncode : zM := (cJ29_canEncode, RJ29, 1, (some Jvm.ClassFile.FieldType.boolean), "canEncode", [], "(C)Z")
def fJ29_canEncode_0 (x0 : Int32)  (G : GS) : Option (Int32) :=
  if 255 < x0 then (zcond (zbb 0) (some 0)) else (zcond (zbb 1) (some 1))
theorem wfJ29_canEncode_0 {F : zF} (hd : 1 ≤ F.2.2.2) (x0 : Int32)  (G : GS) {a : Int32} (h : fJ29_canEncode_0 x0  G = some a) (hk : zKPI F G a) : J mJ29_canEncode F G 0 [(0, vI x0)] [] := by
  unfold fJ29_canEncode_0 at h
  refine j_iload_n (j := 0) dJ29_canEncode_0 rfl rfl ?_
  refine j_sipush (v := 255) dJ29_canEncode_1 (by decide) ?_
  refine j_icmp_gt (tgt := 11) dJ29_canEncode_4 (by decide) (fun c1 => ?_) (fun c1 => ?_)
  · rw [if_pos c1] at h
    refine j_iconst (v := 0) dJ29_canEncode_11 (by decide) ?_
    replace h := zcondE h
    obtain ⟨e2, h⟩ := h
    obtain rfl := Option.some.inj h
    exact j_zret hk.1 hk.2 rfl (zbb_n e2) dJ29_canEncode_12
  · rw [if_neg c1] at h
    refine j_iconst (v := 1) dJ29_canEncode_7 (by decide) ?_
    refine j_goto (tgt := 12) dJ29_canEncode_8 (by decide) ?_
    replace h := zcondE h
    obtain ⟨e3, h⟩ := h
    obtain rfl := Option.some.inj h
    exact j_zret hk.1 hk.2 rfl (zbb_n e3) dJ29_canEncode_12
theorem yJ29_canEncode_ok {x0 : Int32} {G : GS} {r : Int32} (h : fJ29_canEncode_0 x0 G = some r) : zRuns yJ29_canEncode (ws_ yJ29_canEncode cJ29_canEncode 1 (some Jvm.ClassFile.FieldType.boolean)) [vI x0] (.inl (some (vI r)), G, G, 1) :=
  zentry (M := mJ29_canEncode) (plainFor_of_name (by decide +kernel)) ⟨rfl, rfl, rfl, rfl⟩ (Nat.le_of_ble_eq_true rfl) (wfJ29_canEncode_0 (Nat.le_refl _) x0 G h ⟨rfl, rfl⟩)
theorem msJ6_414 : zSS RJ6 414 yJ5_checkIndex cJ5_checkIndex 2 none 2 := ⟨lw_S q2665 q1662 q129 q1663, (by decide +kernel), (by decide)⟩
abbrev mJ6_checkIndex : zM := (cJ6_checkIndex, RJ6, 2, none, "checkIndex", [], "(I[B)V")
def fJ6_checkIndex_0 (x0 : Int32) (x1 : Option Nat)  (G : GS) : Option (GS) :=
  (fJ6_length_0 x1 G).bind fun v2 => (fJ5_checkIndex_0 x0 v2 G).bind fun G4 => some G4
theorem wfJ6_checkIndex_0 {F : zF} (hd : 3 ≤ F.2.2.2) (x0 : Int32) (x1 : Option Nat)  (G : GS) {a : GS} (h : fJ6_checkIndex_0 x0 x1  G = some a) (hk : zKV F a) : J mJ6_checkIndex F G 0 [(0, vI x0), (1, vR x1)] [] := by
  unfold fJ6_checkIndex_0 at h
  refine j_iload_n (j := 0) dJ6_checkIndex_0 rfl rfl ?_
  refine j_aload_n (j := 1) dJ6_checkIndex_1 rfl rfl ?_
  replace h := zbE h
  obtain ⟨v2, e1, h⟩ := h
  refine j_cont (zrS (As := [vR x1]) msJ6_48 (yJ6_length_ok e1) (Nat.le_trans (Nat.le_of_ble_eq_true rfl) hd) rfl rfl (Nat.le_of_ble_eq_true rfl) dJ6_checkIndex_2) ?_
  replace h := zbE h
  obtain ⟨G4, e3, h⟩ := h
  refine j_cont (zrS (As := [vI x0, vI v2]) msJ6_414 (yJ5_checkIndex_ok e3) (Nat.le_trans (Nat.le_of_ble_eq_true rfl) hd) rfl rfl (Nat.le_of_ble_eq_true rfl) dJ6_checkIndex_5) ?_
  obtain rfl := Option.some.inj h
  exact j_vret hk.1 hk.2 rfl dJ6_checkIndex_8
theorem yJ6_checkIndex_ok {x0 : Int32} {x1 : Option Nat} {G : GS} {G1 : GS} (h : fJ6_checkIndex_0 x0 x1 G = some G1) : zRuns yJ6_checkIndex (ws_ yJ6_checkIndex cJ6_checkIndex 2 none) [vI x0, vR x1] (.inl none, G, G1, 3) :=
  zentry (M := mJ6_checkIndex) (plainFor_of_name (by decide +kernel)) ⟨rfl, rfl, rfl, rfl⟩ (Nat.le_of_ble_eq_true rfl) (wfJ6_checkIndex_0 (Nat.le_refl _) x0 x1 G h ⟨rfl, rfl⟩)
end
