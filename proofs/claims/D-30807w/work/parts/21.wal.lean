/-! printed: functions and walks -/
set_option maxRecDepth 100000
noncomputable section
theorem msX1_159 : zSV RX1 159 RX1 yX1_pairs cX1_pairs 1 (some (Jvm.ClassFile.FieldType.object "SelahGenerator$Pairs")) 0 := ⟨lw_V q1318 q1320 qs20 q123 q1321, (by decide +kernel), (by decide)⟩
theorem msX1_171 : zSV RX1 171 RX7 yX7_conflicts cX7_conflicts 4 (some Jvm.ClassFile.FieldType.int) 0 := ⟨lw_V q1435 q1436 q1437 q168 q1438, (by decide +kernel), (by decide)⟩
abbrev mX1_isStrongLL2 : zM := (cX1_isStrongLL2, RX1, 1, (some Jvm.ClassFile.FieldType.boolean), "isStrongLL2", [], "()Z")
def fX1_isStrongLL2_0 (t : Nat)  (G : GS) : Option ((Int32) × GS) :=
  zk [1] G t <| zb2 (fX1_pairs_0 t G) fun r3 G4 => r3.bind fun a5 => zk [7] G4 a5 <| (fX7_conflicts_0 a5 G4).bind fun v9 => if v9 = 0 then (zcond (zbb 1) (some (1, G4))) else (zcond (zbb 0) (some (0, G4)))
theorem wfX1_isStrongLL2_0 {F : zF} (hd : 10 ≤ F.2.2.2) (t : Nat)  (G : GS) {a : (Int32) × GS} (h : fX1_isStrongLL2_0 t  G = some a) (hk : zKI F a) : J mX1_isStrongLL2 F G 0 [(0, vR (some t))] [] := by
  unfold fX1_isStrongLL2_0 at h
  refine j_aload_n (j := 0) dX1_isStrongLL2_0 rfl rfl ?_
  replace h := zkE h
  obtain ⟨e1, h⟩ := h
  replace h := zb2E h
  obtain ⟨r3, G4, e2, h⟩ := h
  refine j_cont (zrV (As := []) msX1_159 (yX1_pairs_ok e2) (Nat.le_trans (Nat.le_of_ble_eq_true rfl) hd) (zk_1 _ e1) rfl rfl (Nat.le_of_ble_eq_true rfl) dX1_isStrongLL2_1) ?_
  replace h := zbE h
  obtain ⟨a5, e6, h⟩ := h
  subst e6
  replace h := zkE h
  obtain ⟨e7, h⟩ := h
  replace h := zbE h
  obtain ⟨v9, e8, h⟩ := h
  refine j_cont (zrV (As := []) msX1_171 (yX7_conflicts_ok e8) (Nat.le_trans (Nat.le_of_ble_eq_true rfl) hd) (zk_7 _ e7) rfl rfl (Nat.le_of_ble_eq_true rfl) dX1_isStrongLL2_4) ?_
  refine j_if_ne (tgt := 14) dX1_isStrongLL2_7 (by decide) (fun c10 => ?_) (fun c10 => ?_)
  · rw [if_pos c10] at h
    refine j_iconst (v := 1) dX1_isStrongLL2_10 (by decide) ?_
    refine j_goto (tgt := 15) dX1_isStrongLL2_11 (by decide) ?_
    replace h := zcondE h
    obtain ⟨e11, h⟩ := h
    obtain rfl := Option.some.inj h
    exact j_zret hk.1 hk.2 rfl (zbb_n e11) dX1_isStrongLL2_15
  · rw [if_neg c10] at h
    refine j_iconst (v := 0) dX1_isStrongLL2_14 (by decide) ?_
    replace h := zcondE h
    obtain ⟨e12, h⟩ := h
    obtain rfl := Option.some.inj h
    exact j_zret hk.1 hk.2 rfl (zbb_n e12) dX1_isStrongLL2_15
theorem yX1_isStrongLL2_ok {t : Nat} {G : GS} {r : Int32} {G1 : GS} (h : fX1_isStrongLL2_0 t G = some (r, G1)) : zRuns yX1_isStrongLL2 (ws_ yX1_isStrongLL2 cX1_isStrongLL2 1 (some Jvm.ClassFile.FieldType.boolean)) [vR (some t)] (.inl (some (vI r)), G, G1, 10) :=
  zentry (M := mX1_isStrongLL2) (plainFor_of_name (by decide +kernel)) ⟨rfl, rfl, rfl, rfl⟩ (Nat.le_of_ble_eq_true rfl) (wfX1_isStrongLL2_0 (Nat.le_refl _) t G h ⟨rfl, rfl⟩)
theorem fgX1_118 : zFG RX1 118 2 0 (.int) := ⟨(RX3, TX3, 2, tyX3), rfl, by decide, in_X3, rfl, "SelahGenerator$Rule", Or.inl rfl, Or.inr ⟨_, zxw 63 rfl⟩⟩
abbrev mX1_leftOf : zM := (cX1_leftOf, RX1, 2, (some Jvm.ClassFile.FieldType.int), "leftOf", [], "(I)I")
def fX1_leftOf_0 (t : Nat) (x1 : Int32)  (G : GS) : Option (((Int32) ⊕ String) × GS) :=
  zk [1] G t <| zb3 (fX1_rule_0 t x1 G) (fun r3 G4 => r3.bind fun a7 => (zgI G4 3 a7 0).bind fun v9 => some (.inl v9, G4)) (fun X5 G6 => some (.inr X5, G6))
theorem wfX1_leftOf_0 {F : zF} (hd : 10 ≤ F.2.2.2) (t : Nat) (x1 : Int32)  (G : GS) {a : ((Int32) ⊕ String) × GS} (h : fX1_leftOf_0 t x1  G = some a) (hk : zKXI F a) : J mX1_leftOf F G 0 [(0, vR (some t)), (1, vI x1)] [] := by
  unfold fX1_leftOf_0 at h
  refine j_aload_n (j := 0) dX1_leftOf_0 rfl rfl ?_
  refine j_iload_n (j := 1) dX1_leftOf_1 rfl rfl ?_
  replace h := zkE h
  obtain ⟨e1, h⟩ := h
  replace h := zb3E h
  rcases h with ⟨r3, G4, e2, h⟩ | ⟨X5, G6, e2, h⟩
  · refine j_cont (zrV (As := [vI x1]) msX1_93 (yX1_rule_ok e2) (Nat.le_trans (Nat.le_of_ble_eq_true rfl) hd) (zk_1 _ e1) rfl rfl (Nat.le_of_ble_eq_true rfl) dX1_leftOf_2) ?_
    replace h := zbE h
    obtain ⟨a7, e8, h⟩ := h
    subst e8
    replace h := zbE h
    obtain ⟨v9, e10, h⟩ := h
    refine j_getI fgX1_118 (fun _ _ _ => rfl) dX1_leftOf_5 e10 ?_
    obtain rfl := Option.some.inj h
    exact j_iret hk.1 hk.2 rfl dX1_leftOf_8
  · refine j_thr (zrV (As := [vI x1]) msX1_93 (yX1_rule_ok e2) (Nat.le_trans (Nat.le_of_ble_eq_true rfl) hd) (zk_1 _ e1) rfl rfl (Nat.le_of_ble_eq_true rfl) dX1_leftOf_2) ?_
    obtain rfl := Option.some.inj h
    exact jx_out hk.1 hk.2 (by decide)
theorem yX1_leftOf_ok {t : Nat} {x1 : Int32} {G : GS} {r : (Int32) ⊕ String} {G1 : GS} (h : fX1_leftOf_0 t x1 G = some (r, G1)) : zRuns yX1_leftOf (ws_ yX1_leftOf cX1_leftOf 2 (some Jvm.ClassFile.FieldType.int)) [vR (some t), vI x1] (zout (fun v => some (vI v)) r, G, G1, 10) :=
  zentry (M := mX1_leftOf) (plainFor_of_name (by decide +kernel)) ⟨rfl, rfl, rfl, rfl⟩ (Nat.le_of_ble_eq_true rfl) (wfX1_leftOf_0 (Nat.le_refl _) t x1 G h ⟨rfl, rfl⟩)
abbrev mX1_lengthOf : zM := (cX1_lengthOf, RX1, 2, (some Jvm.ClassFile.FieldType.int), "lengthOf", [], "(I)I")
def fX1_lengthOf_0 (t : Nat) (x1 : Int32)  (G : GS) : Option (((Int32) ⊕ String) × GS) :=
  zk [1] G t <| zb3 (fX1_rule_0 t x1 G) (fun r3 G4 => r3.bind fun a7 => (zgR G4 3 a7 1).bind fun r9 => r9.bind fun a11 => (zln G4 a11).bind fun v13 => some (.inl v13, G4)) (fun X5 G6 => some (.inr X5, G6))
theorem wfX1_lengthOf_0 {F : zF} (hd : 10 ≤ F.2.2.2) (t : Nat) (x1 : Int32)  (G : GS) {a : ((Int32) ⊕ String) × GS} (h : fX1_lengthOf_0 t x1  G = some a) (hk : zKXI F a) : J mX1_lengthOf F G 0 [(0, vR (some t)), (1, vI x1)] [] := by
  unfold fX1_lengthOf_0 at h
  refine j_aload_n (j := 0) dX1_lengthOf_0 rfl rfl ?_
  refine j_iload_n (j := 1) dX1_lengthOf_1 rfl rfl ?_
  replace h := zkE h
  obtain ⟨e1, h⟩ := h
  replace h := zb3E h
  rcases h with ⟨r3, G4, e2, h⟩ | ⟨X5, G6, e2, h⟩
  · refine j_cont (zrV (As := [vI x1]) msX1_93 (yX1_rule_ok e2) (Nat.le_trans (Nat.le_of_ble_eq_true rfl) hd) (zk_1 _ e1) rfl rfl (Nat.le_of_ble_eq_true rfl) dX1_lengthOf_2) ?_
    replace h := zbE h
    obtain ⟨a7, e8, h⟩ := h
    subst e8
    replace h := zbE h
    obtain ⟨r9, e10, h⟩ := h
    refine j_getR fgX1_104 (fun _ _ _ => rfl) dX1_lengthOf_5 e10 ?_
    replace h := zbE h
    obtain ⟨a11, e12, h⟩ := h
    subst e12
    replace h := zbE h
    obtain ⟨v13, e14, h⟩ := h
    refine j_alen e14 dX1_lengthOf_8 ?_
    obtain rfl := Option.some.inj h
    exact j_iret hk.1 hk.2 rfl dX1_lengthOf_9
  · refine j_thr (zrV (As := [vI x1]) msX1_93 (yX1_rule_ok e2) (Nat.le_trans (Nat.le_of_ble_eq_true rfl) hd) (zk_1 _ e1) rfl rfl (Nat.le_of_ble_eq_true rfl) dX1_lengthOf_2) ?_
    obtain rfl := Option.some.inj h
    exact jx_out hk.1 hk.2 (by decide)
theorem yX1_lengthOf_ok {t : Nat} {x1 : Int32} {G : GS} {r : (Int32) ⊕ String} {G1 : GS} (h : fX1_lengthOf_0 t x1 G = some (r, G1)) : zRuns yX1_lengthOf (ws_ yX1_lengthOf cX1_lengthOf 2 (some Jvm.ClassFile.FieldType.int)) [vR (some t), vI x1] (zout (fun v => some (vI v)) r, G, G1, 10) :=
  zentry (M := mX1_lengthOf) (plainFor_of_name (by decide +kernel)) ⟨rfl, rfl, rfl, rfl⟩ (Nat.le_of_ble_eq_true rfl) (wfX1_lengthOf_0 (Nat.le_refl _) t x1 G h ⟨rfl, rfl⟩)
abbrev mX1_letter : zM := (cX1_letter, RX1, 1, (some Jvm.ClassFile.FieldType.char), "letter", [], "(I)C")
def fX1_letter_0 (x0 : Int32)  (G : GS) : Option (Int32) :=
  (fX1_isNonterminal_0 x0 G).bind fun v2 => if v2 = 0 then (zcond (zch (((97 + x0).toUInt32 % 65536).toInt32)) (some (((97 + x0).toUInt32 % 65536).toInt32))) else (zcond (zch ((((65 + x0) - 20).toUInt32 % 65536).toInt32)) (some ((((65 + x0) - 20).toUInt32 % 65536).toInt32)))
theorem wfX1_letter_0 {F : zF} (hd : 3 ≤ F.2.2.2) (x0 : Int32)  (G : GS) {a : Int32} (h : fX1_letter_0 x0  G = some a) (hk : zKPI F G a) : J mX1_letter F G 0 [(0, vI x0)] [] := by
  unfold fX1_letter_0 at h
  refine j_iload_n (j := 0) dX1_letter_0 rfl rfl ?_
  replace h := zbE h
  obtain ⟨v2, e1, h⟩ := h
  refine j_cont (zrS (As := [vI x0]) msX1_97 (yX1_isNonterminal_ok e1) (Nat.le_trans (Nat.le_of_ble_eq_true rfl) hd) rfl rfl (Nat.le_of_ble_eq_true rfl) dX1_letter_1) ?_
  refine j_if_eq (tgt := 17) dX1_letter_4 (by decide) (fun c3 => ?_) (fun c3 => ?_)
  · rw [if_pos c3] at h
    refine j_bipush (v := 97) dX1_letter_17 (by decide) ?_
    refine j_iload_n (j := 0) dX1_letter_19 rfl rfl ?_
    refine j_iadd dX1_letter_20 ?_
    refine j_i2c dX1_letter_21 ?_
    replace h := zcondE h
    obtain ⟨e4, h⟩ := h
    obtain rfl := Option.some.inj h
    exact j_zret hk.1 hk.2 rfl (zch_n e4) dX1_letter_22
  · rw [if_neg c3] at h
    refine j_bipush (v := 65) dX1_letter_7 (by decide) ?_
    refine j_iload_n (j := 0) dX1_letter_9 rfl rfl ?_
    refine j_iadd dX1_letter_10 ?_
    refine j_bipush (v := 20) dX1_letter_11 (by decide) ?_
    refine j_isub dX1_letter_13 ?_
    refine j_goto (tgt := 21) dX1_letter_14 (by decide) ?_
    refine j_i2c dX1_letter_21 ?_
    replace h := zcondE h
    obtain ⟨e5, h⟩ := h
    obtain rfl := Option.some.inj h
    exact j_zret hk.1 hk.2 rfl (zch_n e5) dX1_letter_22
theorem yX1_letter_ok {x0 : Int32} {G : GS} {r : Int32} (h : fX1_letter_0 x0 G = some r) : zRuns yX1_letter (ws_ yX1_letter cX1_letter 1 (some Jvm.ClassFile.FieldType.char)) [vI x0] (.inl (some (vI r)), G, G, 3) :=
  zentry (M := mX1_letter) (plainFor_of_name (by decide +kernel)) ⟨rfl, rfl, rfl, rfl⟩ (Nat.le_of_ble_eq_true rfl) (wfX1_letter_0 (Nat.le_refl _) x0 G h ⟨rfl, rfl⟩)
abbrev mJ2_isEmpty : zM := (cJ2_isEmpty, RJ2, 1, (some Jvm.ClassFile.FieldType.boolean), "isEmpty", [], "()Z")
def fJ2_isEmpty_0 (t : Nat)  (G : GS) : Option (Int32) :=
  (zgI G 12 t 2).bind fun v1 => if v1 = 0 then (zcond (zbb 1) (some 1)) else (zcond (zbb 0) (some 0))
theorem wfJ2_isEmpty_0 {F : zF} (hd : 1 ≤ F.2.2.2) (t : Nat)  (G : GS) {a : Int32} (h : fJ2_isEmpty_0 t  G = some a) (hk : zKPI F G a) : J mJ2_isEmpty F G 0 [(0, vR (some t))] [] := by
  unfold fJ2_isEmpty_0 at h
  refine j_aload_n (j := 0) dJ2_isEmpty_0 rfl rfl ?_
  replace h := zbE h
  obtain ⟨v1, e2, h⟩ := h
  refine j_getI fgJ2_48 (fun _ _ _ => rfl) dJ2_isEmpty_1 e2 ?_
  refine j_if_ne (tgt := 11) dJ2_isEmpty_4 (by decide) (fun c3 => ?_) (fun c3 => ?_)
  · rw [if_pos c3] at h
    refine j_iconst (v := 1) dJ2_isEmpty_7 (by decide) ?_
    refine j_goto (tgt := 12) dJ2_isEmpty_8 (by decide) ?_
    replace h := zcondE h
    obtain ⟨e4, h⟩ := h
    obtain rfl := Option.some.inj h
    exact j_zret hk.1 hk.2 rfl (zbb_n e4) dJ2_isEmpty_12
  · rw [if_neg c3] at h
    refine j_iconst (v := 0) dJ2_isEmpty_11 (by decide) ?_
    replace h := zcondE h
    obtain ⟨e5, h⟩ := h
    obtain rfl := Option.some.inj h
    exact j_zret hk.1 hk.2 rfl (zbb_n e5) dJ2_isEmpty_12
theorem yJ2_isEmpty_ok {t : Nat} {G : GS} {r : Int32} (h : fJ2_isEmpty_0 t G = some r) : zRuns yJ2_isEmpty (ws_ yJ2_isEmpty cJ2_isEmpty 1 (some Jvm.ClassFile.FieldType.boolean)) [vR (some t)] (.inl (some (vI r)), G, G, 1) :=
  zentry (M := mJ2_isEmpty) (plainFor_of_name (by decide +kernel)) ⟨rfl, rfl, rfl, rfl⟩ (Nat.le_of_ble_eq_true rfl) (wfJ2_isEmpty_0 (Nat.le_refl _) t G h ⟨rfl, rfl⟩)
theorem msX1_192_J2 : zSF RX1 192 RJ2 ⟨"java/util/List", "isEmpty", "()Z"⟩ yJ2_isEmpty cJ2_isEmpty 1 (some Jvm.ClassFile.FieldType.boolean) 0 := ⟨lw_F q1617 q1620 q1622 q126 q1624, zfw 10 rfl, ⟨11, _, rfl, rfl⟩, (by decide +kernel), (by decide)⟩
theorem msX1_230_J19 : zSF RX1 230 RJ19 ⟨"java/util/Iterator", "next", "()Ljava/lang/Object;"⟩ yJ19_next cJ19_next 3 (some (Jvm.ClassFile.FieldType.object "java/lang/Object")) 0 := ⟨lw_F q1467 q359 q361 q147 q363, zfw 17 rfl, ⟨12, _, rfl, rfl⟩, (by decide +kernel), (by decide)⟩
theorem msX1_288_J2 : zSF RX1 288 RJ2 ⟨"java/util/List", "iterator", "()Ljava/util/Iterator;"⟩ yJ2_iterator cJ2_iterator 1 (some (Jvm.ClassFile.FieldType.object "java/util/Iterator")) 0 := ⟨lw_F q1612 q288 q290 q126 q292, zfw 11 rfl, ⟨11, _, rfl, rfl⟩, (by decide +kernel), (by decide)⟩
theorem msX1_289_J19 : zSF RX1 289 RJ19 ⟨"java/util/Iterator", "hasNext", "()Z"⟩ yJ19_hasNext cJ19_hasNext 1 (some Jvm.ClassFile.FieldType.boolean) 0 := ⟨lw_F q1614 q323 q325 q147 q327, zfw 16 rfl, ⟨12, _, rfl, rfl⟩, (by decide +kernel), (by decide)⟩
abbrev mX1_meanLength : zM := (cX1_meanLength, RX1, 4, (some Jvm.ClassFile.FieldType.double), "meanLength", [], "()D")
def fX1_meanLength_42 (t : Nat) (x1 : Int32)  (G : GS) : Option ((UInt64) × GS) :=
  (zgR G 1 t 0).bind fun r1 => r1.bind fun a3 => zk [12] G a3 <| (fJ2_isEmpty_0 a3 G).bind fun v7 => if v7 = 0 then ((zgR G 1 t 0).bind fun r9 => r9.bind fun a11 => zk [12] G a11 <| (fJ2_size_0 a11 G).bind fun v15 => zcond (zn64 (FP.ddiv (FP.i2d x1) (FP.i2d v15))) (some ((FP.ddiv (FP.i2d x1) (FP.i2d v15)), G))) else (some (FP.dconst0, G))
theorem wfX1_meanLength_42 {F : zF} (hd : 4 ≤ F.2.2.2) (t : Nat) (x1 : Int32)  (G : GS) {a : (UInt64) × GS} (h : fX1_meanLength_42 t x1  G = some a) (hk : zKD F a) : J mX1_meanLength F G 42 [(0, vR (some t)), (1, vI x1)] [] := by
  unfold fX1_meanLength_42 at h
  refine j_aload_n (j := 0) dX1_meanLength_42 rfl rfl ?_
  replace h := zbE h
  obtain ⟨r1, e2, h⟩ := h
  refine j_getR fgX1_16 (fun _ _ _ => rfl) dX1_meanLength_43 e2 ?_
  replace h := zbE h
  obtain ⟨a3, e4, h⟩ := h
  subst e4
  replace h := zkE h
  obtain ⟨e5, h⟩ := h
  replace h := zbE h
  obtain ⟨v7, e6, h⟩ := h
  refine j_cont (zrF (As := []) msX1_192_J2 (yJ2_isEmpty_ok e6) (Nat.le_trans (Nat.le_of_ble_eq_true rfl) hd) (zk_12 _ e5) rfl rfl (Nat.le_of_ble_eq_true rfl) dX1_meanLength_46) ?_
  refine j_if_eq (tgt := 58) dX1_meanLength_51 (by decide) (fun c8 => ?_) (fun c8 => ?_)
  · rw [if_pos c8] at h
    refine j_iload_n (j := 1) dX1_meanLength_58 rfl rfl ?_
    refine j_i2d dX1_meanLength_59 ?_
    refine j_aload_n (j := 0) dX1_meanLength_60 rfl rfl ?_
    replace h := zbE h
    obtain ⟨r9, e10, h⟩ := h
    refine j_getR fgX1_16 (fun _ _ _ => rfl) dX1_meanLength_61 e10 ?_
    replace h := zbE h
    obtain ⟨a11, e12, h⟩ := h
    subst e12
    replace h := zkE h
    obtain ⟨e13, h⟩ := h
    replace h := zbE h
    obtain ⟨v15, e14, h⟩ := h
    refine j_cont (zrF (As := []) msX1_54_J2 (yJ2_size_ok e14) (Nat.le_trans (Nat.le_of_ble_eq_true rfl) hd) (zk_12 _ e13) rfl rfl (Nat.le_of_ble_eq_true rfl) dX1_meanLength_64) ?_
    refine j_i2d dX1_meanLength_69 ?_
    replace h := zcondE h
    obtain ⟨e16, h⟩ := h
    refine j_ddiv dX1_meanLength_70 e16 ?_
    obtain rfl := Option.some.inj h
    exact j_dret hk.1 hk.2 rfl dX1_meanLength_71
  · rw [if_neg c8] at h
    refine j_dconst0 dX1_meanLength_54 ?_
    refine j_goto (tgt := 71) dX1_meanLength_55 (by decide) ?_
    obtain rfl := Option.some.inj h
    exact j_dret hk.1 hk.2 rfl dX1_meanLength_71
def fbX1_meanLength_12 (t : Nat) (x1 : Int32) (x2 : Option Nat)  (G : GS) : Option ((Int32 × GS) ⊕ ((UInt64) × GS)) :=
  x2.bind fun a1 => zk [13] G a1 <| (fJ19_hasNext_0 a1 G).bind fun v5 => if v5 = 0 then (zo (fX1_meanLength_42 t x1 G)) else (zk [13] G a1 <| zb2 (fJ19_next_0 a1 G) fun r9 G10 => zkq [3] G10 r9 (r9.bind fun a12 => (zgR G10 3 a12 1).bind fun r14 => r14.bind fun a16 => (zln G10 a16).bind fun v18 => some (.inl ((x1 + v18), G10))))
def flX1_meanLength_12 (t : Nat) (x1 : Int32) (x2 : Option Nat) (G : GS) : Option ((UInt64) × GS) := zloop (fun s : Int32 × GS => fbX1_meanLength_12 t s.1 x2 s.2) (x1, G)
theorem wfbX1_meanLength_12 {F : zF} (hd : 4 ≤ F.2.2.2) (t : Nat) (x1 : Int32) (x2 : Option Nat) (G : GS) {a : (Int32 × GS) ⊕ ((UInt64) × GS)} (h : fbX1_meanLength_12 t x1 x2 G = some a) (hk : (zcase (fun s : Int32 × GS => J mX1_meanLength F s.2 12 [(0, vR (some t)), (1, vI s.1), (2, vR x2)] []) (zKD F)) a) : J mX1_meanLength F G 12 [(0, vR (some t)), (1, vI x1), (2, vR x2)] [] := by
  unfold fbX1_meanLength_12 at h
  refine j_aload_n (j := 2) dX1_meanLength_12 rfl rfl ?_
  replace h := zbE h
  obtain ⟨a1, e2, h⟩ := h
  subst e2
  replace h := zkE h
  obtain ⟨e3, h⟩ := h
  replace h := zbE h
  obtain ⟨v5, e4, h⟩ := h
  refine j_cont (zrF (As := []) msX1_289_J19 (yJ19_hasNext_ok e4) (Nat.le_trans (Nat.le_of_ble_eq_true rfl) hd) (zk_13 _ e3) rfl rfl (Nat.le_of_ble_eq_true rfl) dX1_meanLength_13) ?_
  refine j_if_eq (tgt := 42) dX1_meanLength_18 (by decide) (fun c6 => ?_) (fun c6 => ?_)
  · rw [if_pos c6] at h
    replace h := zoE h
    obtain ⟨a, h, rfl⟩ := h
    replace hk := hk
    exact J.sub (zall [0, 1] rfl) (wfX1_meanLength_42 hd t x1  G h hk)
  · rw [if_neg c6] at h
    refine j_aload_n (j := 2) dX1_meanLength_21 rfl rfl ?_
    replace h := zkE h
    obtain ⟨e7, h⟩ := h
    replace h := zb2E h
    obtain ⟨r9, G10, e8, h⟩ := h
    refine j_cont (zrF (As := []) msX1_230_J19 (yJ19_next_ok e8) (Nat.le_trans (Nat.le_of_ble_eq_true rfl) hd) (zk_13 _ e7) rfl rfl (Nat.le_of_ble_eq_true rfl) dX1_meanLength_22) ?_
    replace h := zkqE h
    obtain ⟨e11, h⟩ := h
    refine j_castq (fun k => j_castN dX1_meanLength_27 k) (fun b q20 k => j_castS (zk_3 _ (e11 b q20)) ⟨2, _, rfl, rfl⟩ q1615 dX1_meanLength_27 k) ?_
    refine j_astore_n (lv' := [(3, vR r9), (0, vR (some t)), (1, vI x1), (2, vR (some a1))]) dX1_meanLength_30 rfl (Nat.le_of_ble_eq_true rfl) rfl ?_
    refine j_iload_n (j := 2) dX1_meanLength_31 rfl rfl ?_
    refine j_aload_n (j := 0) dX1_meanLength_32 rfl rfl ?_
    replace h := zbE h
    obtain ⟨a12, e13, h⟩ := h
    subst e13
    replace h := zbE h
    obtain ⟨r14, e15, h⟩ := h
    refine j_getR fgX1_104 (fun _ _ _ => rfl) dX1_meanLength_33 e15 ?_
    replace h := zbE h
    obtain ⟨a16, e17, h⟩ := h
    subst e17
    replace h := zbE h
    obtain ⟨v18, e19, h⟩ := h
    refine j_alen e19 dX1_meanLength_36 ?_
    refine j_iadd dX1_meanLength_37 ?_
    refine j_istore_n (lv' := [(1, vI (x1 + v18)), (3, vR (some a12)), (0, vR (some t)), (2, vR (some a1))]) dX1_meanLength_38 rfl (Nat.le_of_ble_eq_true rfl) rfl ?_
    refine j_goto (tgt := 12) dX1_meanLength_39 (by decide) ?_
    obtain rfl := Option.some.inj h
    exact J.sub (zall [2, 0, 3] rfl) hk
theorem wflX1_meanLength_12 {F : zF} (hd : 4 ≤ F.2.2.2) (t : Nat) (x1 : Int32) (x2 : Option Nat) (G : GS) {a : (UInt64) × GS} (h : flX1_meanLength_12 t x1 x2 G = some a) (hk : zKD F a) : J mX1_meanLength F G 12 [(0, vR (some t)), (1, vI x1), (2, vR x2)] [] := by
  unfold flX1_meanLength_12 at h
  exact zloop_walk (P := (fun s : Int32 × GS => J mX1_meanLength F s.2 12 [(0, vR (some t)), (1, vI s.1), (2, vR x2)] [])) (fun s b e hk => wfbX1_meanLength_12 hd t s.1 x2 s.2 e hk) (x1, G) _ h hk
def fX1_meanLength_0 (t : Nat)  (G : GS) : Option ((UInt64) × GS) :=
  (zgR G 1 t 0).bind fun r1 => r1.bind fun a3 => zk [12] G a3 <| zb2 (fJ2_iterator_0 a3 G) fun r7 G8 => flX1_meanLength_12 t 0 r7 G8
theorem wfX1_meanLength_0 {F : zF} (hd : 4 ≤ F.2.2.2) (t : Nat)  (G : GS) {a : (UInt64) × GS} (h : fX1_meanLength_0 t  G = some a) (hk : zKD F a) : J mX1_meanLength F G 0 [(0, vR (some t))] [] := by
  unfold fX1_meanLength_0 at h
  refine j_iconst (v := 0) dX1_meanLength_0 (by decide) ?_
  refine j_istore_n (lv' := [(1, vI 0), (0, vR (some t))]) dX1_meanLength_1 rfl (Nat.le_of_ble_eq_true rfl) rfl ?_
  refine j_aload_n (j := 1) dX1_meanLength_2 rfl rfl ?_
  replace h := zbE h
  obtain ⟨r1, e2, h⟩ := h
  refine j_getR fgX1_16 (fun _ _ _ => rfl) dX1_meanLength_3 e2 ?_
  replace h := zbE h
  obtain ⟨a3, e4, h⟩ := h
  subst e4
  replace h := zkE h
  obtain ⟨e5, h⟩ := h
  replace h := zb2E h
  obtain ⟨r7, G8, e6, h⟩ := h
  refine j_cont (zrF (As := []) msX1_288_J2 (yJ2_iterator_ok e6) (Nat.le_trans (Nat.le_of_ble_eq_true rfl) hd) (zk_12 _ e5) rfl rfl (Nat.le_of_ble_eq_true rfl) dX1_meanLength_6) ?_
  refine j_astore_n (lv' := [(2, vR r7), (1, vI 0), (0, vR (some t))]) dX1_meanLength_11 rfl (Nat.le_of_ble_eq_true rfl) rfl ?_
  exact J.sub (zall [2, 1, 0] rfl) (wflX1_meanLength_12 hd t 0 r7  G8 h hk)
theorem yX1_meanLength_ok {t : Nat} {G : GS} {r : UInt64} {G1 : GS} (h : fX1_meanLength_0 t G = some (r, G1)) : zRuns yX1_meanLength (ws_ yX1_meanLength cX1_meanLength 4 (some Jvm.ClassFile.FieldType.double)) [vR (some t)] (.inl (some (vD r)), G, G1, 4) :=
  zentry (M := mX1_meanLength) (plainFor_of_name (by decide +kernel)) ⟨rfl, rfl, rfl, rfl⟩ (Nat.le_of_ble_eq_true rfl) (wfX1_meanLength_0 (Nat.le_refl _) t G h ⟨rfl, rfl⟩)
theorem fgJ3_79 : zFG RJ3 79 21 3 (.int) := ⟨(RJ4, TJ4, 4, tyJ4), rfl, by decide, in_J4, rfl, "java/lang/AbstractStringBuilder", Or.inl rfl, Or.inl q234⟩
abbrev mJ3_length : zM := (cJ3_length, RJ3, 1, (some Jvm.ClassFile.FieldType.int), "length", [], "()I")
def fJ3_length_0 (t : Nat)  (G : GS) : Option (Int32) :=
  (zgI G 22 t 3).bind fun v1 => some v1
theorem wfJ3_length_0 {F : zF} (hd : 1 ≤ F.2.2.2) (t : Nat)  (G : GS) {a : Int32} (h : fJ3_length_0 t  G = some a) (hk : zKPI F G a) : J mJ3_length F G 0 [(0, vR (some t))] [] := by
  unfold fJ3_length_0 at h
  refine j_aload_n (j := 0) dJ3_length_0 rfl rfl ?_
  replace h := zbE h
  obtain ⟨v1, e2, h⟩ := h
  refine j_getI fgJ3_79 (fun _ _ _ => rfl) dJ3_length_1 e2 ?_
  obtain rfl := Option.some.inj h
  exact j_iret hk.1 hk.2 rfl dJ3_length_4
theorem yJ3_length_ok {t : Nat} {G : GS} {r : Int32} (h : fJ3_length_0 t G = some r) : zRuns yJ3_length (ws_ yJ3_length cJ3_length 1 (some Jvm.ClassFile.FieldType.int)) [vR (some t)] (.inl (some (vI r)), G, G, 1) :=
  zentry (M := mJ3_length) (plainFor_of_name (by decide +kernel)) ⟨rfl, rfl, rfl, rfl⟩ (Nat.le_of_ble_eq_true rfl) (wfJ3_length_0 (Nat.le_refl _) t G h ⟨rfl, rfl⟩)
theorem zk_22 : ∀ k, [22].contains k = true → zKc k = some "java/lang/StringBuilder" := fun k h => by rw [zKc_one h]; rfl
theorem msJ4_343 : zSP RJ4 343 yJ3_length cJ3_length 1 (some Jvm.ClassFile.FieldType.int) 0 := ⟨lw_SP q1650 q3277 q243 q1651 q127 q1652, (by decide +kernel), (by decide)⟩
abbrev mJ4_length : zM := (cJ4_length, RJ4, 1, (some Jvm.ClassFile.FieldType.int), "length", [], "()I")
def fJ4_length_0 (t : Nat)  (G : GS) : Option (Int32) :=
  zk [22] G t <| (fJ3_length_0 t G).bind fun v3 => some v3
theorem wfJ4_length_0 {F : zF} (hd : 2 ≤ F.2.2.2) (t : Nat)  (G : GS) {a : Int32} (h : fJ4_length_0 t  G = some a) (hk : zKPI F G a) : J mJ4_length F G 0 [(0, vR (some t))] [] := by
  unfold fJ4_length_0 at h
  refine j_aload_n (j := 0) dJ4_length_0 rfl rfl ?_
  replace h := zkE h
  obtain ⟨e1, h⟩ := h
  replace h := zbE h
  obtain ⟨v3, e2, h⟩ := h
  refine j_cont (zrSP (As := []) msJ4_343 ⟨21, _, rfl, rfl⟩ (yJ3_length_ok e2) (Nat.le_trans (Nat.le_of_ble_eq_true rfl) hd) (zk_22 _ e1) rfl rfl (Nat.le_of_ble_eq_true rfl) dJ4_length_1) ?_
  obtain rfl := Option.some.inj h
  exact j_iret hk.1 hk.2 rfl dJ4_length_4
theorem yJ4_length_ok {t : Nat} {G : GS} {r : Int32} (h : fJ4_length_0 t G = some r) : zRuns yJ4_length (ws_ yJ4_length cJ4_length 1 (some Jvm.ClassFile.FieldType.int)) [vR (some t)] (.inl (some (vI r)), G, G, 2) :=
  zentry (M := mJ4_length) (plainFor_of_name (by decide +kernel)) ⟨rfl, rfl, rfl, rfl⟩ (Nat.le_of_ble_eq_true rfl) (wfJ4_length_0 (Nat.le_refl _) t G h ⟨rfl, rfl⟩)
theorem msJ5_1059 : zSS RJ5 1059 yJ17_checkIndex cJ17_checkIndex 3 (some Jvm.ClassFile.FieldType.int) 3 := ⟨lw_S q1664 q1028 q144 q1029, (by decide +kernel), (by decide)⟩
abbrev mJ5_checkIndex : zM := (cJ5_checkIndex, RJ5, 2, none, "checkIndex", [], "(II)V")
def fJ5_checkIndex_0 (x0 : Int32) (x1 : Int32)  (G : GS) : Option (GS) :=
  (fJ17_checkIndex_0 x0 x1 (some (gS G 4)) G).bind fun v2 => some G
theorem wfJ5_checkIndex_0 {F : zF} (hd : 2 ≤ F.2.2.2) (x0 : Int32) (x1 : Int32)  (G : GS) {a : GS} (h : fJ5_checkIndex_0 x0 x1  G = some a) (hk : zKV F a) : J mJ5_checkIndex F G 0 [(0, vI x0), (1, vI x1)] [] := by
  unfold fJ5_checkIndex_0 at h
  refine j_iload_n (j := 0) dJ5_checkIndex_0 rfl rfl ?_
  refine j_iload_n (j := 1) dJ5_checkIndex_1 rfl rfl ?_
  refine j_gets (i := 4) (x := vR (some (gS G 4))) rfl rfl q958 dJ5_checkIndex_2 ?_
  replace h := zbE h
  obtain ⟨v2, e1, h⟩ := h
  refine j_cont (zrS (As := [vI x0, vI x1, vR (some (gS G 4))]) msJ5_1059 (yJ17_checkIndex_ok e1) (Nat.le_trans (Nat.le_of_ble_eq_true rfl) hd) rfl rfl (Nat.le_of_ble_eq_true rfl) dJ5_checkIndex_5) ?_
  refine j_pop dJ5_checkIndex_8 rfl ?_
  obtain rfl := Option.some.inj h
  exact j_vret hk.1 hk.2 rfl dJ5_checkIndex_9
theorem yJ5_checkIndex_ok {x0 : Int32} {x1 : Int32} {G : GS} {G1 : GS} (h : fJ5_checkIndex_0 x0 x1 G = some G1) : zRuns yJ5_checkIndex (ws_ yJ5_checkIndex cJ5_checkIndex 2 none) [vI x0, vI x1] (.inl none, G, G1, 2) :=
  zentry (M := mJ5_checkIndex) (plainFor_of_name (by decide +kernel)) ⟨rfl, rfl, rfl, rfl⟩ (Nat.le_of_ble_eq_true rfl) (wfJ5_checkIndex_0 (Nat.le_refl _) x0 x1 G h ⟨rfl, rfl⟩)
abbrev mJ6_length : zM := (cJ6_length, RJ6, 1, (some Jvm.ClassFile.FieldType.int), "length", [], "([B)I")
def fJ6_length_0 (x0 : Option Nat)  (G : GS) : Option (Int32) :=
  x0.bind fun a1 => (zln G a1).bind fun v3 => some (v3 >>> ((1 : Int32) &&& 31))
theorem wfJ6_length_0 {F : zF} (hd : 1 ≤ F.2.2.2) (x0 : Option Nat)  (G : GS) {a : Int32} (h : fJ6_length_0 x0  G = some a) (hk : zKPI F G a) : J mJ6_length F G 0 [(0, vR x0)] [] := by
  unfold fJ6_length_0 at h
  refine j_aload_n (j := 0) dJ6_length_0 rfl rfl ?_
  replace h := zbE h
  obtain ⟨a1, e2, h⟩ := h
  subst e2
  replace h := zbE h
  obtain ⟨v3, e4, h⟩ := h
  refine j_alen e4 dJ6_length_1 ?_
  refine j_iconst (v := 1) dJ6_length_2 (by decide) ?_
  refine j_ishr dJ6_length_3 ?_
  obtain rfl := Option.some.inj h
  exact j_iret hk.1 hk.2 rfl dJ6_length_4
theorem yJ6_length_ok {x0 : Option Nat} {G : GS} {r : Int32} (h : fJ6_length_0 x0 G = some r) : zRuns yJ6_length (ws_ yJ6_length cJ6_length 1 (some Jvm.ClassFile.FieldType.int)) [vR x0] (.inl (some (vI r)), G, G, 1) :=
  zentry (M := mJ6_length) (plainFor_of_name (by decide +kernel)) ⟨rfl, rfl, rfl, rfl⟩ (Nat.le_of_ble_eq_true rfl) (wfJ6_length_0 (Nat.le_refl _) x0 G h ⟨rfl, rfl⟩)
abbrev mJ6_getChar : zM := (cJ6_getChar, RJ6, 2, (some Jvm.ClassFile.FieldType.char), "getChar", [], "([BI)C")
def fJ6_getChar_0 (x0 : Option Nat) (x1 : Int32)  (G : GS) : Option ((Int32) × GS) :=
  none
theorem wfJ6_getChar_0 {F : zF} (hd : 2 ≤ F.2.2.2) (x0 : Option Nat) (x1 : Int32)  (G : GS) {a : (Int32) × GS} (h : fJ6_getChar_0 x0 x1  G = some a) (hk : zKI F a) : J mJ6_getChar F G 0 [(0, vR x0), (1, vI x1)] [] := by
  unfold fJ6_getChar_0 at h
  cases h
theorem yJ6_getChar_ok {x0 : Option Nat} {x1 : Int32} {G : GS} {r : Int32} {G1 : GS} (h : fJ6_getChar_0 x0 x1 G = some (r, G1)) : zRuns yJ6_getChar (ws_ yJ6_getChar cJ6_getChar 2 (some Jvm.ClassFile.FieldType.char)) [vR x0, vI x1] (.inl (some (vI r)), G, G1, 2) :=
  zentry (M := mJ6_getChar) (plainFor_of_name (by decide +kernel)) ⟨rfl, rfl, rfl, rfl⟩ (Nat.le_of_ble_eq_true rfl) (wfJ6_getChar_0 (Nat.le_refl _) x0 x1 G h ⟨rfl, rfl⟩)
theorem fgJ3_15 : zFG RJ3 15 21 0 (.array (.byte)) := ⟨(RJ4, TJ4, 4, tyJ4), rfl, by decide, in_J4, rfl, "java/lang/AbstractStringBuilder", Or.inl rfl, Or.inl q230⟩
theorem fgJ3_22 : zFG RJ3 22 21 1 (.byte) := ⟨(RJ4, TJ4, 4, tyJ4), rfl, by decide, in_J4, rfl, "java/lang/AbstractStringBuilder", Or.inl rfl, Or.inl q231⟩
theorem msJ3_138 : zSS RJ3 138 yJ14_min cJ14_min 2 (some Jvm.ClassFile.FieldType.int) 2 := ⟨lw_S q1660 q731 q140 q732, (by decide +kernel), (by decide)⟩
theorem msJ3_144 : zSS RJ3 144 yJ5_checkIndex cJ5_checkIndex 2 none 2 := ⟨lw_S q1661 q1662 q129 q1663, (by decide +kernel), (by decide)⟩
theorem msJ3_148 : zSS RJ3 148 yJ6_getChar cJ6_getChar 2 (some Jvm.ClassFile.FieldType.char) 2 := ⟨lw_S q1665 q906 q130 q907, (by decide +kernel), (by decide)⟩
abbrev mJ3_charAt : zM := (cJ3_charAt, RJ3, 5, (some Jvm.ClassFile.FieldType.char), "charAt", [], "(I)C")
def fJ3_charAt_0 (t : Nat) (x1 : Int32)  (G : GS) : Option ((Int32) × GS) :=
  (zgI G 22 t 1).bind fun v1 => (zgR G 22 t 0).bind fun r3 => (zgI G 22 t 3).bind fun v5 => r3.bind fun a7 => (zln G a7).bind fun v9 => (fJ14_min_0 v5 (v9 >>> (v1 &&& 31)) G).bind fun v12 => (fJ5_checkIndex_0 x1 v12 G).bind fun G14 => if v1 = 0 then ((zaI G14 53 a7 x1).bind fun v16 => zcond (zch (((v16 &&& 255).toUInt32 % 65536).toInt32)) (some (((v16 &&& 255).toUInt32 % 65536).toInt32, G14))) else (zb2 (fJ6_getChar_0 (some a7) x1 G14) fun v20 G21 => zcond (zch v20) (some (v20, G21)))
theorem wfJ3_charAt_0 {F : zF} (hd : 3 ≤ F.2.2.2) (t : Nat) (x1 : Int32)  (G : GS) {a : (Int32) × GS} (h : fJ3_charAt_0 t x1  G = some a) (hk : zKI F a) : J mJ3_charAt F G 0 [(0, vR (some t)), (1, vI x1)] [] := by
  unfold fJ3_charAt_0 at h
  refine j_aload_n (j := 0) dJ3_charAt_0 rfl rfl ?_
  replace h := zbE h
  obtain ⟨v1, e2, h⟩ := h
  refine j_getI fgJ3_22 (fun _ _ _ => rfl) dJ3_charAt_1 e2 ?_
  refine j_istore_n (lv' := [(2, vI v1), (0, vR (some t)), (1, vI x1)]) dJ3_charAt_4 rfl (Nat.le_of_ble_eq_true rfl) rfl ?_
  refine j_aload_n (j := 1) dJ3_charAt_5 rfl rfl ?_
  replace h := zbE h
  obtain ⟨r3, e4, h⟩ := h
  refine j_getR fgJ3_15 (fun _ _ _ => rfl) dJ3_charAt_6 e4 ?_
  refine j_astore_n (lv' := [(3, vR r3), (2, vI v1), (0, vR (some t)), (1, vI x1)]) dJ3_charAt_9 rfl (Nat.le_of_ble_eq_true rfl) rfl ?_
  refine j_aload_n (j := 2) dJ3_charAt_10 rfl rfl ?_
  replace h := zbE h
  obtain ⟨v5, e6, h⟩ := h
  refine j_getI fgJ3_79 (fun _ _ _ => rfl) dJ3_charAt_11 e6 ?_
  refine j_aload_n (j := 0) dJ3_charAt_14 rfl rfl ?_
  replace h := zbE h
  obtain ⟨a7, e8, h⟩ := h
  subst e8
  replace h := zbE h
  obtain ⟨v9, e10, h⟩ := h
  refine j_alen e10 dJ3_charAt_15 ?_
  refine j_iload_n (j := 1) dJ3_charAt_16 rfl rfl ?_
  refine j_ishr dJ3_charAt_17 ?_
  replace h := zbE h
  obtain ⟨v12, e11, h⟩ := h
  refine j_cont (zrS (As := [vI v5, vI (v9 >>> (v1 &&& 31))]) msJ3_138 (yJ14_min_ok e11) (Nat.le_trans (Nat.le_of_ble_eq_true rfl) hd) rfl rfl (Nat.le_of_ble_eq_true rfl) dJ3_charAt_18) ?_
  refine j_istore (lv' := [(4, vI v12), (3, vR (some a7)), (2, vI v1), (0, vR (some t)), (1, vI x1)]) dJ3_charAt_21 (Nat.le_of_ble_eq_true rfl) rfl ?_
  refine j_iload_n (j := 4) dJ3_charAt_23 rfl rfl ?_
  refine j_iload (j := 0) dJ3_charAt_24 rfl ?_
  replace h := zbE h
  obtain ⟨G14, e13, h⟩ := h
  refine j_cont (zrS (As := [vI x1, vI v12]) msJ3_144 (yJ5_checkIndex_ok e13) (Nat.le_trans (Nat.le_of_ble_eq_true rfl) hd) rfl rfl (Nat.le_of_ble_eq_true rfl) dJ3_charAt_26) ?_
  refine j_iload_n (j := 2) dJ3_charAt_29 rfl rfl ?_
  refine j_if_ne (tgt := 42) dJ3_charAt_30 (by decide) (fun c15 => ?_) (fun c15 => ?_)
  · rw [if_pos c15] at h
    refine j_aload_n (j := 1) dJ3_charAt_33 rfl rfl ?_
    refine j_iload_n (j := 4) dJ3_charAt_34 rfl rfl ?_
    replace h := zbE h
    obtain ⟨v16, e17, h⟩ := h
    refine j_bald rfl e17 dJ3_charAt_35 ?_
    refine j_sipush (v := 255) dJ3_charAt_36 (by decide) ?_
    refine j_iand dJ3_charAt_39 ?_
    refine j_i2c dJ3_charAt_40 ?_
    replace h := zcondE h
    obtain ⟨e18, h⟩ := h
    obtain rfl := Option.some.inj h
    exact j_zret hk.1 hk.2 rfl (zch_n e18) dJ3_charAt_41
  · rw [if_neg c15] at h
    refine j_aload_n (j := 1) dJ3_charAt_42 rfl rfl ?_
    refine j_iload_n (j := 4) dJ3_charAt_43 rfl rfl ?_
    replace h := zb2E h
    obtain ⟨v20, G21, e19, h⟩ := h
    refine j_cont (zrS (As := [vR (some a7), vI x1]) msJ3_148 (yJ6_getChar_ok e19) (Nat.le_trans (Nat.le_of_ble_eq_true rfl) hd) rfl rfl (Nat.le_of_ble_eq_true rfl) dJ3_charAt_44) ?_
    replace h := zcondE h
    obtain ⟨e22, h⟩ := h
    obtain rfl := Option.some.inj h
    exact j_zret hk.1 hk.2 rfl (zch_n e22) dJ3_charAt_47
theorem yJ3_charAt_ok {t : Nat} {x1 : Int32} {G : GS} {r : Int32} {G1 : GS} (h : fJ3_charAt_0 t x1 G = some (r, G1)) : zRuns yJ3_charAt (ws_ yJ3_charAt cJ3_charAt 5 (some Jvm.ClassFile.FieldType.char)) [vR (some t), vI x1] (.inl (some (vI r)), G, G1, 3) :=
  zentry (M := mJ3_charAt) (plainFor_of_name (by decide +kernel)) ⟨rfl, rfl, rfl, rfl⟩ (Nat.le_of_ble_eq_true rfl) (wfJ3_charAt_0 (Nat.le_refl _) t x1 G h ⟨rfl, rfl⟩)
theorem msJ4_329 : zSP RJ4 329 yJ3_charAt cJ3_charAt 5 (some Jvm.ClassFile.FieldType.char) 1 := ⟨lw_SP q1657 q3278 q243 q1658 q127 q1659, (by decide +kernel), (by decide)⟩
abbrev mJ4_charAt : zM := (cJ4_charAt, RJ4, 2, (some Jvm.ClassFile.FieldType.char), "charAt", [], "(I)C")
def fJ4_charAt_0 (t : Nat) (x1 : Int32)  (G : GS) : Option ((Int32) × GS) :=
  zk [22] G t <| zb2 (fJ3_charAt_0 t x1 G) fun v3 G4 => zcond (zch v3) (some (v3, G4))
theorem wfJ4_charAt_0 {F : zF} (hd : 4 ≤ F.2.2.2) (t : Nat) (x1 : Int32)  (G : GS) {a : (Int32) × GS} (h : fJ4_charAt_0 t x1  G = some a) (hk : zKI F a) : J mJ4_charAt F G 0 [(0, vR (some t)), (1, vI x1)] [] := by
  unfold fJ4_charAt_0 at h
  refine j_aload_n (j := 0) dJ4_charAt_0 rfl rfl ?_
  refine j_iload_n (j := 1) dJ4_charAt_1 rfl rfl ?_
  replace h := zkE h
  obtain ⟨e1, h⟩ := h
  replace h := zb2E h
  obtain ⟨v3, G4, e2, h⟩ := h
  refine j_cont (zrSP (As := [vI x1]) msJ4_329 ⟨21, _, rfl, rfl⟩ (yJ3_charAt_ok e2) (Nat.le_trans (Nat.le_of_ble_eq_true rfl) hd) (zk_22 _ e1) rfl rfl (Nat.le_of_ble_eq_true rfl) dJ4_charAt_2) ?_
  replace h := zcondE h
  obtain ⟨e5, h⟩ := h
  obtain rfl := Option.some.inj h
  exact j_zret hk.1 hk.2 rfl (zch_n e5) dJ4_charAt_5
theorem yJ4_charAt_ok {t : Nat} {x1 : Int32} {G : GS} {r : Int32} {G1 : GS} (h : fJ4_charAt_0 t x1 G = some (r, G1)) : zRuns yJ4_charAt (ws_ yJ4_charAt cJ4_charAt 2 (some Jvm.ClassFile.FieldType.char)) [vR (some t), vI x1] (.inl (some (vI r)), G, G1, 4) :=
  zentry (M := mJ4_charAt) (plainFor_of_name (by decide +kernel)) ⟨rfl, rfl, rfl, rfl⟩ (Nat.le_of_ble_eq_true rfl) (wfJ4_charAt_0 (Nat.le_refl _) t x1 G h ⟨rfl, rfl⟩)
theorem fgX1_23 : zFG RX1 23 0 4 (.object "java/lang/StringBuilder") := ⟨(RX1, TX1, 5, tyX1), rfl, by decide, in_X1, rfl, "SelahGenerator", Or.inl rfl, Or.inl q251⟩
theorem msX1_314 : zSV RX1 314 RJ4 yJ4_length cJ4_length 1 (some Jvm.ClassFile.FieldType.int) 0 := ⟨lw_V q1646 q1647 q1648 q128 q1649, (by decide +kernel), (by decide)⟩
theorem msX1_317 : zSV RX1 317 RJ4 yJ4_charAt cJ4_charAt 2 (some Jvm.ClassFile.FieldType.char) 1 := ⟨lw_V q1653 q1654 q1655 q128 q1656, (by decide +kernel), (by decide)⟩
abbrev mX1_outputByte : zM := (cX1_outputByte, RX1, 2, (some Jvm.ClassFile.FieldType.int), "outputByte", [], "(I)I")
def fX1_outputByte_0 (t : Nat) (x1 : Int32)  (G : GS) : Option ((Int32) × GS) :=
  (zgR G 1 t 4).bind fun r1 => r1.bind fun a3 => zk [22] G a3 <| (fJ4_length_0 a3 G).bind fun v7 => (fX1_isIn_0 x1 0 (v7 - 1) G).bind fun v9 => if v9 = 0 then (some ((-1), G)) else ((zgR G 1 t 4).bind fun r11 => r11.bind fun a13 => zk [22] G a13 <| zb2 (fJ4_charAt_0 a13 x1 G) fun v17 G18 => some (v17, G18))
theorem wfX1_outputByte_0 {F : zF} (hd : 5 ≤ F.2.2.2) (t : Nat) (x1 : Int32)  (G : GS) {a : (Int32) × GS} (h : fX1_outputByte_0 t x1  G = some a) (hk : zKI F a) : J mX1_outputByte F G 0 [(0, vR (some t)), (1, vI x1)] [] := by
  unfold fX1_outputByte_0 at h
  refine j_iload_n (j := 1) dX1_outputByte_0 rfl rfl ?_
  refine j_iconst (v := 0) dX1_outputByte_1 (by decide) ?_
  refine j_aload_n (j := 0) dX1_outputByte_2 rfl rfl ?_
  replace h := zbE h
  obtain ⟨r1, e2, h⟩ := h
  refine j_getR fgX1_23 (fun _ _ _ => rfl) dX1_outputByte_3 e2 ?_
  replace h := zbE h
  obtain ⟨a3, e4, h⟩ := h
  subst e4
  replace h := zkE h
  obtain ⟨e5, h⟩ := h
  replace h := zbE h
  obtain ⟨v7, e6, h⟩ := h
  refine j_cont (zrV (As := []) msX1_314 (yJ4_length_ok e6) (Nat.le_trans (Nat.le_of_ble_eq_true rfl) hd) (zk_22 _ e5) rfl rfl (Nat.le_of_ble_eq_true rfl) dX1_outputByte_6) ?_
  refine j_iconst (v := 1) dX1_outputByte_9 (by decide) ?_
  refine j_isub dX1_outputByte_10 ?_
  replace h := zbE h
  obtain ⟨v9, e8, h⟩ := h
  refine j_cont (zrS (As := [vI x1, vI 0, vI (v7 - 1)]) msX1_3 (yX1_isIn_ok e8) (Nat.le_trans (Nat.le_of_ble_eq_true rfl) hd) rfl rfl (Nat.le_of_ble_eq_true rfl) dX1_outputByte_11) ?_
  refine j_if_eq (tgt := 28) dX1_outputByte_14 (by decide) (fun c10 => ?_) (fun c10 => ?_)
  · rw [if_pos c10] at h
    refine j_iconst (v := (-1)) dX1_outputByte_28 (by decide) ?_
    obtain rfl := Option.some.inj h
    exact j_iret hk.1 hk.2 rfl dX1_outputByte_29
  · rw [if_neg c10] at h
    refine j_aload_n (j := 0) dX1_outputByte_17 rfl rfl ?_
    replace h := zbE h
    obtain ⟨r11, e12, h⟩ := h
    refine j_getR fgX1_23 (fun _ _ _ => rfl) dX1_outputByte_18 e12 ?_
    refine j_iload_n (j := 1) dX1_outputByte_21 rfl rfl ?_
    replace h := zbE h
    obtain ⟨a13, e14, h⟩ := h
    subst e14
    replace h := zkE h
    obtain ⟨e15, h⟩ := h
    replace h := zb2E h
    obtain ⟨v17, G18, e16, h⟩ := h
    refine j_cont (zrV (As := [vI x1]) msX1_317 (yJ4_charAt_ok e16) (Nat.le_trans (Nat.le_of_ble_eq_true rfl) hd) (zk_22 _ e15) rfl rfl (Nat.le_of_ble_eq_true rfl) dX1_outputByte_22) ?_
    refine j_goto (tgt := 29) dX1_outputByte_25 (by decide) ?_
    obtain rfl := Option.some.inj h
    exact j_iret hk.1 hk.2 rfl dX1_outputByte_29
theorem yX1_outputByte_ok {t : Nat} {x1 : Int32} {G : GS} {r : Int32} {G1 : GS} (h : fX1_outputByte_0 t x1 G = some (r, G1)) : zRuns yX1_outputByte (ws_ yX1_outputByte cX1_outputByte 2 (some Jvm.ClassFile.FieldType.int)) [vR (some t), vI x1] (.inl (some (vI r)), G, G1, 5) :=
  zentry (M := mX1_outputByte) (plainFor_of_name (by decide +kernel)) ⟨rfl, rfl, rfl, rfl⟩ (Nat.le_of_ble_eq_true rfl) (wfX1_outputByte_0 (Nat.le_refl _) t x1 G h ⟨rfl, rfl⟩)
abbrev mX1_pairConflicts : zM := (cX1_pairConflicts, RX1, 1, (some Jvm.ClassFile.FieldType.int), "pairConflicts", [], "()I")
def fX1_pairConflicts_0 (t : Nat)  (G : GS) : Option ((Int32) × GS) :=
  zk [1] G t <| zb2 (fX1_pairs_0 t G) fun r3 G4 => r3.bind fun a5 => zk [7] G4 a5 <| (fX7_conflicts_0 a5 G4).bind fun v9 => some (v9, G4)
theorem wfX1_pairConflicts_0 {F : zF} (hd : 10 ≤ F.2.2.2) (t : Nat)  (G : GS) {a : (Int32) × GS} (h : fX1_pairConflicts_0 t  G = some a) (hk : zKI F a) : J mX1_pairConflicts F G 0 [(0, vR (some t))] [] := by
  unfold fX1_pairConflicts_0 at h
  refine j_aload_n (j := 0) dX1_pairConflicts_0 rfl rfl ?_
  replace h := zkE h
  obtain ⟨e1, h⟩ := h
  replace h := zb2E h
  obtain ⟨r3, G4, e2, h⟩ := h
  refine j_cont (zrV (As := []) msX1_159 (yX1_pairs_ok e2) (Nat.le_trans (Nat.le_of_ble_eq_true rfl) hd) (zk_1 _ e1) rfl rfl (Nat.le_of_ble_eq_true rfl) dX1_pairConflicts_1) ?_
  replace h := zbE h
  obtain ⟨a5, e6, h⟩ := h
  subst e6
  replace h := zkE h
  obtain ⟨e7, h⟩ := h
  replace h := zbE h
  obtain ⟨v9, e8, h⟩ := h
  refine j_cont (zrV (As := []) msX1_171 (yX7_conflicts_ok e8) (Nat.le_trans (Nat.le_of_ble_eq_true rfl) hd) (zk_7 _ e7) rfl rfl (Nat.le_of_ble_eq_true rfl) dX1_pairConflicts_4) ?_
  obtain rfl := Option.some.inj h
  exact j_iret hk.1 hk.2 rfl dX1_pairConflicts_7
theorem yX1_pairConflicts_ok {t : Nat} {G : GS} {r : Int32} {G1 : GS} (h : fX1_pairConflicts_0 t G = some (r, G1)) : zRuns yX1_pairConflicts (ws_ yX1_pairConflicts cX1_pairConflicts 1 (some Jvm.ClassFile.FieldType.int)) [vR (some t)] (.inl (some (vI r)), G, G1, 10) :=
  zentry (M := mX1_pairConflicts) (plainFor_of_name (by decide +kernel)) ⟨rfl, rfl, rfl, rfl⟩ (Nat.le_of_ble_eq_true rfl) (wfX1_pairConflicts_0 (Nat.le_refl _) t G h ⟨rfl, rfl⟩)
abbrev mX8_pairs : zM := (cX8_pairs, RX8, 3, (some Jvm.ClassFile.FieldType.int), "pairs", [], "()I")
def fX8_pairs_23 (t : Nat) (x1 : Int32) (x2 : Int32)  (G : GS) : Option ((Int32 × Int32) ⊕ (Int32)) :=
  some (.inl (x1, (x2 + 1)))
theorem wfX8_pairs_23 {F : zF} (hd : 2 ≤ F.2.2.2) (t : Nat) (x1 : Int32) (x2 : Int32)  (G : GS) {a : (Int32 × Int32) ⊕ (Int32)} (h : fX8_pairs_23 t x1 x2  G = some a) (hk : (zcase (fun s : Int32 × Int32 => J mX8_pairs F G 5 [(0, vR (some t)), (1, vI s.1), (2, vI s.2)] []) (zKPI F G)) a) : J mX8_pairs F G 23 [(0, vR (some t)), (1, vI x1), (2, vI x2)] [] := by
  unfold fX8_pairs_23 at h
  refine j_iinc (j := 2) (v := (x2 + 1)) (lv' := [(2, vI (x2 + 1)), (0, vR (some t)), (1, vI x1)]) dX8_pairs_23 rfl rfl (Nat.le_of_ble_eq_true rfl) rfl ?_
  refine j_goto (tgt := 5) dX8_pairs_26 (by decide) ?_
  obtain rfl := Option.some.inj h
  exact J.sub (zall [1, 2, 0] rfl) hk
def fbX8_pairs_5 (t : Nat) (x1 : Int32) (x2 : Int32)  (G : GS) : Option ((Int32 × Int32) ⊕ (Int32)) :=
  if 183 ≤ x2 then (zo (some x1)) else (zk [8] G t <| (fX8_has_0 t x2 G).bind fun v4 => if v4 = 0 then (fX8_pairs_23 t x1 x2 G) else (fX8_pairs_23 t (x1 + 1) x2 G))
def flX8_pairs_5 (t : Nat) (x1 : Int32) (x2 : Int32) (G : GS) : Option (Int32) := zloop (fun s : Int32 × Int32 => fbX8_pairs_5 t s.1 s.2 G) (x1, x2)
theorem wfbX8_pairs_5 {F : zF} (hd : 2 ≤ F.2.2.2) (t : Nat) (x1 : Int32) (x2 : Int32) (G : GS) {a : (Int32 × Int32) ⊕ (Int32)} (h : fbX8_pairs_5 t x1 x2 G = some a) (hk : (zcase (fun s : Int32 × Int32 => J mX8_pairs F G 5 [(0, vR (some t)), (1, vI s.1), (2, vI s.2)] []) (zKPI F G)) a) : J mX8_pairs F G 5 [(0, vR (some t)), (1, vI x1), (2, vI x2)] [] := by
  unfold fbX8_pairs_5 at h
  refine j_iload_n (j := 2) dX8_pairs_5 rfl rfl ?_
  refine j_sipush (v := 183) dX8_pairs_6 (by decide) ?_
  refine j_icmp_ge (tgt := 29) dX8_pairs_9 (by decide) (fun c1 => ?_) (fun c1 => ?_)
  · rw [if_pos c1] at h
    replace h := zoE h
    obtain ⟨a, h, rfl⟩ := h
    replace hk := hk
    refine j_iload_n (j := 1) dX8_pairs_29 rfl rfl ?_
    obtain rfl := Option.some.inj h
    exact j_iret hk.1 hk.2 rfl dX8_pairs_30
  · rw [if_neg c1] at h
    refine j_aload_n (j := 0) dX8_pairs_12 rfl rfl ?_
    refine j_iload_n (j := 2) dX8_pairs_13 rfl rfl ?_
    replace h := zkE h
    obtain ⟨e2, h⟩ := h
    replace h := zbE h
    obtain ⟨v4, e3, h⟩ := h
    refine j_cont (zrV (As := [vI x2]) msX8_17 (yX8_has_ok e3) (Nat.le_trans (Nat.le_of_ble_eq_true rfl) hd) (zk_8 _ e2) rfl rfl (Nat.le_of_ble_eq_true rfl) dX8_pairs_14) ?_
    refine j_if_eq (tgt := 23) dX8_pairs_17 (by decide) (fun c5 => ?_) (fun c5 => ?_)
    · rw [if_pos c5] at h
      exact J.sub (zall [0, 1, 2] rfl) (wfX8_pairs_23 hd t x1 x2  G h hk)
    · rw [if_neg c5] at h
      refine j_iinc (j := 1) (v := (x1 + 1)) (lv' := [(1, vI (x1 + 1)), (0, vR (some t)), (2, vI x2)]) dX8_pairs_20 rfl rfl (Nat.le_of_ble_eq_true rfl) rfl ?_
      exact J.sub (zall [1, 0, 2] rfl) (wfX8_pairs_23 hd t (x1 + 1) x2  G h hk)
theorem wflX8_pairs_5 {F : zF} (hd : 2 ≤ F.2.2.2) (t : Nat) (x1 : Int32) (x2 : Int32) (G : GS) {a : Int32} (h : flX8_pairs_5 t x1 x2 G = some a) (hk : zKPI F G a) : J mX8_pairs F G 5 [(0, vR (some t)), (1, vI x1), (2, vI x2)] [] := by
  unfold flX8_pairs_5 at h
  exact zloop_walk (P := (fun s : Int32 × Int32 => J mX8_pairs F G 5 [(0, vR (some t)), (1, vI s.1), (2, vI s.2)] [])) (fun s b e hk => wfbX8_pairs_5 hd t s.1 s.2 G e hk) (x1, x2) _ h hk
def fX8_pairs_0 (t : Nat)  (G : GS) : Option (Int32) :=
  flX8_pairs_5 t 0 14 G
theorem wfX8_pairs_0 {F : zF} (hd : 2 ≤ F.2.2.2) (t : Nat)  (G : GS) {a : Int32} (h : fX8_pairs_0 t  G = some a) (hk : zKPI F G a) : J mX8_pairs F G 0 [(0, vR (some t))] [] := by
  unfold fX8_pairs_0 at h
  refine j_iconst (v := 0) dX8_pairs_0 (by decide) ?_
  refine j_istore_n (lv' := [(1, vI 0), (0, vR (some t))]) dX8_pairs_1 rfl (Nat.le_of_ble_eq_true rfl) rfl ?_
  refine j_bipush (v := 14) dX8_pairs_2 (by decide) ?_
  refine j_istore_n (lv' := [(2, vI 14), (1, vI 0), (0, vR (some t))]) dX8_pairs_4 rfl (Nat.le_of_ble_eq_true rfl) rfl ?_
  exact J.sub (zall [2, 1, 0] rfl) (wflX8_pairs_5 hd t 0 14  G h hk)
theorem yX8_pairs_ok {t : Nat} {G : GS} {r : Int32} (h : fX8_pairs_0 t G = some r) : zRuns yX8_pairs (ws_ yX8_pairs cX8_pairs 3 (some Jvm.ClassFile.FieldType.int)) [vR (some t)] (.inl (some (vI r)), G, G, 2) :=
  zentry (M := mX8_pairs) (plainFor_of_name (by decide +kernel)) ⟨rfl, rfl, rfl, rfl⟩ (Nat.le_of_ble_eq_true rfl) (wfX8_pairs_0 (Nat.le_refl _) t G h ⟨rfl, rfl⟩)
theorem fgX1_162 : zFG RX1 162 6 3 (.array (.object "SelahGenerator$Strings")) := ⟨(RX7, TX7, 7, tyX7), rfl, by decide, in_X7, rfl, "SelahGenerator$Pairs", Or.inl rfl, Or.inr ⟨_, zxw 62 rfl⟩⟩
theorem msX1_165 : zSV RX1 165 RX8 yX8_pairs cX8_pairs 3 (some Jvm.ClassFile.FieldType.int) 0 := ⟨lw_V q1938 q1939 q1940 q169 q1941, (by decide +kernel), (by decide)⟩
abbrev mX1_pairCount : zM := (cX1_pairCount, RX1, 2, (some Jvm.ClassFile.FieldType.int), "pairCount", [], "(I)I")
def fX1_pairCount_0 (t : Nat) (x1 : Int32)  (G : GS) : Option (((Int32) ⊕ String) × GS) :=
  zk [1] G t <| zb2 (fX1_pairs_0 t G) fun r3 G4 => r3.bind fun a5 => (zgR G4 7 a5 3).bind fun r7 => zk [1] G4 t <| zb3 (fX1_number_0 t x1 G4) (fun v11 G12 => r7.bind fun a15 => (zaR G12 55 a15 v11).bind fun r17 => r17.bind fun a19 => zk [8] G12 a19 <| (fX8_pairs_0 a19 G12).bind fun v23 => some (.inl v23, G12)) (fun X13 G14 => some (.inr X13, G14))
theorem wfX1_pairCount_0 {F : zF} (hd : 10 ≤ F.2.2.2) (t : Nat) (x1 : Int32)  (G : GS) {a : ((Int32) ⊕ String) × GS} (h : fX1_pairCount_0 t x1  G = some a) (hk : zKXI F a) : J mX1_pairCount F G 0 [(0, vR (some t)), (1, vI x1)] [] := by
  unfold fX1_pairCount_0 at h
  refine j_aload_n (j := 0) dX1_pairCount_0 rfl rfl ?_
  replace h := zkE h
  obtain ⟨e1, h⟩ := h
  replace h := zb2E h
  obtain ⟨r3, G4, e2, h⟩ := h
  refine j_cont (zrV (As := []) msX1_159 (yX1_pairs_ok e2) (Nat.le_trans (Nat.le_of_ble_eq_true rfl) hd) (zk_1 _ e1) rfl rfl (Nat.le_of_ble_eq_true rfl) dX1_pairCount_1) ?_
  replace h := zbE h
  obtain ⟨a5, e6, h⟩ := h
  subst e6
  replace h := zbE h
  obtain ⟨r7, e8, h⟩ := h
  refine j_getR fgX1_162 (fun _ _ _ => rfl) dX1_pairCount_4 e8 ?_
  refine j_aload_n (j := 0) dX1_pairCount_7 rfl rfl ?_
  refine j_iload_n (j := 1) dX1_pairCount_8 rfl rfl ?_
  replace h := zkE h
  obtain ⟨e9, h⟩ := h
  replace h := zb3E h
  rcases h with ⟨v11, G12, e10, h⟩ | ⟨X13, G14, e10, h⟩
  · refine j_cont (zrV (As := [vI x1]) msX1_60 (yX1_number_ok e10) (Nat.le_trans (Nat.le_of_ble_eq_true rfl) hd) (zk_1 _ e9) rfl rfl (Nat.le_of_ble_eq_true rfl) dX1_pairCount_9) ?_
    replace h := zbE h
    obtain ⟨a15, e16, h⟩ := h
    subst e16
    replace h := zbE h
    obtain ⟨r17, e18, h⟩ := h
    refine j_aald (Or.inr (Or.inl rfl)) e18 dX1_pairCount_12 ?_
    replace h := zbE h
    obtain ⟨a19, e20, h⟩ := h
    subst e20
    replace h := zkE h
    obtain ⟨e21, h⟩ := h
    replace h := zbE h
    obtain ⟨v23, e22, h⟩ := h
    refine j_cont (zrV (As := []) msX1_165 (yX8_pairs_ok e22) (Nat.le_trans (Nat.le_of_ble_eq_true rfl) hd) (zk_8 _ e21) rfl rfl (Nat.le_of_ble_eq_true rfl) dX1_pairCount_13) ?_
    obtain rfl := Option.some.inj h
    exact j_iret hk.1 hk.2 rfl dX1_pairCount_16
  · refine j_thr (zrV (As := [vI x1]) msX1_60 (yX1_number_ok e10) (Nat.le_trans (Nat.le_of_ble_eq_true rfl) hd) (zk_1 _ e9) rfl rfl (Nat.le_of_ble_eq_true rfl) dX1_pairCount_9) ?_
    obtain rfl := Option.some.inj h
    exact jx_out hk.1 hk.2 (by decide)
theorem yX1_pairCount_ok {t : Nat} {x1 : Int32} {G : GS} {r : (Int32) ⊕ String} {G1 : GS} (h : fX1_pairCount_0 t x1 G = some (r, G1)) : zRuns yX1_pairCount (ws_ yX1_pairCount cX1_pairCount 2 (some Jvm.ClassFile.FieldType.int)) [vR (some t), vI x1] (zout (fun v => some (vI v)) r, G, G1, 10) :=
  zentry (M := mX1_pairCount) (plainFor_of_name (by decide +kernel)) ⟨rfl, rfl, rfl, rfl⟩ (Nat.le_of_ble_eq_true rfl) (wfX1_pairCount_0 (Nat.le_refl _) t x1 G h ⟨rfl, rfl⟩)
theorem msX1_152 : zSV RX1 152 RX5 yX5_predicted cX5_predicted 4 (some Jvm.ClassFile.FieldType.int) 2 := ⟨lw_V q1910 q1911 q1912 q151 q1913, (by decide +kernel), (by decide)⟩
abbrev mX1_predicted : zM := (cX1_predicted, RX1, 3, (some Jvm.ClassFile.FieldType.int), "predicted", [], "(II)I")
def fX1_predicted_0 (t : Nat) (x1 : Int32) (x2 : Int32)  (G : GS) : Option (((Int32) ⊕ String) × GS) :=
  zk [1] G t <| zb2 (fX1_sets_0 t G) fun r3 G4 => zb3 (fX1_index_0 x1 G4) (fun v6 G7 => zb3 (fX1_token_0 x2 G7) (fun v11 G12 => r3.bind fun a15 => zk [5] G12 a15 <| zb2 (fX5_predicted_0 a15 (20 + v6) v11 G12) fun v19 G20 => some (.inl v19, G20)) (fun X13 G14 => some (.inr X13, G14))) (fun X8 G9 => some (.inr X8, G9))
theorem wfX1_predicted_0 {F : zF} (hd : 52 ≤ F.2.2.2) (t : Nat) (x1 : Int32) (x2 : Int32)  (G : GS) {a : ((Int32) ⊕ String) × GS} (h : fX1_predicted_0 t x1 x2  G = some a) (hk : zKXI F a) : J mX1_predicted F G 0 [(0, vR (some t)), (1, vI x1), (2, vI x2)] [] := by
  unfold fX1_predicted_0 at h
  refine j_aload_n (j := 0) dX1_predicted_0 rfl rfl ?_
  replace h := zkE h
  obtain ⟨e1, h⟩ := h
  replace h := zb2E h
  obtain ⟨r3, G4, e2, h⟩ := h
  refine j_cont (zrV (As := []) msX1_128 (yX1_sets_ok e2) (Nat.le_trans (Nat.le_of_ble_eq_true rfl) hd) (zk_1 _ e1) rfl rfl (Nat.le_of_ble_eq_true rfl) dX1_predicted_1) ?_
  refine j_bipush (v := 20) dX1_predicted_4 (by decide) ?_
  refine j_iload_n (j := 1) dX1_predicted_6 rfl rfl ?_
  replace h := zb3E h
  rcases h with ⟨v6, G7, e5, h⟩ | ⟨X8, G9, e5, h⟩
  · refine j_cont (zrS (As := [vI x1]) msX1_76 (yX1_index_ok e5) (Nat.le_trans (Nat.le_of_ble_eq_true rfl) hd) rfl rfl (Nat.le_of_ble_eq_true rfl) dX1_predicted_7) ?_
    refine j_iadd dX1_predicted_10 ?_
    refine j_iload_n (j := 2) dX1_predicted_11 rfl rfl ?_
    replace h := zb3E h
    rcases h with ⟨v11, G12, e10, h⟩ | ⟨X13, G14, e10, h⟩
    · refine j_cont (zrS (As := [vI x2]) msX1_149 (yX1_token_ok e10) (Nat.le_trans (Nat.le_of_ble_eq_true rfl) hd) rfl rfl (Nat.le_of_ble_eq_true rfl) dX1_predicted_12) ?_
      replace h := zbE h
      obtain ⟨a15, e16, h⟩ := h
      subst e16
      replace h := zkE h
      obtain ⟨e17, h⟩ := h
      replace h := zb2E h
      obtain ⟨v19, G20, e18, h⟩ := h
      refine j_cont (zrV (As := [vI (20 + v6), vI v11]) msX1_152 (yX5_predicted_ok e18) (Nat.le_trans (Nat.le_of_ble_eq_true rfl) hd) (zk_5 _ e17) rfl rfl (Nat.le_of_ble_eq_true rfl) dX1_predicted_15) ?_
      obtain rfl := Option.some.inj h
      exact j_iret hk.1 hk.2 rfl dX1_predicted_18
    · refine j_thr (zrS (As := [vI x2]) msX1_149 (yX1_token_ok e10) (Nat.le_trans (Nat.le_of_ble_eq_true rfl) hd) rfl rfl (Nat.le_of_ble_eq_true rfl) dX1_predicted_12) ?_
      obtain rfl := Option.some.inj h
      exact jx_out hk.1 hk.2 (by decide)
  · refine j_thr (zrS (As := [vI x1]) msX1_76 (yX1_index_ok e5) (Nat.le_trans (Nat.le_of_ble_eq_true rfl) hd) rfl rfl (Nat.le_of_ble_eq_true rfl) dX1_predicted_7) ?_
    obtain rfl := Option.some.inj h
    exact jx_out hk.1 hk.2 (by decide)
theorem yX1_predicted_ok {t : Nat} {x1 : Int32} {x2 : Int32} {G : GS} {r : (Int32) ⊕ String} {G1 : GS} (h : fX1_predicted_0 t x1 x2 G = some (r, G1)) : zRuns yX1_predicted (ws_ yX1_predicted cX1_predicted 3 (some Jvm.ClassFile.FieldType.int)) [vR (some t), vI x1, vI x2] (zout (fun v => some (vI v)) r, G, G1, 52) :=
  zentry (M := mX1_predicted) (plainFor_of_name (by decide +kernel)) ⟨rfl, rfl, rfl, rfl⟩ (Nat.le_of_ble_eq_true rfl) (wfX1_predicted_0 (Nat.le_refl _) t x1 x2 G h ⟨rfl, rfl⟩)
theorem msX1_169 : zSV RX1 169 RX7 yX7_predicted cX7_predicted 6 (some Jvm.ClassFile.FieldType.int) 3 := ⟨lw_V q1949 q1950 q1951 q168 q1952, (by decide +kernel), (by decide)⟩
abbrev mX1_predictedByPair : zM := (cX1_predictedByPair, RX1, 4, (some Jvm.ClassFile.FieldType.int), "predictedByPair", [], "(III)I")
def fX1_predictedByPair_0 (t : Nat) (x1 : Int32) (x2 : Int32) (x3 : Int32)  (G : GS) : Option (((Int32) ⊕ String) × GS) :=
  zk [1] G t <| zb2 (fX1_pairs_0 t G) fun r3 G4 => zb3 (fX1_index_0 x1 G4) (fun v6 G7 => zb3 (fX1_token_0 x2 G7) (fun v11 G12 => zb3 (fX1_token_0 x3 G12) (fun v16 G17 => r3.bind fun a20 => zk [7] G17 a20 <| (fX7_predicted_0 a20 (20 + v6) v11 v16 G17).bind fun v24 => some (.inl v24, G17)) (fun X18 G19 => some (.inr X18, G19))) (fun X13 G14 => some (.inr X13, G14))) (fun X8 G9 => some (.inr X8, G9))
theorem wfX1_predictedByPair_0 {F : zF} (hd : 10 ≤ F.2.2.2) (t : Nat) (x1 : Int32) (x2 : Int32) (x3 : Int32)  (G : GS) {a : ((Int32) ⊕ String) × GS} (h : fX1_predictedByPair_0 t x1 x2 x3  G = some a) (hk : zKXI F a) : J mX1_predictedByPair F G 0 [(0, vR (some t)), (1, vI x1), (2, vI x2), (3, vI x3)] [] := by
  unfold fX1_predictedByPair_0 at h
  refine j_aload_n (j := 0) dX1_predictedByPair_0 rfl rfl ?_
  replace h := zkE h
  obtain ⟨e1, h⟩ := h
  replace h := zb2E h
  obtain ⟨r3, G4, e2, h⟩ := h
  refine j_cont (zrV (As := []) msX1_159 (yX1_pairs_ok e2) (Nat.le_trans (Nat.le_of_ble_eq_true rfl) hd) (zk_1 _ e1) rfl rfl (Nat.le_of_ble_eq_true rfl) dX1_predictedByPair_1) ?_
  refine j_bipush (v := 20) dX1_predictedByPair_4 (by decide) ?_
  refine j_iload_n (j := 1) dX1_predictedByPair_6 rfl rfl ?_
  replace h := zb3E h
  rcases h with ⟨v6, G7, e5, h⟩ | ⟨X8, G9, e5, h⟩
  · refine j_cont (zrS (As := [vI x1]) msX1_76 (yX1_index_ok e5) (Nat.le_trans (Nat.le_of_ble_eq_true rfl) hd) rfl rfl (Nat.le_of_ble_eq_true rfl) dX1_predictedByPair_7) ?_
    refine j_iadd dX1_predictedByPair_10 ?_
    refine j_iload_n (j := 2) dX1_predictedByPair_11 rfl rfl ?_
    replace h := zb3E h
    rcases h with ⟨v11, G12, e10, h⟩ | ⟨X13, G14, e10, h⟩
    · refine j_cont (zrS (As := [vI x2]) msX1_149 (yX1_token_ok e10) (Nat.le_trans (Nat.le_of_ble_eq_true rfl) hd) rfl rfl (Nat.le_of_ble_eq_true rfl) dX1_predictedByPair_12) ?_
      refine j_iload_n (j := 3) dX1_predictedByPair_15 rfl rfl ?_
      replace h := zb3E h
      rcases h with ⟨v16, G17, e15, h⟩ | ⟨X18, G19, e15, h⟩
      · refine j_cont (zrS (As := [vI x3]) msX1_149 (yX1_token_ok e15) (Nat.le_trans (Nat.le_of_ble_eq_true rfl) hd) rfl rfl (Nat.le_of_ble_eq_true rfl) dX1_predictedByPair_16) ?_
        replace h := zbE h
        obtain ⟨a20, e21, h⟩ := h
        subst e21
        replace h := zkE h
        obtain ⟨e22, h⟩ := h
        replace h := zbE h
        obtain ⟨v24, e23, h⟩ := h
        refine j_cont (zrV (As := [vI (20 + v6), vI v11, vI v16]) msX1_169 (yX7_predicted_ok e23) (Nat.le_trans (Nat.le_of_ble_eq_true rfl) hd) (zk_7 _ e22) rfl rfl (Nat.le_of_ble_eq_true rfl) dX1_predictedByPair_19) ?_
        obtain rfl := Option.some.inj h
        exact j_iret hk.1 hk.2 rfl dX1_predictedByPair_22
      · refine j_thr (zrS (As := [vI x3]) msX1_149 (yX1_token_ok e15) (Nat.le_trans (Nat.le_of_ble_eq_true rfl) hd) rfl rfl (Nat.le_of_ble_eq_true rfl) dX1_predictedByPair_16) ?_
        obtain rfl := Option.some.inj h
        exact jx_out hk.1 hk.2 (by decide)
    · refine j_thr (zrS (As := [vI x2]) msX1_149 (yX1_token_ok e10) (Nat.le_trans (Nat.le_of_ble_eq_true rfl) hd) rfl rfl (Nat.le_of_ble_eq_true rfl) dX1_predictedByPair_12) ?_
      obtain rfl := Option.some.inj h
      exact jx_out hk.1 hk.2 (by decide)
  · refine j_thr (zrS (As := [vI x1]) msX1_76 (yX1_index_ok e5) (Nat.le_trans (Nat.le_of_ble_eq_true rfl) hd) rfl rfl (Nat.le_of_ble_eq_true rfl) dX1_predictedByPair_7) ?_
    obtain rfl := Option.some.inj h
    exact jx_out hk.1 hk.2 (by decide)
theorem yX1_predictedByPair_ok {t : Nat} {x1 : Int32} {x2 : Int32} {x3 : Int32} {G : GS} {r : (Int32) ⊕ String} {G1 : GS} (h : fX1_predictedByPair_0 t x1 x2 x3 G = some (r, G1)) : zRuns yX1_predictedByPair (ws_ yX1_predictedByPair cX1_predictedByPair 4 (some Jvm.ClassFile.FieldType.int)) [vR (some t), vI x1, vI x2, vI x3] (zout (fun v => some (vI v)) r, G, G1, 10) :=
  zentry (M := mX1_predictedByPair) (plainFor_of_name (by decide +kernel)) ⟨rfl, rfl, rfl, rfl⟩ (Nat.le_of_ble_eq_true rfl) (wfX1_predictedByPair_0 (Nat.le_refl _) t x1 x2 x3 G h ⟨rfl, rfl⟩)
theorem fgX1_146 : zFG RX1 146 4 5 (.array (.int)) := ⟨(RX5, TX5, 10, tyX5), rfl, by decide, in_X5, rfl, "SelahGenerator$Sets", Or.inl rfl, Or.inr ⟨_, zxw 59 rfl⟩⟩
abbrev mX1_predictionOf : zM := (cX1_predictionOf, RX1, 2, (some Jvm.ClassFile.FieldType.int), "predictionOf", [], "(I)I")
def fX1_predictionOf_0 (t : Nat) (x1 : Int32)  (G : GS) : Option (((Int32) ⊕ String) × GS) :=
  zk [1] G t <| zb2 (fX1_sets_0 t G) fun r3 G4 => r3.bind fun a5 => (zgR G4 5 a5 5).bind fun r7 => zk [1] G4 t <| zb3 (fX1_number_0 t x1 G4) (fun v11 G12 => r7.bind fun a15 => (zaI G12 50 a15 v11).bind fun v17 => some (.inl v17, G12)) (fun X13 G14 => some (.inr X13, G14))
theorem wfX1_predictionOf_0 {F : zF} (hd : 52 ≤ F.2.2.2) (t : Nat) (x1 : Int32)  (G : GS) {a : ((Int32) ⊕ String) × GS} (h : fX1_predictionOf_0 t x1  G = some a) (hk : zKXI F a) : J mX1_predictionOf F G 0 [(0, vR (some t)), (1, vI x1)] [] := by
  unfold fX1_predictionOf_0 at h
  refine j_aload_n (j := 0) dX1_predictionOf_0 rfl rfl ?_
  replace h := zkE h
  obtain ⟨e1, h⟩ := h
  replace h := zb2E h
  obtain ⟨r3, G4, e2, h⟩ := h
  refine j_cont (zrV (As := []) msX1_128 (yX1_sets_ok e2) (Nat.le_trans (Nat.le_of_ble_eq_true rfl) hd) (zk_1 _ e1) rfl rfl (Nat.le_of_ble_eq_true rfl) dX1_predictionOf_1) ?_
  replace h := zbE h
  obtain ⟨a5, e6, h⟩ := h
  subst e6
  replace h := zbE h
  obtain ⟨r7, e8, h⟩ := h
  refine j_getR fgX1_146 (fun _ _ _ => rfl) dX1_predictionOf_4 e8 ?_
  refine j_aload_n (j := 0) dX1_predictionOf_7 rfl rfl ?_
  refine j_iload_n (j := 1) dX1_predictionOf_8 rfl rfl ?_
  replace h := zkE h
  obtain ⟨e9, h⟩ := h
  replace h := zb3E h
  rcases h with ⟨v11, G12, e10, h⟩ | ⟨X13, G14, e10, h⟩
  · refine j_cont (zrV (As := [vI x1]) msX1_60 (yX1_number_ok e10) (Nat.le_trans (Nat.le_of_ble_eq_true rfl) hd) (zk_1 _ e9) rfl rfl (Nat.le_of_ble_eq_true rfl) dX1_predictionOf_9) ?_
    replace h := zbE h
    obtain ⟨a15, e16, h⟩ := h
    subst e16
    replace h := zbE h
    obtain ⟨v17, e18, h⟩ := h
    refine j_iald (Or.inl rfl) e18 dX1_predictionOf_12 ?_
    obtain rfl := Option.some.inj h
    exact j_iret hk.1 hk.2 rfl dX1_predictionOf_13
  · refine j_thr (zrV (As := [vI x1]) msX1_60 (yX1_number_ok e10) (Nat.le_trans (Nat.le_of_ble_eq_true rfl) hd) (zk_1 _ e9) rfl rfl (Nat.le_of_ble_eq_true rfl) dX1_predictionOf_9) ?_
    obtain rfl := Option.some.inj h
    exact jx_out hk.1 hk.2 (by decide)
theorem yX1_predictionOf_ok {t : Nat} {x1 : Int32} {G : GS} {r : (Int32) ⊕ String} {G1 : GS} (h : fX1_predictionOf_0 t x1 G = some (r, G1)) : zRuns yX1_predictionOf (ws_ yX1_predictionOf cX1_predictionOf 2 (some Jvm.ClassFile.FieldType.int)) [vR (some t), vI x1] (zout (fun v => some (vI v)) r, G, G1, 52) :=
  zentry (M := mX1_predictionOf) (plainFor_of_name (by decide +kernel)) ⟨rfl, rfl, rfl, rfl⟩ (Nat.le_of_ble_eq_true rfl) (wfX1_predictionOf_0 (Nat.le_refl _) t x1 G h ⟨rfl, rfl⟩)
abbrev mJ2_remove : zM := (cJ2_remove, RJ2, 4, (some (Jvm.ClassFile.FieldType.object "java/lang/Object")), "remove", [], "(I)Ljava/lang/Object;")
def fJ2_remove_0 (t : Nat) (x1 : Int32)  (G : GS) : Option ((Option Nat) × GS) :=
  (zgI G 12 t 2).bind fun v1 => (fJ16_checkIndex_0 x1 v1 G).bind fun v4 => (zgR G 12 t 1).bind fun r5 => r5.bind fun a7 => (zaR G 54 a7 x1).bind fun r9 => zk [12] G t <| (fJ2_fastRemove_0 t (some a7) x1 G).bind fun G13 => some (r9, G13)
theorem wfJ2_remove_0 {F : zF} (hd : 3 ≤ F.2.2.2) (t : Nat) (x1 : Int32)  (G : GS) {a : (Option Nat) × GS} (h : fJ2_remove_0 t x1  G = some a) (hk : zKR F a) : J mJ2_remove F G 0 [(0, vR (some t)), (1, vI x1)] [] := by
  unfold fJ2_remove_0 at h
  refine j_iload_n (j := 1) dJ2_remove_0 rfl rfl ?_
  refine j_aload_n (j := 0) dJ2_remove_1 rfl rfl ?_
  replace h := zbE h
  obtain ⟨v1, e2, h⟩ := h
  refine j_getI fgJ2_48 (fun _ _ _ => rfl) dJ2_remove_2 e2 ?_
  replace h := zbE h
  obtain ⟨v4, e3, h⟩ := h
  refine j_cont (zrS (As := [vI x1, vI v1]) msJ2_118 (yJ16_checkIndex_ok e3) (Nat.le_trans (Nat.le_of_ble_eq_true rfl) hd) rfl rfl (Nat.le_of_ble_eq_true rfl) dJ2_remove_5) ?_
  refine j_pop dJ2_remove_8 rfl ?_
  refine j_aload_n (j := 0) dJ2_remove_9 rfl rfl ?_
  replace h := zbE h
  obtain ⟨r5, e6, h⟩ := h
  refine j_getR fgJ2_9 (fun _ _ _ => rfl) dJ2_remove_10 e6 ?_
  refine j_astore_n (lv' := [(2, vR r5), (0, vR (some t)), (1, vI x1)]) dJ2_remove_13 rfl (Nat.le_of_ble_eq_true rfl) rfl ?_
  refine j_aload_n (j := 0) dJ2_remove_14 rfl rfl ?_
  refine j_iload_n (j := 2) dJ2_remove_15 rfl rfl ?_
  replace h := zbE h
  obtain ⟨a7, e8, h⟩ := h
  subst e8
  replace h := zbE h
  obtain ⟨r9, e10, h⟩ := h
  refine j_aald (Or.inl rfl) e10 dJ2_remove_16 ?_
  refine j_astore_n (lv' := [(3, vR r9), (2, vR (some a7)), (0, vR (some t)), (1, vI x1)]) dJ2_remove_17 rfl (Nat.le_of_ble_eq_true rfl) rfl ?_
  refine j_aload_n (j := 2) dJ2_remove_18 rfl rfl ?_
  refine j_aload_n (j := 1) dJ2_remove_19 rfl rfl ?_
  refine j_iload_n (j := 3) dJ2_remove_20 rfl rfl ?_
  replace h := zkE h
  obtain ⟨e11, h⟩ := h
  replace h := zbE h
  obtain ⟨G13, e12, h⟩ := h
  refine j_cont (zrV (As := [vR (some a7), vI x1]) msJ2_144 (yJ2_fastRemove_ok e12) (Nat.le_trans (Nat.le_of_ble_eq_true rfl) hd) (zk_12 _ e11) rfl rfl (Nat.le_of_ble_eq_true rfl) dJ2_remove_21) ?_
  refine j_aload_n (j := 0) dJ2_remove_24 rfl rfl ?_
  obtain rfl := Option.some.inj h
  exact j_aret hk.1 hk.2 rfl (Or.inl ⟨_, rfl⟩) dJ2_remove_25
theorem yJ2_remove_ok {t : Nat} {x1 : Int32} {G : GS} {r : Option Nat} {G1 : GS} (h : fJ2_remove_0 t x1 G = some (r, G1)) : zRuns yJ2_remove (ws_ yJ2_remove cJ2_remove 4 (some (Jvm.ClassFile.FieldType.object "java/lang/Object"))) [vR (some t), vI x1] (.inl (some (vR r)), G, G1, 3) :=
  zentry (M := mJ2_remove) (plainFor_of_name (by decide +kernel)) ⟨rfl, rfl, rfl, rfl⟩ (Nat.le_of_ble_eq_true rfl) (wfJ2_remove_0 (Nat.le_refl _) t x1 G h ⟨rfl, rfl⟩)
theorem msJ3_114 : zSS RJ3 114 yJ13_newLength cJ13_newLength 4 (some Jvm.ClassFile.FieldType.int) 3 := ⟨lw_S q2018 q761 q139 q762, (by decide +kernel), (by decide)⟩
abbrev mJ3_newCapacity : zM := (cJ3_newCapacity, RJ3, 6, (some Jvm.ClassFile.FieldType.int), "newCapacity", [], "(I)I")
def fJ3_newCapacity_0 (t : Nat) (x1 : Int32)  (G : GS) : Option ((Int32) × GS) :=
  (zgR G 22 t 0).bind fun r1 => r1.bind fun a3 => (zln G a3).bind fun v5 => (zgI G 22 t 1).bind fun v7 => (zgI G 22 t 1).bind fun v9 => zb2 (fJ13_newLength_0 v5 ((x1 <<< (v7 &&& 31)) - v5) (v5 + ((2 : Int32) <<< (v9 &&& 31))) G) fun v12 G13 => if v12 = 2147483647 then none else ((zgI G13 22 t 1).bind fun v15 => some ((v12 >>> (v15 &&& 31)), G13))
theorem wfJ3_newCapacity_0 {F : zF} (hd : 3 ≤ F.2.2.2) (t : Nat) (x1 : Int32)  (G : GS) {a : (Int32) × GS} (h : fJ3_newCapacity_0 t x1  G = some a) (hk : zKI F a) : J mJ3_newCapacity F G 0 [(0, vR (some t)), (1, vI x1)] [] := by
  unfold fJ3_newCapacity_0 at h
  refine j_aload_n (j := 0) dJ3_newCapacity_0 rfl rfl ?_
  replace h := zbE h
  obtain ⟨r1, e2, h⟩ := h
  refine j_getR fgJ3_15 (fun _ _ _ => rfl) dJ3_newCapacity_1 e2 ?_
  replace h := zbE h
  obtain ⟨a3, e4, h⟩ := h
  subst e4
  replace h := zbE h
  obtain ⟨v5, e6, h⟩ := h
  refine j_alen e6 dJ3_newCapacity_4 ?_
  refine j_istore_n (lv' := [(2, vI v5), (0, vR (some t)), (1, vI x1)]) dJ3_newCapacity_5 rfl (Nat.le_of_ble_eq_true rfl) rfl ?_
  refine j_iload_n (j := 2) dJ3_newCapacity_6 rfl rfl ?_
  refine j_aload_n (j := 1) dJ3_newCapacity_7 rfl rfl ?_
  replace h := zbE h
  obtain ⟨v7, e8, h⟩ := h
  refine j_getI fgJ3_22 (fun _ _ _ => rfl) dJ3_newCapacity_8 e8 ?_
  refine j_ishl dJ3_newCapacity_11 ?_
  refine j_istore_n (lv' := [(3, vI (x1 <<< (v7 &&& 31))), (2, vI v5), (0, vR (some t)), (1, vI x1)]) dJ3_newCapacity_12 rfl (Nat.le_of_ble_eq_true rfl) rfl ?_
  refine j_iload_n (j := 0) dJ3_newCapacity_13 rfl rfl ?_
  refine j_iload_n (j := 1) dJ3_newCapacity_14 rfl rfl ?_
  refine j_isub dJ3_newCapacity_15 ?_
  refine j_istore (lv' := [(4, vI ((x1 <<< (v7 &&& 31)) - v5)), (3, vI (x1 <<< (v7 &&& 31))), (2, vI v5), (0, vR (some t)), (1, vI x1)]) dJ3_newCapacity_16 (Nat.le_of_ble_eq_true rfl) rfl ?_
  refine j_iload_n (j := 2) dJ3_newCapacity_18 rfl rfl ?_
  refine j_iload (j := 0) dJ3_newCapacity_19 rfl ?_
  refine j_iload_n (j := 2) dJ3_newCapacity_21 rfl rfl ?_
  refine j_iconst (v := 2) dJ3_newCapacity_22 (by decide) ?_
  refine j_aload_n (j := 3) dJ3_newCapacity_23 rfl rfl ?_
  replace h := zbE h
  obtain ⟨v9, e10, h⟩ := h
  refine j_getI fgJ3_22 (fun _ _ _ => rfl) dJ3_newCapacity_24 e10 ?_
  refine j_ishl dJ3_newCapacity_27 ?_
  refine j_iadd dJ3_newCapacity_28 ?_
  replace h := zb2E h
  obtain ⟨v12, G13, e11, h⟩ := h
  refine j_cont (zrS (As := [vI v5, vI ((x1 <<< (v7 &&& 31)) - v5), vI (v5 + ((2 : Int32) <<< (v9 &&& 31)))]) msJ3_114 (yJ13_newLength_ok e11) (Nat.le_trans (Nat.le_of_ble_eq_true rfl) hd) rfl rfl (Nat.le_of_ble_eq_true rfl) dJ3_newCapacity_29) ?_
  refine j_istore (lv' := [(5, vI v12), (4, vI ((x1 <<< (v7 &&& 31)) - v5)), (3, vI (x1 <<< (v7 &&& 31))), (2, vI v5), (0, vR (some t)), (1, vI x1)]) dJ3_newCapacity_32 (Nat.le_of_ble_eq_true rfl) rfl ?_
  refine j_iload (j := 0) dJ3_newCapacity_34 rfl ?_
  refine j_ldc (v := 2147483647) q2019 dJ3_newCapacity_36 ?_
  refine j_icmp_ne (tgt := 51) dJ3_newCapacity_38 (by decide) (fun c14 => ?_) (fun c14 => ?_)
  · rw [if_pos c14] at h
    cases h
  · rw [if_neg c14] at h
    refine j_iload (j := 0) dJ3_newCapacity_51 rfl ?_
    refine j_aload_n (j := 4) dJ3_newCapacity_53 rfl rfl ?_
    replace h := zbE h
    obtain ⟨v15, e16, h⟩ := h
    refine j_getI fgJ3_22 (fun _ _ _ => rfl) dJ3_newCapacity_54 e16 ?_
    refine j_ishr dJ3_newCapacity_57 ?_
    obtain rfl := Option.some.inj h
    exact j_iret hk.1 hk.2 rfl dJ3_newCapacity_58
theorem yJ3_newCapacity_ok {t : Nat} {x1 : Int32} {G : GS} {r : Int32} {G1 : GS} (h : fJ3_newCapacity_0 t x1 G = some (r, G1)) : zRuns yJ3_newCapacity (ws_ yJ3_newCapacity cJ3_newCapacity 6 (some Jvm.ClassFile.FieldType.int)) [vR (some t), vI x1] (.inl (some (vI r)), G, G1, 3) :=
  zentry (M := mJ3_newCapacity) (plainFor_of_name (by decide +kernel)) ⟨rfl, rfl, rfl, rfl⟩ (Nat.le_of_ble_eq_true rfl) (wfJ3_newCapacity_0 (Nat.le_refl _) t x1 G h ⟨rfl, rfl⟩)
abbrev mJ15_copyOf_4 : zM := (cJ15_copyOf_4, RJ15, 3, (some (Jvm.ClassFile.FieldType.array Jvm.ClassFile.FieldType.byte)), "copyOf", [], "([BI)[B")
def fJ15_copyOf_4_0 (x0 : Option Nat) (x1 : Int32)  (G : GS) : Option ((Option Nat) × GS) :=
  x0.bind fun a1 => (zln G a1).bind fun v3 => if x1 = v3 then none else ((zna G 53 x1).bind fun G6 => (zln G6 a1).bind fun v8 => (fJ14_min_0 v8 x1 G6).bind fun v11 => none)
theorem wfJ15_copyOf_4_0 {F : zF} (hd : 2 ≤ F.2.2.2) (x0 : Option Nat) (x1 : Int32)  (G : GS) {a : (Option Nat) × GS} (h : fJ15_copyOf_4_0 x0 x1  G = some a) (hk : zKR F a) : J mJ15_copyOf_4 F G 0 [(0, vR x0), (1, vI x1)] [] := by
  unfold fJ15_copyOf_4_0 at h
  refine j_iload_n (j := 1) dJ15_copyOf_4_0 rfl rfl ?_
  refine j_aload_n (j := 0) dJ15_copyOf_4_1 rfl rfl ?_
  replace h := zbE h
  obtain ⟨a1, e2, h⟩ := h
  subst e2
  replace h := zbE h
  obtain ⟨v3, e4, h⟩ := h
  refine j_alen e4 dJ15_copyOf_4_2 ?_
  refine j_icmp_ne (tgt := 14) dJ15_copyOf_4_3 (by decide) (fun c5 => ?_) (fun c5 => ?_)
  · rw [if_pos c5] at h
    refine j_aload_n (j := 0) dJ15_copyOf_4_6 rfl rfl ?_
    cases h
  · rw [if_neg c5] at h
    refine j_iload_n (j := 1) dJ15_copyOf_4_14 rfl rfl ?_
    replace h := zbE h
    obtain ⟨G6, e7, h⟩ := h
    refine j_newa (t := 3) (ty := .byte) rfl rfl q244 (fun _ _ _ e1 e2 e3 => by simp only [zfv, e1, e2, e3] <;> rfl) (by decide) (fun _ _ h => h) e7 dJ15_copyOf_4_15 ?_
    refine j_astore_n (lv' := [(2, vR (some (gz G))), (0, vR (some a1)), (1, vI x1)]) dJ15_copyOf_4_17 rfl (Nat.le_of_ble_eq_true rfl) rfl ?_
    refine j_aload_n (j := 1) dJ15_copyOf_4_18 rfl rfl ?_
    refine j_iconst (v := 0) dJ15_copyOf_4_19 (by decide) ?_
    refine j_aload_n (j := 0) dJ15_copyOf_4_20 rfl rfl ?_
    refine j_iconst (v := 0) dJ15_copyOf_4_21 (by decide) ?_
    refine j_aload_n (j := 1) dJ15_copyOf_4_22 rfl rfl ?_
    replace h := zbE h
    obtain ⟨v8, e9, h⟩ := h
    refine j_alen e9 dJ15_copyOf_4_23 ?_
    refine j_iload_n (j := 2) dJ15_copyOf_4_24 rfl rfl ?_
    replace h := zbE h
    obtain ⟨v11, e10, h⟩ := h
    refine j_cont (zrS (As := [vI v8, vI x1]) msJ15_304 (yJ14_min_ok e10) (Nat.le_trans (Nat.le_of_ble_eq_true rfl) hd) rfl rfl (Nat.le_of_ble_eq_true rfl) dJ15_copyOf_4_25) ?_
    cases h
theorem yJ15_copyOf_4_ok {x0 : Option Nat} {x1 : Int32} {G : GS} {r : Option Nat} {G1 : GS} (h : fJ15_copyOf_4_0 x0 x1 G = some (r, G1)) : zRuns yJ15_copyOf_4 (ws_ yJ15_copyOf_4 cJ15_copyOf_4 3 (some (Jvm.ClassFile.FieldType.array Jvm.ClassFile.FieldType.byte))) [vR x0, vI x1] (.inl (some (vR r)), G, G1, 2) :=
  zentry (M := mJ15_copyOf_4) (plainFor_of_name (by decide +kernel)) ⟨rfl, rfl, rfl, rfl⟩ (Nat.le_of_ble_eq_true rfl) (wfJ15_copyOf_4_0 (Nat.le_refl _) x0 x1 G h ⟨rfl, rfl⟩)
abbrev mJ3_ensureCapacityInternal : zM := (cJ3_ensureCapacityInternal, RJ3, 3, none, "ensureCapacityInternal", [], "(I)V")
def fJ3_ensureCapacityInternal_0 (t : Nat) (x1 : Int32)  (G : GS) : Option (GS) :=
  (zgR G 22 t 0).bind fun r1 => r1.bind fun a3 => (zln G a3).bind fun v5 => (zgI G 22 t 1).bind fun v7 => if (x1 - (v5 >>> (v7 &&& 31))) ≤ 0 then (some G) else ((zgR G 22 t 0).bind fun r10 => none)
theorem wfJ3_ensureCapacityInternal_0 {F : zF} (hd : 4 ≤ F.2.2.2) (t : Nat) (x1 : Int32)  (G : GS) {a : GS} (h : fJ3_ensureCapacityInternal_0 t x1  G = some a) (hk : zKV F a) : J mJ3_ensureCapacityInternal F G 0 [(0, vR (some t)), (1, vI x1)] [] := by
  unfold fJ3_ensureCapacityInternal_0 at h
  refine j_aload_n (j := 0) dJ3_ensureCapacityInternal_0 rfl rfl ?_
  replace h := zbE h
  obtain ⟨r1, e2, h⟩ := h
  refine j_getR fgJ3_15 (fun _ _ _ => rfl) dJ3_ensureCapacityInternal_1 e2 ?_
  replace h := zbE h
  obtain ⟨a3, e4, h⟩ := h
  subst e4
  replace h := zbE h
  obtain ⟨v5, e6, h⟩ := h
  refine j_alen e6 dJ3_ensureCapacityInternal_4 ?_
  refine j_aload_n (j := 0) dJ3_ensureCapacityInternal_5 rfl rfl ?_
  replace h := zbE h
  obtain ⟨v7, e8, h⟩ := h
  refine j_getI fgJ3_22 (fun _ _ _ => rfl) dJ3_ensureCapacityInternal_6 e8 ?_
  refine j_ishr dJ3_ensureCapacityInternal_9 ?_
  refine j_istore_n (lv' := [(2, vI (v5 >>> (v7 &&& 31))), (0, vR (some t)), (1, vI x1)]) dJ3_ensureCapacityInternal_10 rfl (Nat.le_of_ble_eq_true rfl) rfl ?_
  refine j_iload_n (j := 2) dJ3_ensureCapacityInternal_11 rfl rfl ?_
  refine j_iload_n (j := 0) dJ3_ensureCapacityInternal_12 rfl rfl ?_
  refine j_isub dJ3_ensureCapacityInternal_13 ?_
  refine j_if_le (tgt := 38) dJ3_ensureCapacityInternal_14 (by decide) (fun c9 => ?_) (fun c9 => ?_)
  · rw [if_pos c9] at h
    obtain rfl := Option.some.inj h
    exact j_vret hk.1 hk.2 rfl dJ3_ensureCapacityInternal_38
  · rw [if_neg c9] at h
    refine j_aload_n (j := 1) dJ3_ensureCapacityInternal_17 rfl rfl ?_
    refine j_aload_n (j := 1) dJ3_ensureCapacityInternal_18 rfl rfl ?_
    replace h := zbE h
    obtain ⟨r10, e11, h⟩ := h
    refine j_getR fgJ3_15 (fun _ _ _ => rfl) dJ3_ensureCapacityInternal_19 e11 ?_
    refine j_aload_n (j := 1) dJ3_ensureCapacityInternal_22 rfl rfl ?_
    refine j_iload_n (j := 2) dJ3_ensureCapacityInternal_23 rfl rfl ?_
    cases h
theorem yJ3_ensureCapacityInternal_ok {t : Nat} {x1 : Int32} {G : GS} {G1 : GS} (h : fJ3_ensureCapacityInternal_0 t x1 G = some G1) : zRuns yJ3_ensureCapacityInternal (ws_ yJ3_ensureCapacityInternal cJ3_ensureCapacityInternal 3 none) [vR (some t), vI x1] (.inl none, G, G1, 4) :=
  zentry (M := mJ3_ensureCapacityInternal) (plainFor_of_name (by decide +kernel)) ⟨rfl, rfl, rfl, rfl⟩ (Nat.le_of_ble_eq_true rfl) (wfJ3_ensureCapacityInternal_0 (Nat.le_refl _) t x1 G h ⟨rfl, rfl⟩)
abbrev mJ3_isLatin1 : zM := (cJ3_isLatin1, RJ3, 1, (some Jvm.ClassFile.FieldType.boolean), "isLatin1", [], "()Z")
def fJ3_isLatin1_17   (G : GS) : Option (Int32) :=
  zcond (zbb 0) (some 0)
theorem wfJ3_isLatin1_17 {F : zF} (hd : 1 ≤ F.2.2.2)   (G : GS) {a : Int32} (h : fJ3_isLatin1_17   G = some a) (hk : zKPI F G a) : J mJ3_isLatin1 F G 17 [] [] := by
  unfold fJ3_isLatin1_17 at h
  refine j_iconst (v := 0) dJ3_isLatin1_17 (by decide) ?_
  replace h := zcondE h
  obtain ⟨e1, h⟩ := h
  obtain rfl := Option.some.inj h
  exact j_zret hk.1 hk.2 rfl (zbb_n e1) dJ3_isLatin1_18
def fJ3_isLatin1_0 (t : Nat)  (G : GS) : Option (Int32) :=
  if (1 : Int32) = 0 then (fJ3_isLatin1_17 G) else ((zgI G 22 t 1).bind fun v2 => if v2 = 0 then (zcond (zbb 1) (some 1)) else (fJ3_isLatin1_17 G))
theorem wfJ3_isLatin1_0 {F : zF} (hd : 1 ≤ F.2.2.2) (t : Nat)  (G : GS) {a : Int32} (h : fJ3_isLatin1_0 t  G = some a) (hk : zKPI F G a) : J mJ3_isLatin1 F G 0 [(0, vR (some t))] [] := by
  unfold fJ3_isLatin1_0 at h
  refine j_gets (i := 6) (x := vI 1) rfl rfl q221 dJ3_isLatin1_0 ?_
  refine j_if_eq (tgt := 17) dJ3_isLatin1_3 (by decide) (fun c1 => ?_) (fun c1 => ?_)
  · rw [if_pos c1] at h
    exact J.sub (zall [] rfl) (wfJ3_isLatin1_17 hd   G h hk)
  · rw [if_neg c1] at h
    refine j_aload_n (j := 0) dJ3_isLatin1_6 rfl rfl ?_
    replace h := zbE h
    obtain ⟨v2, e3, h⟩ := h
    refine j_getI fgJ3_22 (fun _ _ _ => rfl) dJ3_isLatin1_7 e3 ?_
    refine j_if_ne (tgt := 17) dJ3_isLatin1_10 (by decide) (fun c4 => ?_) (fun c4 => ?_)
    · rw [if_pos c4] at h
      refine j_iconst (v := 1) dJ3_isLatin1_13 (by decide) ?_
      refine j_goto (tgt := 18) dJ3_isLatin1_14 (by decide) ?_
      replace h := zcondE h
      obtain ⟨e5, h⟩ := h
      obtain rfl := Option.some.inj h
      exact j_zret hk.1 hk.2 rfl (zbb_n e5) dJ3_isLatin1_18
    · rw [if_neg c4] at h
      exact J.sub (zall [] rfl) (wfJ3_isLatin1_17 hd   G h hk)
theorem yJ3_isLatin1_ok {t : Nat} {G : GS} {r : Int32} (h : fJ3_isLatin1_0 t G = some r) : zRuns yJ3_isLatin1 (ws_ yJ3_isLatin1 cJ3_isLatin1 1 (some Jvm.ClassFile.FieldType.boolean)) [vR (some t)] (.inl (some (vI r)), G, G, 1) :=
  zentry (M := mJ3_isLatin1) (plainFor_of_name (by decide +kernel)) ⟨rfl, rfl, rfl, rfl⟩ (Nat.le_of_ble_eq_true rfl) (wfJ3_isLatin1_0 (Nat.le_refl _) t G h ⟨rfl, rfl⟩)
abbrev mJ17_checkFromToIndex : zM := (cJ17_checkFromToIndex, RJ17, 4, (some Jvm.ClassFile.FieldType.int), "checkFromToIndex", [], "(IIILjava/util/function/BiFunction;)I")
def fJ17_checkFromToIndex_14 (x0 : Int32) (x1 : Int32) (x2 : Int32) (x3 : Option Nat)  (G : GS) : Option (Int32) :=
  none
theorem wfJ17_checkFromToIndex_14 {F : zF} (hd : 1 ≤ F.2.2.2) (x0 : Int32) (x1 : Int32) (x2 : Int32) (x3 : Option Nat)  (G : GS) {a : Int32} (h : fJ17_checkFromToIndex_14 x0 x1 x2 x3  G = some a) (hk : zKPI F G a) : J mJ17_checkFromToIndex F G 14 [(0, vI x0), (1, vI x1), (2, vI x2), (3, vR x3)] [] := by
  unfold fJ17_checkFromToIndex_14 at h
  refine j_aload_n (j := 3) dJ17_checkFromToIndex_14 rfl rfl ?_
  refine j_iload_n (j := 0) dJ17_checkFromToIndex_15 rfl rfl ?_
  refine j_iload_n (j := 1) dJ17_checkFromToIndex_16 rfl rfl ?_
  refine j_iload_n (j := 2) dJ17_checkFromToIndex_17 rfl rfl ?_
  cases h
def fJ17_checkFromToIndex_0 (x0 : Int32) (x1 : Int32) (x2 : Int32) (x3 : Option Nat)  (G : GS) : Option (Int32) :=
  if x0 < 0 then (fJ17_checkFromToIndex_14 x0 x1 x2 x3 G) else (if x1 < x0 then (fJ17_checkFromToIndex_14 x0 x1 x2 x3 G) else (if x1 ≤ x2 then (some x0) else (fJ17_checkFromToIndex_14 x0 x1 x2 x3 G)))
theorem wfJ17_checkFromToIndex_0 {F : zF} (hd : 1 ≤ F.2.2.2) (x0 : Int32) (x1 : Int32) (x2 : Int32) (x3 : Option Nat)  (G : GS) {a : Int32} (h : fJ17_checkFromToIndex_0 x0 x1 x2 x3  G = some a) (hk : zKPI F G a) : J mJ17_checkFromToIndex F G 0 [(0, vI x0), (1, vI x1), (2, vI x2), (3, vR x3)] [] := by
  unfold fJ17_checkFromToIndex_0 at h
  refine j_iload_n (j := 0) dJ17_checkFromToIndex_0 rfl rfl ?_
  refine j_if_lt (tgt := 14) dJ17_checkFromToIndex_1 (by decide) (fun c1 => ?_) (fun c1 => ?_)
  · rw [if_pos c1] at h
    exact J.sub (zall [0, 1, 2, 3] rfl) (wfJ17_checkFromToIndex_14 hd x0 x1 x2 x3  G h hk)
  · rw [if_neg c1] at h
    refine j_iload_n (j := 0) dJ17_checkFromToIndex_4 rfl rfl ?_
    refine j_iload_n (j := 1) dJ17_checkFromToIndex_5 rfl rfl ?_
    refine j_icmp_gt (tgt := 14) dJ17_checkFromToIndex_6 (by decide) (fun c2 => ?_) (fun c2 => ?_)
    · rw [if_pos c2] at h
      exact J.sub (zall [0, 1, 2, 3] rfl) (wfJ17_checkFromToIndex_14 hd x0 x1 x2 x3  G h hk)
    · rw [if_neg c2] at h
      refine j_iload_n (j := 1) dJ17_checkFromToIndex_9 rfl rfl ?_
      refine j_iload_n (j := 2) dJ17_checkFromToIndex_10 rfl rfl ?_
      refine j_icmp_le (tgt := 22) dJ17_checkFromToIndex_11 (by decide) (fun c3 => ?_) (fun c3 => ?_)
      · rw [if_pos c3] at h
        refine j_iload_n (j := 0) dJ17_checkFromToIndex_22 rfl rfl ?_
        obtain rfl := Option.some.inj h
        exact j_iret hk.1 hk.2 rfl dJ17_checkFromToIndex_23
      · rw [if_neg c3] at h
        exact J.sub (zall [0, 1, 2, 3] rfl) (wfJ17_checkFromToIndex_14 hd x0 x1 x2 x3  G h hk)
theorem yJ17_checkFromToIndex_ok {x0 : Int32} {x1 : Int32} {x2 : Int32} {x3 : Option Nat} {G : GS} {r : Int32} (h : fJ17_checkFromToIndex_0 x0 x1 x2 x3 G = some r) : zRuns yJ17_checkFromToIndex (ws_ yJ17_checkFromToIndex cJ17_checkFromToIndex 4 (some Jvm.ClassFile.FieldType.int)) [vI x0, vI x1, vI x2, vR x3] (.inl (some (vI r)), G, G, 1) :=
  zentry (M := mJ17_checkFromToIndex) (plainFor_of_name (by decide +kernel)) ⟨rfl, rfl, rfl, rfl⟩ (Nat.le_of_ble_eq_true rfl) (wfJ17_checkFromToIndex_0 (Nat.le_refl _) x0 x1 x2 x3 G h ⟨rfl, rfl⟩)
theorem msJ5_1062 : zSS RJ5 1062 yJ17_checkFromToIndex cJ17_checkFromToIndex 4 (some Jvm.ClassFile.FieldType.int) 4 := ⟨lw_S q960 q961 q144 q962, (by decide +kernel), (by decide)⟩
abbrev mJ5_checkBoundsBeginEnd : zM := (cJ5_checkBoundsBeginEnd, RJ5, 3, none, "checkBoundsBeginEnd", [], "(III)V")
def fJ5_checkBoundsBeginEnd_0 (x0 : Int32) (x1 : Int32) (x2 : Int32)  (G : GS) : Option (GS) :=
  (fJ17_checkFromToIndex_0 x0 x1 x2 (some (gS G 4)) G).bind fun v2 => some G
theorem wfJ5_checkBoundsBeginEnd_0 {F : zF} (hd : 2 ≤ F.2.2.2) (x0 : Int32) (x1 : Int32) (x2 : Int32)  (G : GS) {a : GS} (h : fJ5_checkBoundsBeginEnd_0 x0 x1 x2  G = some a) (hk : zKV F a) : J mJ5_checkBoundsBeginEnd F G 0 [(0, vI x0), (1, vI x1), (2, vI x2)] [] := by
  unfold fJ5_checkBoundsBeginEnd_0 at h
  refine j_iload_n (j := 0) dJ5_checkBoundsBeginEnd_0 rfl rfl ?_
  refine j_iload_n (j := 1) dJ5_checkBoundsBeginEnd_1 rfl rfl ?_
  refine j_iload_n (j := 2) dJ5_checkBoundsBeginEnd_2 rfl rfl ?_
  refine j_gets (i := 4) (x := vR (some (gS G 4))) rfl rfl q958 dJ5_checkBoundsBeginEnd_3 ?_
  replace h := zbE h
  obtain ⟨v2, e1, h⟩ := h
  refine j_cont (zrS (As := [vI x0, vI x1, vI x2, vR (some (gS G 4))]) msJ5_1062 (yJ17_checkFromToIndex_ok e1) (Nat.le_trans (Nat.le_of_ble_eq_true rfl) hd) rfl rfl (Nat.le_of_ble_eq_true rfl) dJ5_checkBoundsBeginEnd_6) ?_
  refine j_pop dJ5_checkBoundsBeginEnd_9 rfl ?_
  obtain rfl := Option.some.inj h
  exact j_vret hk.1 hk.2 rfl dJ5_checkBoundsBeginEnd_10
theorem yJ5_checkBoundsBeginEnd_ok {x0 : Int32} {x1 : Int32} {x2 : Int32} {G : GS} {G1 : GS} (h : fJ5_checkBoundsBeginEnd_0 x0 x1 x2 G = some G1) : zRuns yJ5_checkBoundsBeginEnd (ws_ yJ5_checkBoundsBeginEnd cJ5_checkBoundsBeginEnd 3 none) [vI x0, vI x1, vI x2] (.inl none, G, G1, 2) :=
  zentry (M := mJ5_checkBoundsBeginEnd) (plainFor_of_name (by decide +kernel)) ⟨rfl, rfl, rfl, rfl⟩ (Nat.le_of_ble_eq_true rfl) (wfJ5_checkBoundsBeginEnd_0 (Nat.le_refl _) x0 x1 x2 G h ⟨rfl, rfl⟩)
theorem msJ6_241 : zSS RJ6 241 yJ5_checkBoundsBeginEnd cJ5_checkBoundsBeginEnd 3 none 3 := ⟨lw_S q2041 q2042 q129 q2043, (by decide +kernel), (by decide)⟩
theorem msJ6_48 : zSS RJ6 48 yJ6_length cJ6_length 1 (some Jvm.ClassFile.FieldType.int) 1 := ⟨lw_S q898 q899 q130 q900, (by decide +kernel), (by decide)⟩
abbrev mJ6_checkBoundsBeginEnd : zM := (cJ6_checkBoundsBeginEnd, RJ6, 3, none, "checkBoundsBeginEnd", [], "(II[B)V")
def fJ6_checkBoundsBeginEnd_0 (x0 : Int32) (x1 : Int32) (x2 : Option Nat)  (G : GS) : Option (GS) :=
  (fJ6_length_0 x2 G).bind fun v2 => (fJ5_checkBoundsBeginEnd_0 x0 x1 v2 G).bind fun G4 => some G4
theorem wfJ6_checkBoundsBeginEnd_0 {F : zF} (hd : 3 ≤ F.2.2.2) (x0 : Int32) (x1 : Int32) (x2 : Option Nat)  (G : GS) {a : GS} (h : fJ6_checkBoundsBeginEnd_0 x0 x1 x2  G = some a) (hk : zKV F a) : J mJ6_checkBoundsBeginEnd F G 0 [(0, vI x0), (1, vI x1), (2, vR x2)] [] := by
  unfold fJ6_checkBoundsBeginEnd_0 at h
  refine j_iload_n (j := 0) dJ6_checkBoundsBeginEnd_0 rfl rfl ?_
  refine j_iload_n (j := 1) dJ6_checkBoundsBeginEnd_1 rfl rfl ?_
  refine j_aload_n (j := 2) dJ6_checkBoundsBeginEnd_2 rfl rfl ?_
  replace h := zbE h
  obtain ⟨v2, e1, h⟩ := h
  refine j_cont (zrS (As := [vR x2]) msJ6_48 (yJ6_length_ok e1) (Nat.le_trans (Nat.le_of_ble_eq_true rfl) hd) rfl rfl (Nat.le_of_ble_eq_true rfl) dJ6_checkBoundsBeginEnd_3) ?_
  replace h := zbE h
  obtain ⟨G4, e3, h⟩ := h
  refine j_cont (zrS (As := [vI x0, vI x1, vI v2]) msJ6_241 (yJ5_checkBoundsBeginEnd_ok e3) (Nat.le_trans (Nat.le_of_ble_eq_true rfl) hd) rfl rfl (Nat.le_of_ble_eq_true rfl) dJ6_checkBoundsBeginEnd_6) ?_
  obtain rfl := Option.some.inj h
  exact j_vret hk.1 hk.2 rfl dJ6_checkBoundsBeginEnd_9
theorem yJ6_checkBoundsBeginEnd_ok {x0 : Int32} {x1 : Int32} {x2 : Option Nat} {G : GS} {G1 : GS} (h : fJ6_checkBoundsBeginEnd_0 x0 x1 x2 G = some G1) : zRuns yJ6_checkBoundsBeginEnd (ws_ yJ6_checkBoundsBeginEnd cJ6_checkBoundsBeginEnd 3 none) [vI x0, vI x1, vR x2] (.inl none, G, G1, 3) :=
  zentry (M := mJ6_checkBoundsBeginEnd) (plainFor_of_name (by decide +kernel)) ⟨rfl, rfl, rfl, rfl⟩ (Nat.le_of_ble_eq_true rfl) (wfJ6_checkBoundsBeginEnd_0 (Nat.le_refl _) x0 x1 x2 G h ⟨rfl, rfl⟩)
abbrev mJ6_putChar : zM := (cJ6_putChar, RJ6, 3, none, "putChar", [], "([BII)V")
def fJ6_putChar_0 (x0 : Option Nat) (x1 : Int32) (x2 : Int32)  (G : GS) : Option (GS) :=
  none
theorem wfJ6_putChar_0 {F : zF} (hd : 2 ≤ F.2.2.2) (x0 : Option Nat) (x1 : Int32) (x2 : Int32)  (G : GS) {a : GS} (h : fJ6_putChar_0 x0 x1 x2  G = some a) (hk : zKV F a) : J mJ6_putChar F G 0 [(0, vR x0), (1, vI x1), (2, vI x2)] [] := by
  unfold fJ6_putChar_0 at h
  cases h
theorem yJ6_putChar_ok {x0 : Option Nat} {x1 : Int32} {x2 : Int32} {G : GS} {G1 : GS} (h : fJ6_putChar_0 x0 x1 x2 G = some G1) : zRuns yJ6_putChar (ws_ yJ6_putChar cJ6_putChar 3 none) [vR x0, vI x1, vI x2] (.inl none, G, G1, 2) :=
  zentry (M := mJ6_putChar) (plainFor_of_name (by decide +kernel)) ⟨rfl, rfl, rfl, rfl⟩ (Nat.le_of_ble_eq_true rfl) (wfJ6_putChar_0 (Nat.le_refl _) x0 x1 x2 G h ⟨rfl, rfl⟩)
theorem msJ6_111 : zSS RJ6 111 yJ6_putChar cJ6_putChar 3 none 3 := ⟨lw_S q2048 q2049 q130 q2050, (by decide +kernel), (by decide)⟩
theorem msJ6_96 : zSS RJ6 96 yJ6_checkBoundsBeginEnd cJ6_checkBoundsBeginEnd 3 none 3 := ⟨lw_S q2038 q2039 q130 q2040, (by decide +kernel), (by decide)⟩
abbrev mJ6_putCharsAt : zM := (cJ6_putCharsAt, RJ6, 7, (some Jvm.ClassFile.FieldType.int), "putCharsAt", [], "([BICCCC)I")
def fJ6_putCharsAt_0 (x0 : Option Nat) (x1 : Int32) (x2 : Int32) (x3 : Int32) (x4 : Int32) (x5 : Int32)  (G : GS) : Option ((Int32) × GS) :=
  (fJ6_checkBoundsBeginEnd_0 x1 (x1 + 4) x0 G).bind fun G2 => (fJ6_putChar_0 x0 x1 x2 G2).bind fun G4 => (fJ6_putChar_0 x0 (x1 + 1) x3 G4).bind fun G6 => (fJ6_putChar_0 x0 ((x1 + 1) + 1) x4 G6).bind fun G8 => (fJ6_putChar_0 x0 (((x1 + 1) + 1) + 1) x5 G8).bind fun G10 => none
theorem wfJ6_putCharsAt_0 {F : zF} (hd : 4 ≤ F.2.2.2) (x0 : Option Nat) (x1 : Int32) (x2 : Int32) (x3 : Int32) (x4 : Int32) (x5 : Int32)  (G : GS) {a : (Int32) × GS} (h : fJ6_putCharsAt_0 x0 x1 x2 x3 x4 x5  G = some a) (hk : zKI F a) : J mJ6_putCharsAt F G 0 [(0, vR x0), (1, vI x1), (2, vI x2), (3, vI x3), (4, vI x4), (5, vI x5)] [] := by
  unfold fJ6_putCharsAt_0 at h
  refine j_iload_n (j := 1) dJ6_putCharsAt_0 rfl rfl ?_
  refine j_iconst (v := 4) dJ6_putCharsAt_1 (by decide) ?_
  refine j_iadd dJ6_putCharsAt_2 ?_
  refine j_istore (lv' := [(6, vI (x1 + 4)), (0, vR x0), (1, vI x1), (2, vI x2), (3, vI x3), (4, vI x4), (5, vI x5)]) dJ6_putCharsAt_3 (Nat.le_of_ble_eq_true rfl) rfl ?_
  refine j_iload_n (j := 2) dJ6_putCharsAt_5 rfl rfl ?_
  refine j_iload (j := 0) dJ6_putCharsAt_6 rfl ?_
  refine j_aload_n (j := 1) dJ6_putCharsAt_8 rfl rfl ?_
  replace h := zbE h
  obtain ⟨G2, e1, h⟩ := h
  refine j_cont (zrS (As := [vI x1, vI (x1 + 4), vR x0]) msJ6_96 (yJ6_checkBoundsBeginEnd_ok e1) (Nat.le_trans (Nat.le_of_ble_eq_true rfl) hd) rfl rfl (Nat.le_of_ble_eq_true rfl) dJ6_putCharsAt_9) ?_
  refine j_aload_n (j := 1) dJ6_putCharsAt_12 rfl rfl ?_
  refine j_iload_n (j := 2) dJ6_putCharsAt_13 rfl rfl ?_
  refine j_iinc (j := 2) (v := (x1 + 1)) (lv' := [(1, vI (x1 + 1)), (6, vI (x1 + 4)), (0, vR x0), (2, vI x2), (3, vI x3), (4, vI x4), (5, vI x5)]) dJ6_putCharsAt_14 rfl rfl (Nat.le_of_ble_eq_true rfl) rfl ?_
  refine j_iload_n (j := 3) dJ6_putCharsAt_17 rfl rfl ?_
  replace h := zbE h
  obtain ⟨G4, e3, h⟩ := h
  refine j_cont (zrS (As := [vR x0, vI x1, vI x2]) msJ6_111 (yJ6_putChar_ok e3) (Nat.le_trans (Nat.le_of_ble_eq_true rfl) hd) rfl rfl (Nat.le_of_ble_eq_true rfl) dJ6_putCharsAt_18) ?_
  refine j_aload_n (j := 2) dJ6_putCharsAt_21 rfl rfl ?_
  refine j_iload_n (j := 0) dJ6_putCharsAt_22 rfl rfl ?_
  refine j_iinc (j := 0) (v := ((x1 + 1) + 1)) (lv' := [(1, vI ((x1 + 1) + 1)), (6, vI (x1 + 4)), (0, vR x0), (2, vI x2), (3, vI x3), (4, vI x4), (5, vI x5)]) dJ6_putCharsAt_23 rfl rfl (Nat.le_of_ble_eq_true rfl) rfl ?_
  refine j_iload_n (j := 4) dJ6_putCharsAt_26 rfl rfl ?_
  replace h := zbE h
  obtain ⟨G6, e5, h⟩ := h
  refine j_cont (zrS (As := [vR x0, vI (x1 + 1), vI x3]) msJ6_111 (yJ6_putChar_ok e5) (Nat.le_trans (Nat.le_of_ble_eq_true rfl) hd) rfl rfl (Nat.le_of_ble_eq_true rfl) dJ6_putCharsAt_27) ?_
  refine j_aload_n (j := 2) dJ6_putCharsAt_30 rfl rfl ?_
  refine j_iload_n (j := 0) dJ6_putCharsAt_31 rfl rfl ?_
  refine j_iinc (j := 0) (v := (((x1 + 1) + 1) + 1)) (lv' := [(1, vI (((x1 + 1) + 1) + 1)), (6, vI (x1 + 4)), (0, vR x0), (2, vI x2), (3, vI x3), (4, vI x4), (5, vI x5)]) dJ6_putCharsAt_32 rfl rfl (Nat.le_of_ble_eq_true rfl) rfl ?_
  refine j_iload (j := 5) dJ6_putCharsAt_35 rfl ?_
  replace h := zbE h
  obtain ⟨G8, e7, h⟩ := h
  refine j_cont (zrS (As := [vR x0, vI ((x1 + 1) + 1), vI x4]) msJ6_111 (yJ6_putChar_ok e7) (Nat.le_trans (Nat.le_of_ble_eq_true rfl) hd) rfl rfl (Nat.le_of_ble_eq_true rfl) dJ6_putCharsAt_37) ?_
  refine j_aload_n (j := 2) dJ6_putCharsAt_40 rfl rfl ?_
  refine j_iload_n (j := 0) dJ6_putCharsAt_41 rfl rfl ?_
  refine j_iinc (j := 0) (v := ((((x1 + 1) + 1) + 1) + 1)) (lv' := [(1, vI ((((x1 + 1) + 1) + 1) + 1)), (6, vI (x1 + 4)), (0, vR x0), (2, vI x2), (3, vI x3), (4, vI x4), (5, vI x5)]) dJ6_putCharsAt_42 rfl rfl (Nat.le_of_ble_eq_true rfl) rfl ?_
  refine j_iload (j := 6) dJ6_putCharsAt_45 rfl ?_
  replace h := zbE h
  obtain ⟨G10, e9, h⟩ := h
  refine j_cont (zrS (As := [vR x0, vI (((x1 + 1) + 1) + 1), vI x5]) msJ6_111 (yJ6_putChar_ok e9) (Nat.le_trans (Nat.le_of_ble_eq_true rfl) hd) rfl rfl (Nat.le_of_ble_eq_true rfl) dJ6_putCharsAt_47) ?_
  cases h
theorem yJ6_putCharsAt_ok {x0 : Option Nat} {x1 : Int32} {x2 : Int32} {x3 : Int32} {x4 : Int32} {x5 : Int32} {G : GS} {r : Int32} {G1 : GS} (h : fJ6_putCharsAt_0 x0 x1 x2 x3 x4 x5 G = some (r, G1)) : zRuns yJ6_putCharsAt (ws_ yJ6_putCharsAt cJ6_putCharsAt 7 (some Jvm.ClassFile.FieldType.int)) [vR x0, vI x1, vI x2, vI x3, vI x4, vI x5] (.inl (some (vI r)), G, G1, 4) :=
  zentry (M := mJ6_putCharsAt) (plainFor_of_name (by decide +kernel)) ⟨rfl, rfl, rfl, rfl⟩ (Nat.le_of_ble_eq_true rfl) (wfJ6_putCharsAt_0 (Nat.le_refl _) x0 x1 x2 x3 x4 x5 G h ⟨rfl, rfl⟩)
theorem fpJ3_79_J4 : zFP RJ3 79 21 3 (.int) false := ⟨(RJ4, TJ4, 4, tyJ4), rfl, by decide, in_J4, tyJ4_ok, nmJ4, rfl, rfl, (by decide), "java/lang/AbstractStringBuilder", Or.inl rfl, q234⟩
theorem msJ3_100_J4 : (Cond.methodLink RJ3 100 ⟨"java/lang/AbstractStringBuilder", "ensureCapacityInternal", "(I)V"⟩ ∈ lw_all ∧ Cond.sameMethod "java/lang/AbstractStringBuilder" "java/lang/AbstractStringBuilder" "ensureCapacityInternal" "(I)V" ∈ lw_all ∧ Cond.instanceMethod yJ3_ensureCapacityInternal ∈ lw_all ∧ Cond.initialized "java/lang/AbstractStringBuilder" ∈ lw_all ∧ Cond.code yJ3_ensureCapacityInternal cJ3_ensureCapacityInternal 3 none ∈ lw_all) ∧ (∀ (D : zD) (U : State), zTb D U → (Cond.selects "java/lang/StringBuilder" ⟨"java/lang/AbstractStringBuilder", "ensureCapacityInternal", "(I)V"⟩ yJ3_ensureCapacityInternal).before #[] U = true) ∧ yJ3_ensureCapacityInternal = ⟨"java/lang/AbstractStringBuilder", "ensureCapacityInternal", "(I)V"⟩ ∧ ("java/lang/AbstractStringBuilder" ≠ "java/lang/invoke/MethodHandle" ∧ "java/lang/AbstractStringBuilder" ≠ "java/lang/invoke/VarHandle" ∧ (parseMethodDescriptor "(I)V").map (fun d => d.parameters.length) = some 1) ∧ 3 ≤ 45 := ⟨⟨q2010, q3280, q2012, q127, q2013⟩, fun D U h => h.2.2.2.2.2.2.2.2, rfl, (by decide +kernel), (by decide)⟩
theorem msJ3_226 : zSS RJ3 226 yJ6_putCharsAt cJ6_putCharsAt 7 (some Jvm.ClassFile.FieldType.int) 6 := ⟨lw_S q2064 q2065 q130 q2066, (by decide +kernel), (by decide)⟩
theorem msJ3_83_J4 : zSU RJ3 83 "java/lang/StringBuilder" "java/lang/AbstractStringBuilder" ⟨"java/lang/AbstractStringBuilder", "isLatin1", "()Z"⟩ yJ3_isLatin1 cJ3_isLatin1 1 (some Jvm.ClassFile.FieldType.boolean) 0 := ⟨lw_U q943 q945 q946 q944 q127 q947, rfl, (by decide +kernel), (by decide)⟩
abbrev mJ3_appendNull : zM := (cJ3_appendNull, RJ3, 3, (some (Jvm.ClassFile.FieldType.object "java/lang/AbstractStringBuilder")), "appendNull", [], "()Ljava/lang/AbstractStringBuilder;")
def fJ3_appendNull_76 (t : Nat) (x1 : Int32)  (G : GS) : Option ((Option Nat) × GS) :=
  (zpI G 22 t 3 x1).bind fun G1 => some ((some t), G1)
theorem wfJ3_appendNull_76 {F : zF} (hd : 5 ≤ F.2.2.2) (t : Nat) (x1 : Int32)  (G : GS) {a : (Option Nat) × GS} (h : fJ3_appendNull_76 t x1  G = some a) (hk : zKR F a) : J mJ3_appendNull F G 76 [(0, vR (some t)), (1, vI x1)] [] := by
  unfold fJ3_appendNull_76 at h
  refine j_aload_n (j := 0) dJ3_appendNull_76 rfl rfl ?_
  refine j_iload_n (j := 1) dJ3_appendNull_77 rfl rfl ?_
  replace h := zbE h
  obtain ⟨G1, e2, h⟩ := h
  refine j_putI fpJ3_79_J4 (Or.inl rfl) rfl dJ3_appendNull_78 e2 ?_
  refine j_aload_n (j := 0) dJ3_appendNull_81 rfl rfl ?_
  obtain rfl := Option.some.inj h
  exact j_aret hk.1 hk.2 rfl (Or.inl ⟨_, rfl⟩) dJ3_appendNull_82
def fJ3_appendNull_0 (t : Nat)  (G : GS) : Option ((Option Nat) × GS) :=
  (zgI G 22 t 3).bind fun v1 => zk [22] G t <| (fJ3_ensureCapacityInternal_0 t (v1 + 4) G).bind fun G5 => (zgI G5 22 t 3).bind fun v6 => (zgR G5 22 t 0).bind fun r8 => zk [22] G5 t <| (fJ3_isLatin1_0 t G5).bind fun v12 => if v12 = 0 then (zb2 (fJ6_putCharsAt_0 r8 v6 110 117 108 108 G5) fun v15 G16 => fJ3_appendNull_76 t v15 G16) else (r8.bind fun a17 => (zsB G5 53 a17 v6 110).bind fun G19 => (zsB G19 53 a17 (v6 + 1) 117).bind fun G21 => (zsB G21 53 a17 ((v6 + 1) + 1) 108).bind fun G23 => (zsB G23 53 a17 (((v6 + 1) + 1) + 1) 108).bind fun G25 => fJ3_appendNull_76 t ((((v6 + 1) + 1) + 1) + 1) G25)
theorem wfJ3_appendNull_0 {F : zF} (hd : 5 ≤ F.2.2.2) (t : Nat)  (G : GS) {a : (Option Nat) × GS} (h : fJ3_appendNull_0 t  G = some a) (hk : zKR F a) : J mJ3_appendNull F G 0 [(0, vR (some t))] [] := by
  unfold fJ3_appendNull_0 at h
  refine j_aload_n (j := 0) dJ3_appendNull_0 rfl rfl ?_
  refine j_aload_n (j := 0) dJ3_appendNull_1 rfl rfl ?_
  replace h := zbE h
  obtain ⟨v1, e2, h⟩ := h
  refine j_getI fgJ3_79 (fun _ _ _ => rfl) dJ3_appendNull_2 e2 ?_
  refine j_iconst (v := 4) dJ3_appendNull_5 (by decide) ?_
  refine j_iadd dJ3_appendNull_6 ?_
  replace h := zkE h
  obtain ⟨e3, h⟩ := h
  replace h := zbE h
  obtain ⟨G5, e4, h⟩ := h
  refine j_cont (zrP (As := [vI (v1 + 4)]) msJ3_100_J4 (yJ3_ensureCapacityInternal_ok e4) (Nat.le_trans (Nat.le_of_ble_eq_true rfl) hd) (zk_22 _ e3) rfl rfl (Nat.le_of_ble_eq_true rfl) dJ3_appendNull_7) ?_
  refine j_aload_n (j := 0) dJ3_appendNull_10 rfl rfl ?_
  replace h := zbE h
  obtain ⟨v6, e7, h⟩ := h
  refine j_getI fgJ3_79 (fun _ _ _ => rfl) dJ3_appendNull_11 e7 ?_
  refine j_istore_n (lv' := [(1, vI v6), (0, vR (some t))]) dJ3_appendNull_14 rfl (Nat.le_of_ble_eq_true rfl) rfl ?_
  refine j_aload_n (j := 1) dJ3_appendNull_15 rfl rfl ?_
  replace h := zbE h
  obtain ⟨r8, e9, h⟩ := h
  refine j_getR fgJ3_15 (fun _ _ _ => rfl) dJ3_appendNull_16 e9 ?_
  refine j_astore_n (lv' := [(2, vR r8), (1, vI v6), (0, vR (some t))]) dJ3_appendNull_19 rfl (Nat.le_of_ble_eq_true rfl) rfl ?_
  refine j_aload_n (j := 2) dJ3_appendNull_20 rfl rfl ?_
  replace h := zkE h
  obtain ⟨e10, h⟩ := h
  replace h := zbE h
  obtain ⟨v12, e11, h⟩ := h
  refine j_cont (zrU (As := []) msJ3_83_J4 (yJ3_isLatin1_ok e11) (Nat.le_trans (Nat.le_of_ble_eq_true rfl) hd) (zk_22 _ e10) rfl rfl (Nat.le_of_ble_eq_true rfl) dJ3_appendNull_21) ?_
  refine j_if_eq (tgt := 62) dJ3_appendNull_24 (by decide) (fun c13 => ?_) (fun c13 => ?_)
  · rw [if_pos c13] at h
    refine j_aload_n (j := 0) dJ3_appendNull_62 rfl rfl ?_
    refine j_iload_n (j := 1) dJ3_appendNull_63 rfl rfl ?_
    refine j_bipush (v := 110) dJ3_appendNull_64 (by decide) ?_
    refine j_bipush (v := 117) dJ3_appendNull_66 (by decide) ?_
    refine j_bipush (v := 108) dJ3_appendNull_68 (by decide) ?_
    refine j_bipush (v := 108) dJ3_appendNull_70 (by decide) ?_
    replace h := zb2E h
    obtain ⟨v15, G16, e14, h⟩ := h
    refine j_cont (zrS (As := [vR r8, vI v6, vI 110, vI 117, vI 108, vI 108]) msJ3_226 (yJ6_putCharsAt_ok e14) (Nat.le_trans (Nat.le_of_ble_eq_true rfl) hd) rfl rfl (Nat.le_of_ble_eq_true rfl) dJ3_appendNull_72) ?_
    refine j_istore_n (lv' := [(1, vI v15), (2, vR r8), (0, vR (some t))]) dJ3_appendNull_75 rfl (Nat.le_of_ble_eq_true rfl) rfl ?_
    exact J.sub (zall [2, 0] rfl) (wfJ3_appendNull_76 hd t v15  G16 h hk)
  · rw [if_neg c13] at h
    refine j_aload_n (j := 0) dJ3_appendNull_27 rfl rfl ?_
    refine j_iload_n (j := 1) dJ3_appendNull_28 rfl rfl ?_
    refine j_iinc (j := 1) (v := (v6 + 1)) (lv' := [(1, vI (v6 + 1)), (2, vR r8), (0, vR (some t))]) dJ3_appendNull_29 rfl rfl (Nat.le_of_ble_eq_true rfl) rfl ?_
    refine j_bipush (v := 110) dJ3_appendNull_32 (by decide) ?_
    replace h := zbE h
    obtain ⟨a17, e18, h⟩ := h
    subst e18
    replace h := zbE h
    obtain ⟨G19, e20, h⟩ := h
    refine j_bast e20 dJ3_appendNull_34 ?_
    refine j_aload_n (j := 1) dJ3_appendNull_35 rfl rfl ?_
    refine j_iload_n (j := 0) dJ3_appendNull_36 rfl rfl ?_
    refine j_iinc (j := 0) (v := ((v6 + 1) + 1)) (lv' := [(1, vI ((v6 + 1) + 1)), (2, vR (some a17)), (0, vR (some t))]) dJ3_appendNull_37 rfl rfl (Nat.le_of_ble_eq_true rfl) rfl ?_
    refine j_bipush (v := 117) dJ3_appendNull_40 (by decide) ?_
    replace h := zbE h
    obtain ⟨G21, e22, h⟩ := h
    refine j_bast e22 dJ3_appendNull_42 ?_
    refine j_aload_n (j := 1) dJ3_appendNull_43 rfl rfl ?_
    refine j_iload_n (j := 0) dJ3_appendNull_44 rfl rfl ?_
    refine j_iinc (j := 0) (v := (((v6 + 1) + 1) + 1)) (lv' := [(1, vI (((v6 + 1) + 1) + 1)), (2, vR (some a17)), (0, vR (some t))]) dJ3_appendNull_45 rfl rfl (Nat.le_of_ble_eq_true rfl) rfl ?_
    refine j_bipush (v := 108) dJ3_appendNull_48 (by decide) ?_
    replace h := zbE h
    obtain ⟨G23, e24, h⟩ := h
    refine j_bast e24 dJ3_appendNull_50 ?_
    refine j_aload_n (j := 1) dJ3_appendNull_51 rfl rfl ?_
    refine j_iload_n (j := 0) dJ3_appendNull_52 rfl rfl ?_
    refine j_iinc (j := 0) (v := ((((v6 + 1) + 1) + 1) + 1)) (lv' := [(1, vI ((((v6 + 1) + 1) + 1) + 1)), (2, vR (some a17)), (0, vR (some t))]) dJ3_appendNull_53 rfl rfl (Nat.le_of_ble_eq_true rfl) rfl ?_
    refine j_bipush (v := 108) dJ3_appendNull_56 (by decide) ?_
    replace h := zbE h
    obtain ⟨G25, e26, h⟩ := h
    refine j_bast e26 dJ3_appendNull_58 ?_
    refine j_goto (tgt := 76) dJ3_appendNull_59 (by decide) ?_
    exact J.sub (zall [2, 0] rfl) (wfJ3_appendNull_76 hd t ((((v6 + 1) + 1) + 1) + 1)  G25 h hk)
theorem yJ3_appendNull_ok {t : Nat} {G : GS} {r : Option Nat} {G1 : GS} (h : fJ3_appendNull_0 t G = some (r, G1)) : zRuns yJ3_appendNull (ws_ yJ3_appendNull cJ3_appendNull 3 (some (Jvm.ClassFile.FieldType.object "java/lang/AbstractStringBuilder"))) [vR (some t)] (.inl (some (vR r)), G, G1, 5) :=
  zentry (M := mJ3_appendNull) (plainFor_of_name (by decide +kernel)) ⟨rfl, rfl, rfl, rfl⟩ (Nat.le_of_ble_eq_true rfl) (wfJ3_appendNull_0 (Nat.le_refl _) t G h ⟨rfl, rfl⟩)
abbrev mJ17_checkFromIndexSize : zM := (cJ17_checkFromIndexSize, RJ17, 4, (some Jvm.ClassFile.FieldType.int), "checkFromIndexSize", [], "(IIILjava/util/function/BiFunction;)I")
def fJ17_checkFromIndexSize_15 (x0 : Int32) (x1 : Int32) (x2 : Int32) (x3 : Option Nat)  (G : GS) : Option (Int32) :=
  none
theorem wfJ17_checkFromIndexSize_15 {F : zF} (hd : 1 ≤ F.2.2.2) (x0 : Int32) (x1 : Int32) (x2 : Int32) (x3 : Option Nat)  (G : GS) {a : Int32} (h : fJ17_checkFromIndexSize_15 x0 x1 x2 x3  G = some a) (hk : zKPI F G a) : J mJ17_checkFromIndexSize F G 15 [(0, vI x0), (1, vI x1), (2, vI x2), (3, vR x3)] [] := by
  unfold fJ17_checkFromIndexSize_15 at h
  refine j_aload_n (j := 3) dJ17_checkFromIndexSize_15 rfl rfl ?_
  refine j_iload_n (j := 0) dJ17_checkFromIndexSize_16 rfl rfl ?_
  refine j_iload_n (j := 1) dJ17_checkFromIndexSize_17 rfl rfl ?_
  refine j_iload_n (j := 2) dJ17_checkFromIndexSize_18 rfl rfl ?_
  cases h
def fJ17_checkFromIndexSize_0 (x0 : Int32) (x1 : Int32) (x2 : Int32) (x3 : Option Nat)  (G : GS) : Option (Int32) :=
  if ((x2 ||| x0) ||| x1) < 0 then (fJ17_checkFromIndexSize_15 x0 x1 x2 x3 G) else (if x1 ≤ (x2 - x0) then (some x0) else (fJ17_checkFromIndexSize_15 x0 x1 x2 x3 G))
theorem wfJ17_checkFromIndexSize_0 {F : zF} (hd : 1 ≤ F.2.2.2) (x0 : Int32) (x1 : Int32) (x2 : Int32) (x3 : Option Nat)  (G : GS) {a : Int32} (h : fJ17_checkFromIndexSize_0 x0 x1 x2 x3  G = some a) (hk : zKPI F G a) : J mJ17_checkFromIndexSize F G 0 [(0, vI x0), (1, vI x1), (2, vI x2), (3, vR x3)] [] := by
  unfold fJ17_checkFromIndexSize_0 at h
  refine j_iload_n (j := 2) dJ17_checkFromIndexSize_0 rfl rfl ?_
  refine j_iload_n (j := 0) dJ17_checkFromIndexSize_1 rfl rfl ?_
  refine j_ior dJ17_checkFromIndexSize_2 ?_
  refine j_iload_n (j := 1) dJ17_checkFromIndexSize_3 rfl rfl ?_
  refine j_ior dJ17_checkFromIndexSize_4 ?_
  refine j_if_lt (tgt := 15) dJ17_checkFromIndexSize_5 (by decide) (fun c1 => ?_) (fun c1 => ?_)
  · rw [if_pos c1] at h
    exact J.sub (zall [0, 1, 2, 3] rfl) (wfJ17_checkFromIndexSize_15 hd x0 x1 x2 x3  G h hk)
  · rw [if_neg c1] at h
    refine j_iload_n (j := 1) dJ17_checkFromIndexSize_8 rfl rfl ?_
    refine j_iload_n (j := 2) dJ17_checkFromIndexSize_9 rfl rfl ?_
    refine j_iload_n (j := 0) dJ17_checkFromIndexSize_10 rfl rfl ?_
    refine j_isub dJ17_checkFromIndexSize_11 ?_
    refine j_icmp_le (tgt := 23) dJ17_checkFromIndexSize_12 (by decide) (fun c2 => ?_) (fun c2 => ?_)
    · rw [if_pos c2] at h
      refine j_iload_n (j := 0) dJ17_checkFromIndexSize_23 rfl rfl ?_
      obtain rfl := Option.some.inj h
      exact j_iret hk.1 hk.2 rfl dJ17_checkFromIndexSize_24
    · rw [if_neg c2] at h
      exact J.sub (zall [0, 1, 2, 3] rfl) (wfJ17_checkFromIndexSize_15 hd x0 x1 x2 x3  G h hk)
theorem yJ17_checkFromIndexSize_ok {x0 : Int32} {x1 : Int32} {x2 : Int32} {x3 : Option Nat} {G : GS} {r : Int32} (h : fJ17_checkFromIndexSize_0 x0 x1 x2 x3 G = some r) : zRuns yJ17_checkFromIndexSize (ws_ yJ17_checkFromIndexSize cJ17_checkFromIndexSize 4 (some Jvm.ClassFile.FieldType.int)) [vI x0, vI x1, vI x2, vR x3] (.inl (some (vI r)), G, G, 1) :=
  zentry (M := mJ17_checkFromIndexSize) (plainFor_of_name (by decide +kernel)) ⟨rfl, rfl, rfl, rfl⟩ (Nat.le_of_ble_eq_true rfl) (wfJ17_checkFromIndexSize_0 (Nat.le_refl _) x0 x1 x2 x3 G h ⟨rfl, rfl⟩)
theorem msJ5_1065 : zSS RJ5 1065 yJ17_checkFromIndexSize cJ17_checkFromIndexSize 4 (some Jvm.ClassFile.FieldType.int) 4 := ⟨lw_S q2096 q2097 q144 q2098, (by decide +kernel), (by decide)⟩
abbrev mJ5_checkBoundsOffCount : zM := (cJ5_checkBoundsOffCount, RJ5, 3, (some Jvm.ClassFile.FieldType.int), "checkBoundsOffCount", [], "(III)I")
def fJ5_checkBoundsOffCount_0 (x0 : Int32) (x1 : Int32) (x2 : Int32)  (G : GS) : Option (Int32) :=
  (fJ17_checkFromIndexSize_0 x0 x1 x2 (some (gS G 4)) G).bind fun v2 => some v2
theorem wfJ5_checkBoundsOffCount_0 {F : zF} (hd : 2 ≤ F.2.2.2) (x0 : Int32) (x1 : Int32) (x2 : Int32)  (G : GS) {a : Int32} (h : fJ5_checkBoundsOffCount_0 x0 x1 x2  G = some a) (hk : zKPI F G a) : J mJ5_checkBoundsOffCount F G 0 [(0, vI x0), (1, vI x1), (2, vI x2)] [] := by
  unfold fJ5_checkBoundsOffCount_0 at h
  refine j_iload_n (j := 0) dJ5_checkBoundsOffCount_0 rfl rfl ?_
  refine j_iload_n (j := 1) dJ5_checkBoundsOffCount_1 rfl rfl ?_
  refine j_iload_n (j := 2) dJ5_checkBoundsOffCount_2 rfl rfl ?_
  refine j_gets (i := 4) (x := vR (some (gS G 4))) rfl rfl q958 dJ5_checkBoundsOffCount_3 ?_
  replace h := zbE h
  obtain ⟨v2, e1, h⟩ := h
  refine j_cont (zrS (As := [vI x0, vI x1, vI x2, vR (some (gS G 4))]) msJ5_1065 (yJ17_checkFromIndexSize_ok e1) (Nat.le_trans (Nat.le_of_ble_eq_true rfl) hd) rfl rfl (Nat.le_of_ble_eq_true rfl) dJ5_checkBoundsOffCount_6) ?_
  obtain rfl := Option.some.inj h
  exact j_iret hk.1 hk.2 rfl dJ5_checkBoundsOffCount_9
theorem yJ5_checkBoundsOffCount_ok {x0 : Int32} {x1 : Int32} {x2 : Int32} {G : GS} {r : Int32} (h : fJ5_checkBoundsOffCount_0 x0 x1 x2 G = some r) : zRuns yJ5_checkBoundsOffCount (ws_ yJ5_checkBoundsOffCount cJ5_checkBoundsOffCount 3 (some Jvm.ClassFile.FieldType.int)) [vI x0, vI x1, vI x2] (.inl (some (vI r)), G, G, 2) :=
  zentry (M := mJ5_checkBoundsOffCount) (plainFor_of_name (by decide +kernel)) ⟨rfl, rfl, rfl, rfl⟩ (Nat.le_of_ble_eq_true rfl) (wfJ5_checkBoundsOffCount_0 (Nat.le_refl _) x0 x1 x2 G h ⟨rfl, rfl⟩)
theorem msJ6_419 : zSS RJ6 419 yJ5_checkBoundsOffCount cJ5_checkBoundsOffCount 3 (some Jvm.ClassFile.FieldType.int) 3 := ⟨lw_S q2093 q2094 q129 q2095, (by decide +kernel), (by decide)⟩
abbrev mJ6_checkBoundsOffCount : zM := (cJ6_checkBoundsOffCount, RJ6, 3, none, "checkBoundsOffCount", [], "(II[B)V")
def fJ6_checkBoundsOffCount_0 (x0 : Int32) (x1 : Int32) (x2 : Option Nat)  (G : GS) : Option (GS) :=
  (fJ6_length_0 x2 G).bind fun v2 => (fJ5_checkBoundsOffCount_0 x0 x1 v2 G).bind fun v4 => some G
theorem wfJ6_checkBoundsOffCount_0 {F : zF} (hd : 3 ≤ F.2.2.2) (x0 : Int32) (x1 : Int32) (x2 : Option Nat)  (G : GS) {a : GS} (h : fJ6_checkBoundsOffCount_0 x0 x1 x2  G = some a) (hk : zKV F a) : J mJ6_checkBoundsOffCount F G 0 [(0, vI x0), (1, vI x1), (2, vR x2)] [] := by
  unfold fJ6_checkBoundsOffCount_0 at h
  refine j_iload_n (j := 0) dJ6_checkBoundsOffCount_0 rfl rfl ?_
  refine j_iload_n (j := 1) dJ6_checkBoundsOffCount_1 rfl rfl ?_
  refine j_aload_n (j := 2) dJ6_checkBoundsOffCount_2 rfl rfl ?_
  replace h := zbE h
  obtain ⟨v2, e1, h⟩ := h
  refine j_cont (zrS (As := [vR x2]) msJ6_48 (yJ6_length_ok e1) (Nat.le_trans (Nat.le_of_ble_eq_true rfl) hd) rfl rfl (Nat.le_of_ble_eq_true rfl) dJ6_checkBoundsOffCount_3) ?_
  replace h := zbE h
  obtain ⟨v4, e3, h⟩ := h
  refine j_cont (zrS (As := [vI x0, vI x1, vI v2]) msJ6_419 (yJ5_checkBoundsOffCount_ok e3) (Nat.le_trans (Nat.le_of_ble_eq_true rfl) hd) rfl rfl (Nat.le_of_ble_eq_true rfl) dJ6_checkBoundsOffCount_6) ?_
  refine j_pop dJ6_checkBoundsOffCount_9 rfl ?_
  obtain rfl := Option.some.inj h
  exact j_vret hk.1 hk.2 rfl dJ6_checkBoundsOffCount_10
theorem yJ6_checkBoundsOffCount_ok {x0 : Int32} {x1 : Int32} {x2 : Option Nat} {G : GS} {G1 : GS} (h : fJ6_checkBoundsOffCount_0 x0 x1 x2 G = some G1) : zRuns yJ6_checkBoundsOffCount (ws_ yJ6_checkBoundsOffCount cJ6_checkBoundsOffCount 3 none) [vI x0, vI x1, vR x2] (.inl none, G, G1, 3) :=
  zentry (M := mJ6_checkBoundsOffCount) (plainFor_of_name (by decide +kernel)) ⟨rfl, rfl, rfl, rfl⟩ (Nat.le_of_ble_eq_true rfl) (wfJ6_checkBoundsOffCount_0 (Nat.le_refl _) x0 x1 x2 G h ⟨rfl, rfl⟩)
theorem msJ6_173 : zSS RJ6 173 yJ6_checkBoundsOffCount cJ6_checkBoundsOffCount 3 none 3 := ⟨lw_S q2090 q2091 q130 q2092, (by decide +kernel), (by decide)⟩
abbrev mJ6_inflate : zM := (cJ6_inflate, RJ6, 6, none, "inflate", [], "([BI[BII)V")
def fbJ6_inflate_10 (x0 : Option Nat) (x1 : Int32) (x2 : Option Nat) (x3 : Int32) (x4 : Int32) (x5 : Int32)  (G : GS) : Option ((Int32 × Int32 × Int32 × GS) ⊕ (GS)) :=
  if x4 ≤ x5 then (zo (some G)) else (x0.bind fun a2 => (zaI G 53 a2 x1).bind fun v4 => (fJ6_putChar_0 x2 x3 (v4 &&& 255) G).bind fun G7 => some (.inl ((x1 + 1), (x3 + 1), (x5 + 1), G7)))
def flJ6_inflate_10 (x0 : Option Nat) (x1 : Int32) (x2 : Option Nat) (x3 : Int32) (x4 : Int32) (x5 : Int32) (G : GS) : Option (GS) := zloop (fun s : Int32 × Int32 × Int32 × GS => fbJ6_inflate_10 x0 s.1 x2 s.2.1 x4 s.2.2.1 s.2.2.2) (x1, x3, x5, G)
theorem wfbJ6_inflate_10 {F : zF} (hd : 4 ≤ F.2.2.2) (x0 : Option Nat) (x1 : Int32) (x2 : Option Nat) (x3 : Int32) (x4 : Int32) (x5 : Int32) (G : GS) {a : (Int32 × Int32 × Int32 × GS) ⊕ (GS)} (h : fbJ6_inflate_10 x0 x1 x2 x3 x4 x5 G = some a) (hk : (zcase (fun s : Int32 × Int32 × Int32 × GS => J mJ6_inflate F s.2.2.2 10 [(0, vR x0), (1, vI s.1), (2, vR x2), (3, vI s.2.1), (4, vI x4), (5, vI s.2.2.1)] []) (zKV F)) a) : J mJ6_inflate F G 10 [(0, vR x0), (1, vI x1), (2, vR x2), (3, vI x3), (4, vI x4), (5, vI x5)] [] := by
  unfold fbJ6_inflate_10 at h
  refine j_iload (j := 5) dJ6_inflate_10 rfl ?_
  refine j_iload (j := 4) dJ6_inflate_12 rfl ?_
  refine j_icmp_ge (tgt := 41) dJ6_inflate_14 (by decide) (fun c1 => ?_) (fun c1 => ?_)
  · rw [if_pos c1] at h
    replace h := zoE h
    obtain ⟨a, h, rfl⟩ := h
    replace hk := hk
    obtain rfl := Option.some.inj h
    exact j_vret hk.1 hk.2 rfl dJ6_inflate_41
  · rw [if_neg c1] at h
    refine j_aload_n (j := 2) dJ6_inflate_17 rfl rfl ?_
    refine j_iload_n (j := 3) dJ6_inflate_18 rfl rfl ?_
    refine j_iinc (j := 3) (v := (x3 + 1)) (lv' := [(3, vI (x3 + 1)), (0, vR x0), (1, vI x1), (2, vR x2), (4, vI x4), (5, vI x5)]) dJ6_inflate_19 rfl rfl (Nat.le_of_ble_eq_true rfl) rfl ?_
    refine j_aload_n (j := 1) dJ6_inflate_22 rfl rfl ?_
    refine j_iload_n (j := 2) dJ6_inflate_23 rfl rfl ?_
    refine j_iinc (j := 2) (v := (x1 + 1)) (lv' := [(1, vI (x1 + 1)), (3, vI (x3 + 1)), (0, vR x0), (2, vR x2), (4, vI x4), (5, vI x5)]) dJ6_inflate_24 rfl rfl (Nat.le_of_ble_eq_true rfl) rfl ?_
    replace h := zbE h
    obtain ⟨a2, e3, h⟩ := h
    subst e3
    replace h := zbE h
    obtain ⟨v4, e5, h⟩ := h
    refine j_bald rfl e5 dJ6_inflate_27 ?_
    refine j_sipush (v := 255) dJ6_inflate_28 (by decide) ?_
    refine j_iand dJ6_inflate_31 ?_
    replace h := zbE h
    obtain ⟨G7, e6, h⟩ := h
    refine j_cont (zrS (As := [vR x2, vI x3, vI (v4 &&& 255)]) msJ6_111 (yJ6_putChar_ok e6) (Nat.le_trans (Nat.le_of_ble_eq_true rfl) hd) rfl rfl (Nat.le_of_ble_eq_true rfl) dJ6_inflate_32) ?_
    refine j_iinc (j := 5) (v := (x5 + 1)) (lv' := [(5, vI (x5 + 1)), (1, vI (x1 + 1)), (3, vI (x3 + 1)), (0, vR (some a2)), (2, vR x2), (4, vI x4)]) dJ6_inflate_35 rfl rfl (Nat.le_of_ble_eq_true rfl) rfl ?_
    refine j_goto (tgt := 10) dJ6_inflate_38 (by decide) ?_
    obtain rfl := Option.some.inj h
    exact J.sub (zall [3, 1, 4, 2, 5, 0] rfl) hk
theorem wflJ6_inflate_10 {F : zF} (hd : 4 ≤ F.2.2.2) (x0 : Option Nat) (x1 : Int32) (x2 : Option Nat) (x3 : Int32) (x4 : Int32) (x5 : Int32) (G : GS) {a : GS} (h : flJ6_inflate_10 x0 x1 x2 x3 x4 x5 G = some a) (hk : zKV F a) : J mJ6_inflate F G 10 [(0, vR x0), (1, vI x1), (2, vR x2), (3, vI x3), (4, vI x4), (5, vI x5)] [] := by
  unfold flJ6_inflate_10 at h
  exact zloop_walk (P := (fun s : Int32 × Int32 × Int32 × GS => J mJ6_inflate F s.2.2.2 10 [(0, vR x0), (1, vI s.1), (2, vR x2), (3, vI s.2.1), (4, vI x4), (5, vI s.2.2.1)] [])) (fun s b e hk => wfbJ6_inflate_10 hd x0 s.1 x2 s.2.1 x4 s.2.2.1 s.2.2.2 e hk) (x1, x3, x5, G) _ h hk
def fJ6_inflate_0 (x0 : Option Nat) (x1 : Int32) (x2 : Option Nat) (x3 : Int32) (x4 : Int32)  (G : GS) : Option (GS) :=
  (fJ6_checkBoundsOffCount_0 x3 x4 x2 G).bind fun G2 => flJ6_inflate_10 x0 x1 x2 x3 x4 0 G2
theorem wfJ6_inflate_0 {F : zF} (hd : 4 ≤ F.2.2.2) (x0 : Option Nat) (x1 : Int32) (x2 : Option Nat) (x3 : Int32) (x4 : Int32)  (G : GS) {a : GS} (h : fJ6_inflate_0 x0 x1 x2 x3 x4  G = some a) (hk : zKV F a) : J mJ6_inflate F G 0 [(0, vR x0), (1, vI x1), (2, vR x2), (3, vI x3), (4, vI x4)] [] := by
  unfold fJ6_inflate_0 at h
  refine j_iload_n (j := 3) dJ6_inflate_0 rfl rfl ?_
  refine j_iload (j := 4) dJ6_inflate_1 rfl ?_
  refine j_aload_n (j := 2) dJ6_inflate_3 rfl rfl ?_
  replace h := zbE h
  obtain ⟨G2, e1, h⟩ := h
  refine j_cont (zrS (As := [vI x3, vI x4, vR x2]) msJ6_173 (yJ6_checkBoundsOffCount_ok e1) (Nat.le_trans (Nat.le_of_ble_eq_true rfl) hd) rfl rfl (Nat.le_of_ble_eq_true rfl) dJ6_inflate_4) ?_
  refine j_iconst (v := 0) dJ6_inflate_7 (by decide) ?_
  refine j_istore (lv' := [(5, vI 0), (0, vR x0), (1, vI x1), (2, vR x2), (3, vI x3), (4, vI x4)]) dJ6_inflate_8 (Nat.le_of_ble_eq_true rfl) rfl ?_
  exact J.sub (zall [1, 2, 3, 4, 5, 0] rfl) (wflJ6_inflate_10 hd x0 x1 x2 x3 x4 0  G2 h hk)
theorem yJ6_inflate_ok {x0 : Option Nat} {x1 : Int32} {x2 : Option Nat} {x3 : Int32} {x4 : Int32} {G : GS} {G1 : GS} (h : fJ6_inflate_0 x0 x1 x2 x3 x4 G = some G1) : zRuns yJ6_inflate (ws_ yJ6_inflate cJ6_inflate 6 none) [vR x0, vI x1, vR x2, vI x3, vI x4] (.inl none, G, G1, 4) :=
  zentry (M := mJ6_inflate) (plainFor_of_name (by decide +kernel)) ⟨rfl, rfl, rfl, rfl⟩ (Nat.le_of_ble_eq_true rfl) (wfJ6_inflate_0 (Nat.le_refl _) x0 x1 x2 x3 x4 G h ⟨rfl, rfl⟩)
theorem msJ29_240 : zSS RJ29 240 yJ6_inflate cJ6_inflate 6 none 5 := ⟨lw_S q2087 q2088 q130 q2089, (by decide +kernel), (by decide)⟩
abbrev mJ29_inflate : zM := (cJ29_inflate, RJ29, 5, none, "inflate", [], "([BI[BII)V")
def fJ29_inflate_0 (x0 : Option Nat) (x1 : Int32) (x2 : Option Nat) (x3 : Int32) (x4 : Int32)  (G : GS) : Option (GS) :=
  (fJ6_inflate_0 x0 x1 x2 x3 x4 G).bind fun G2 => some G2
theorem wfJ29_inflate_0 {F : zF} (hd : 5 ≤ F.2.2.2) (x0 : Option Nat) (x1 : Int32) (x2 : Option Nat) (x3 : Int32) (x4 : Int32)  (G : GS) {a : GS} (h : fJ29_inflate_0 x0 x1 x2 x3 x4  G = some a) (hk : zKV F a) : J mJ29_inflate F G 0 [(0, vR x0), (1, vI x1), (2, vR x2), (3, vI x3), (4, vI x4)] [] := by
  unfold fJ29_inflate_0 at h
  refine j_aload_n (j := 0) dJ29_inflate_0 rfl rfl ?_
  refine j_iload_n (j := 1) dJ29_inflate_1 rfl rfl ?_
  refine j_aload_n (j := 2) dJ29_inflate_2 rfl rfl ?_
  refine j_iload_n (j := 3) dJ29_inflate_3 rfl rfl ?_
  refine j_iload (j := 4) dJ29_inflate_4 rfl ?_
  replace h := zbE h
  obtain ⟨G2, e1, h⟩ := h
  refine j_cont (zrS (As := [vR x0, vI x1, vR x2, vI x3, vI x4]) msJ29_240 (yJ6_inflate_ok e1) (Nat.le_trans (Nat.le_of_ble_eq_true rfl) hd) rfl rfl (Nat.le_of_ble_eq_true rfl) dJ29_inflate_6) ?_
  obtain rfl := Option.some.inj h
  exact j_vret hk.1 hk.2 rfl dJ29_inflate_9
theorem yJ29_inflate_ok {x0 : Option Nat} {x1 : Int32} {x2 : Option Nat} {x3 : Int32} {x4 : Int32} {G : GS} {G1 : GS} (h : fJ29_inflate_0 x0 x1 x2 x3 x4 G = some G1) : zRuns yJ29_inflate (ws_ yJ29_inflate cJ29_inflate 5 none) [vR x0, vI x1, vR x2, vI x3, vI x4] (.inl none, G, G1, 5) :=
  zentry (M := mJ29_inflate) (plainFor_of_name (by decide +kernel)) ⟨rfl, rfl, rfl, rfl⟩ (Nat.le_of_ble_eq_true rfl) (wfJ29_inflate_0 (Nat.le_refl _) x0 x1 x2 x3 x4 G h ⟨rfl, rfl⟩)
end
