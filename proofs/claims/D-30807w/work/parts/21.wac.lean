/-! printed: functions and walks -/
set_option maxRecDepth 100000
noncomputable section
theorem msJ25_308 : zSS RJ25 308 yJ26_numberOfLeadingZeros cJ26_numberOfLeadingZeros 2 (some Jvm.ClassFile.FieldType.int) 1 := ⟨lw_S q586 q587 q156 q588, (by decide +kernel), (by decide)⟩
abbrev mJ25_numberOfLeadingZeros : zM := (cJ25_numberOfLeadingZeros, RJ25, 3, (some Jvm.ClassFile.FieldType.int), "numberOfLeadingZeros", [], "(J)I")
def fJ25_numberOfLeadingZeros_0 (x0 : Int64)  (G : GS) : Option (Int32) :=
  if (((x0.toUInt64 >>> ((32 : Int32).toInt64.toUInt64 &&& Int64.toUInt64 63)).toInt64).toInt32) = 0 then ((fJ26_numberOfLeadingZeros_0 x0.toInt32 G).bind fun v3 => some (32 + v3)) else ((fJ26_numberOfLeadingZeros_0 (((x0.toUInt64 >>> ((32 : Int32).toInt64.toUInt64 &&& Int64.toUInt64 63)).toInt64).toInt32) G).bind fun v5 => some v5)
theorem wfJ25_numberOfLeadingZeros_0 {F : zF} (hd : 2 ≤ F.2.2.2) (x0 : Int64)  (G : GS) {a : Int32} (h : fJ25_numberOfLeadingZeros_0 x0  G = some a) (hk : zKPI F G a) : J mJ25_numberOfLeadingZeros F G 0 [(0, vL x0)] [] := by
  unfold fJ25_numberOfLeadingZeros_0 at h
  refine j_lload_n (j := 0) dJ25_numberOfLeadingZeros_0 rfl rfl ?_
  refine j_bipush (v := 32) dJ25_numberOfLeadingZeros_1 (by decide) ?_
  refine j_lushr dJ25_numberOfLeadingZeros_3 ?_
  refine j_l2i dJ25_numberOfLeadingZeros_4 ?_
  refine j_istore_n (lv' := [(2, vI (((x0.toUInt64 >>> ((32 : Int32).toInt64.toUInt64 &&& Int64.toUInt64 63)).toInt64).toInt32)), (0, vL x0)]) dJ25_numberOfLeadingZeros_5 rfl (Nat.le_of_ble_eq_true rfl) rfl ?_
  refine j_iload_n (j := 0) dJ25_numberOfLeadingZeros_6 rfl rfl ?_
  refine j_if_ne (tgt := 21) dJ25_numberOfLeadingZeros_7 (by decide) (fun c1 => ?_) (fun c1 => ?_)
  · rw [if_pos c1] at h
    refine j_bipush (v := 32) dJ25_numberOfLeadingZeros_10 (by decide) ?_
    refine j_lload_n (j := 1) dJ25_numberOfLeadingZeros_12 rfl rfl ?_
    refine j_l2i dJ25_numberOfLeadingZeros_13 ?_
    replace h := zbE h
    obtain ⟨v3, e2, h⟩ := h
    refine j_cont (zrS (As := [vI x0.toInt32]) msJ25_308 (yJ26_numberOfLeadingZeros_ok e2) (Nat.le_trans (Nat.le_of_ble_eq_true rfl) hd) rfl rfl (Nat.le_of_ble_eq_true rfl) dJ25_numberOfLeadingZeros_14) ?_
    refine j_iadd dJ25_numberOfLeadingZeros_17 ?_
    refine j_goto (tgt := 25) dJ25_numberOfLeadingZeros_18 (by decide) ?_
    obtain rfl := Option.some.inj h
    exact j_iret hk.1 hk.2 rfl dJ25_numberOfLeadingZeros_25
  · rw [if_neg c1] at h
    refine j_iload_n (j := 0) dJ25_numberOfLeadingZeros_21 rfl rfl ?_
    replace h := zbE h
    obtain ⟨v5, e4, h⟩ := h
    refine j_cont (zrS (As := [vI (((x0.toUInt64 >>> ((32 : Int32).toInt64.toUInt64 &&& Int64.toUInt64 63)).toInt64).toInt32)]) msJ25_308 (yJ26_numberOfLeadingZeros_ok e4) (Nat.le_trans (Nat.le_of_ble_eq_true rfl) hd) rfl rfl (Nat.le_of_ble_eq_true rfl) dJ25_numberOfLeadingZeros_22) ?_
    obtain rfl := Option.some.inj h
    exact j_iret hk.1 hk.2 rfl dJ25_numberOfLeadingZeros_25
theorem yJ25_numberOfLeadingZeros_ok {x0 : Int64} {G : GS} {r : Int32} (h : fJ25_numberOfLeadingZeros_0 x0 G = some r) : zRuns yJ25_numberOfLeadingZeros (ws_ yJ25_numberOfLeadingZeros cJ25_numberOfLeadingZeros 3 (some Jvm.ClassFile.FieldType.int)) [vL x0] (.inl (some (vI r)), G, G, 2) :=
  zentry (M := mJ25_numberOfLeadingZeros) (plainFor_of_name (by decide +kernel)) ⟨rfl, rfl, rfl, rfl⟩ (Nat.le_of_ble_eq_true rfl) (wfJ25_numberOfLeadingZeros_0 (Nat.le_refl _) x0 G h ⟨rfl, rfl⟩)
abbrev mJ26_numberOfTrailingZeros : zM := (cJ26_numberOfTrailingZeros, RJ26, 2, (some Jvm.ClassFile.FieldType.int), "numberOfTrailingZeros", [], "(I)I")
def fJ26_numberOfTrailingZeros_74 (x0 : Int32) (x1 : Int32)  (G : GS) : Option (Int32) :=
  some (x1 + (x0.toUInt32 >>> ((1 : Int32).toUInt32 &&& Int32.toUInt32 31)).toInt32)
theorem wfJ26_numberOfTrailingZeros_74 {F : zF} (hd : 1 ≤ F.2.2.2) (x0 : Int32) (x1 : Int32)  (G : GS) {a : Int32} (h : fJ26_numberOfTrailingZeros_74 x0 x1  G = some a) (hk : zKPI F G a) : J mJ26_numberOfTrailingZeros F G 74 [(0, vI x0), (1, vI x1)] [] := by
  unfold fJ26_numberOfTrailingZeros_74 at h
  refine j_iload_n (j := 1) dJ26_numberOfTrailingZeros_74 rfl rfl ?_
  refine j_iload_n (j := 0) dJ26_numberOfTrailingZeros_75 rfl rfl ?_
  refine j_iconst (v := 1) dJ26_numberOfTrailingZeros_76 (by decide) ?_
  refine j_iushr dJ26_numberOfTrailingZeros_77 ?_
  refine j_iadd dJ26_numberOfTrailingZeros_78 ?_
  obtain rfl := Option.some.inj h
  exact j_iret hk.1 hk.2 rfl dJ26_numberOfTrailingZeros_79
def fJ26_numberOfTrailingZeros_62 (x0 : Int32) (x1 : Int32)  (G : GS) : Option (Int32) :=
  if x0 ≤ 4 then (fJ26_numberOfTrailingZeros_74 x0 x1 G) else (fJ26_numberOfTrailingZeros_74 ((x0.toUInt32 >>> ((2 : Int32).toUInt32 &&& Int32.toUInt32 31)).toInt32) (x1 + 2) G)
theorem wfJ26_numberOfTrailingZeros_62 {F : zF} (hd : 1 ≤ F.2.2.2) (x0 : Int32) (x1 : Int32)  (G : GS) {a : Int32} (h : fJ26_numberOfTrailingZeros_62 x0 x1  G = some a) (hk : zKPI F G a) : J mJ26_numberOfTrailingZeros F G 62 [(0, vI x0), (1, vI x1)] [] := by
  unfold fJ26_numberOfTrailingZeros_62 at h
  refine j_iload_n (j := 0) dJ26_numberOfTrailingZeros_62 rfl rfl ?_
  refine j_iconst (v := 4) dJ26_numberOfTrailingZeros_63 (by decide) ?_
  refine j_icmp_le (tgt := 74) dJ26_numberOfTrailingZeros_64 (by decide) (fun c1 => ?_) (fun c1 => ?_)
  · rw [if_pos c1] at h
    exact J.sub (zall [0, 1] rfl) (wfJ26_numberOfTrailingZeros_74 hd x0 x1  G h hk)
  · rw [if_neg c1] at h
    refine j_iinc (j := 1) (v := (x1 + 2)) (lv' := [(1, vI (x1 + 2)), (0, vI x0)]) dJ26_numberOfTrailingZeros_67 rfl rfl (Nat.le_of_ble_eq_true rfl) rfl ?_
    refine j_iload_n (j := 1) dJ26_numberOfTrailingZeros_70 rfl rfl ?_
    refine j_iconst (v := 2) dJ26_numberOfTrailingZeros_71 (by decide) ?_
    refine j_iushr dJ26_numberOfTrailingZeros_72 ?_
    refine j_istore_n (lv' := [(0, vI ((x0.toUInt32 >>> ((2 : Int32).toUInt32 &&& Int32.toUInt32 31)).toInt32)), (1, vI (x1 + 2))]) dJ26_numberOfTrailingZeros_73 rfl (Nat.le_of_ble_eq_true rfl) rfl ?_
    exact J.sub (zall [0, 1] rfl) (wfJ26_numberOfTrailingZeros_74 hd ((x0.toUInt32 >>> ((2 : Int32).toUInt32 &&& Int32.toUInt32 31)).toInt32) (x1 + 2)  G h hk)
def fJ26_numberOfTrailingZeros_49 (x0 : Int32) (x1 : Int32)  (G : GS) : Option (Int32) :=
  if x0 ≤ 16 then (fJ26_numberOfTrailingZeros_62 x0 x1 G) else (fJ26_numberOfTrailingZeros_62 ((x0.toUInt32 >>> ((4 : Int32).toUInt32 &&& Int32.toUInt32 31)).toInt32) (x1 + 4) G)
theorem wfJ26_numberOfTrailingZeros_49 {F : zF} (hd : 1 ≤ F.2.2.2) (x0 : Int32) (x1 : Int32)  (G : GS) {a : Int32} (h : fJ26_numberOfTrailingZeros_49 x0 x1  G = some a) (hk : zKPI F G a) : J mJ26_numberOfTrailingZeros F G 49 [(0, vI x0), (1, vI x1)] [] := by
  unfold fJ26_numberOfTrailingZeros_49 at h
  refine j_iload_n (j := 0) dJ26_numberOfTrailingZeros_49 rfl rfl ?_
  refine j_bipush (v := 16) dJ26_numberOfTrailingZeros_50 (by decide) ?_
  refine j_icmp_le (tgt := 62) dJ26_numberOfTrailingZeros_52 (by decide) (fun c1 => ?_) (fun c1 => ?_)
  · rw [if_pos c1] at h
    exact J.sub (zall [0, 1] rfl) (wfJ26_numberOfTrailingZeros_62 hd x0 x1  G h hk)
  · rw [if_neg c1] at h
    refine j_iinc (j := 1) (v := (x1 + 4)) (lv' := [(1, vI (x1 + 4)), (0, vI x0)]) dJ26_numberOfTrailingZeros_55 rfl rfl (Nat.le_of_ble_eq_true rfl) rfl ?_
    refine j_iload_n (j := 1) dJ26_numberOfTrailingZeros_58 rfl rfl ?_
    refine j_iconst (v := 4) dJ26_numberOfTrailingZeros_59 (by decide) ?_
    refine j_iushr dJ26_numberOfTrailingZeros_60 ?_
    refine j_istore_n (lv' := [(0, vI ((x0.toUInt32 >>> ((4 : Int32).toUInt32 &&& Int32.toUInt32 31)).toInt32)), (1, vI (x1 + 4))]) dJ26_numberOfTrailingZeros_61 rfl (Nat.le_of_ble_eq_true rfl) rfl ?_
    exact J.sub (zall [0, 1] rfl) (wfJ26_numberOfTrailingZeros_62 hd ((x0.toUInt32 >>> ((4 : Int32).toUInt32 &&& Int32.toUInt32 31)).toInt32) (x1 + 4)  G h hk)
def fJ26_numberOfTrailingZeros_34 (x0 : Int32) (x1 : Int32)  (G : GS) : Option (Int32) :=
  if x0 ≤ 256 then (fJ26_numberOfTrailingZeros_49 x0 x1 G) else (fJ26_numberOfTrailingZeros_49 ((x0.toUInt32 >>> ((8 : Int32).toUInt32 &&& Int32.toUInt32 31)).toInt32) (x1 + 8) G)
theorem wfJ26_numberOfTrailingZeros_34 {F : zF} (hd : 1 ≤ F.2.2.2) (x0 : Int32) (x1 : Int32)  (G : GS) {a : Int32} (h : fJ26_numberOfTrailingZeros_34 x0 x1  G = some a) (hk : zKPI F G a) : J mJ26_numberOfTrailingZeros F G 34 [(0, vI x0), (1, vI x1)] [] := by
  unfold fJ26_numberOfTrailingZeros_34 at h
  refine j_iload_n (j := 0) dJ26_numberOfTrailingZeros_34 rfl rfl ?_
  refine j_sipush (v := 256) dJ26_numberOfTrailingZeros_35 (by decide) ?_
  refine j_icmp_le (tgt := 49) dJ26_numberOfTrailingZeros_38 (by decide) (fun c1 => ?_) (fun c1 => ?_)
  · rw [if_pos c1] at h
    exact J.sub (zall [0, 1] rfl) (wfJ26_numberOfTrailingZeros_49 hd x0 x1  G h hk)
  · rw [if_neg c1] at h
    refine j_iinc (j := 1) (v := (x1 + 8)) (lv' := [(1, vI (x1 + 8)), (0, vI x0)]) dJ26_numberOfTrailingZeros_41 rfl rfl (Nat.le_of_ble_eq_true rfl) rfl ?_
    refine j_iload_n (j := 1) dJ26_numberOfTrailingZeros_44 rfl rfl ?_
    refine j_bipush (v := 8) dJ26_numberOfTrailingZeros_45 (by decide) ?_
    refine j_iushr dJ26_numberOfTrailingZeros_47 ?_
    refine j_istore_n (lv' := [(0, vI ((x0.toUInt32 >>> ((8 : Int32).toUInt32 &&& Int32.toUInt32 31)).toInt32)), (1, vI (x1 + 8))]) dJ26_numberOfTrailingZeros_48 rfl (Nat.le_of_ble_eq_true rfl) rfl ?_
    exact J.sub (zall [0, 1] rfl) (wfJ26_numberOfTrailingZeros_49 hd ((x0.toUInt32 >>> ((8 : Int32).toUInt32 &&& Int32.toUInt32 31)).toInt32) (x1 + 8)  G h hk)
def fJ26_numberOfTrailingZeros_0 (x0 : Int32)  (G : GS) : Option (Int32) :=
  if 0 < ((x0 ^^^ (-1)) &&& (x0 - 1)) then (if ((x0 ^^^ (-1)) &&& (x0 - 1)) ≤ 65536 then (fJ26_numberOfTrailingZeros_34 ((x0 ^^^ (-1)) &&& (x0 - 1)) 1 G) else (fJ26_numberOfTrailingZeros_34 ((((x0 ^^^ (-1)) &&& (x0 - 1)).toUInt32 >>> ((16 : Int32).toUInt32 &&& Int32.toUInt32 31)).toInt32) (1 + 16) G)) else (some (((x0 ^^^ (-1)) &&& (x0 - 1)) &&& 32))
theorem wfJ26_numberOfTrailingZeros_0 {F : zF} (hd : 1 ≤ F.2.2.2) (x0 : Int32)  (G : GS) {a : Int32} (h : fJ26_numberOfTrailingZeros_0 x0  G = some a) (hk : zKPI F G a) : J mJ26_numberOfTrailingZeros F G 0 [(0, vI x0)] [] := by
  unfold fJ26_numberOfTrailingZeros_0 at h
  refine j_iload_n (j := 0) dJ26_numberOfTrailingZeros_0 rfl rfl ?_
  refine j_iconst (v := (-1)) dJ26_numberOfTrailingZeros_1 (by decide) ?_
  refine j_ixor dJ26_numberOfTrailingZeros_2 ?_
  refine j_iload_n (j := 0) dJ26_numberOfTrailingZeros_3 rfl rfl ?_
  refine j_iconst (v := 1) dJ26_numberOfTrailingZeros_4 (by decide) ?_
  refine j_isub dJ26_numberOfTrailingZeros_5 ?_
  refine j_iand dJ26_numberOfTrailingZeros_6 ?_
  refine j_istore_n (lv' := [(0, vI ((x0 ^^^ (-1)) &&& (x0 - 1)))]) dJ26_numberOfTrailingZeros_7 rfl (Nat.le_of_ble_eq_true rfl) rfl ?_
  refine j_iload_n (j := 0) dJ26_numberOfTrailingZeros_8 rfl rfl ?_
  refine j_if_gt (tgt := 17) dJ26_numberOfTrailingZeros_9 (by decide) (fun c1 => ?_) (fun c1 => ?_)
  · rw [if_pos c1] at h
    refine j_iconst (v := 1) dJ26_numberOfTrailingZeros_17 (by decide) ?_
    refine j_istore_n (lv' := [(1, vI 1), (0, vI ((x0 ^^^ (-1)) &&& (x0 - 1)))]) dJ26_numberOfTrailingZeros_18 rfl (Nat.le_of_ble_eq_true rfl) rfl ?_
    refine j_iload_n (j := 1) dJ26_numberOfTrailingZeros_19 rfl rfl ?_
    refine j_ldcw (v := 65536) q589 dJ26_numberOfTrailingZeros_20 ?_
    refine j_icmp_le (tgt := 34) dJ26_numberOfTrailingZeros_23 (by decide) (fun c2 => ?_) (fun c2 => ?_)
    · rw [if_pos c2] at h
      exact J.sub (zall [1, 0] rfl) (wfJ26_numberOfTrailingZeros_34 hd ((x0 ^^^ (-1)) &&& (x0 - 1)) 1  G h hk)
    · rw [if_neg c2] at h
      refine j_iinc (j := 0) (v := (1 + 16)) (lv' := [(1, vI (1 + 16)), (0, vI ((x0 ^^^ (-1)) &&& (x0 - 1)))]) dJ26_numberOfTrailingZeros_26 rfl rfl (Nat.le_of_ble_eq_true rfl) rfl ?_
      refine j_iload_n (j := 1) dJ26_numberOfTrailingZeros_29 rfl rfl ?_
      refine j_bipush (v := 16) dJ26_numberOfTrailingZeros_30 (by decide) ?_
      refine j_iushr dJ26_numberOfTrailingZeros_32 ?_
      refine j_istore_n (lv' := [(0, vI ((((x0 ^^^ (-1)) &&& (x0 - 1)).toUInt32 >>> ((16 : Int32).toUInt32 &&& Int32.toUInt32 31)).toInt32)), (1, vI (1 + 16))]) dJ26_numberOfTrailingZeros_33 rfl (Nat.le_of_ble_eq_true rfl) rfl ?_
      exact J.sub (zall [0, 1] rfl) (wfJ26_numberOfTrailingZeros_34 hd ((((x0 ^^^ (-1)) &&& (x0 - 1)).toUInt32 >>> ((16 : Int32).toUInt32 &&& Int32.toUInt32 31)).toInt32) (1 + 16)  G h hk)
  · rw [if_neg c1] at h
    refine j_iload_n (j := 0) dJ26_numberOfTrailingZeros_12 rfl rfl ?_
    refine j_bipush (v := 32) dJ26_numberOfTrailingZeros_13 (by decide) ?_
    refine j_iand dJ26_numberOfTrailingZeros_15 ?_
    obtain rfl := Option.some.inj h
    exact j_iret hk.1 hk.2 rfl dJ26_numberOfTrailingZeros_16
theorem yJ26_numberOfTrailingZeros_ok {x0 : Int32} {G : GS} {r : Int32} (h : fJ26_numberOfTrailingZeros_0 x0 G = some r) : zRuns yJ26_numberOfTrailingZeros (ws_ yJ26_numberOfTrailingZeros cJ26_numberOfTrailingZeros 2 (some Jvm.ClassFile.FieldType.int)) [vI x0] (.inl (some (vI r)), G, G, 1) :=
  zentry (M := mJ26_numberOfTrailingZeros) (plainFor_of_name (by decide +kernel)) ⟨rfl, rfl, rfl, rfl⟩ (Nat.le_of_ble_eq_true rfl) (wfJ26_numberOfTrailingZeros_0 (Nat.le_refl _) x0 G h ⟨rfl, rfl⟩)
theorem msJ25_311 : zSS RJ25 311 yJ26_numberOfTrailingZeros cJ26_numberOfTrailingZeros 2 (some Jvm.ClassFile.FieldType.int) 1 := ⟨lw_S q595 q596 q156 q597, (by decide +kernel), (by decide)⟩
abbrev mJ25_numberOfTrailingZeros : zM := (cJ25_numberOfTrailingZeros, RJ25, 3, (some Jvm.ClassFile.FieldType.int), "numberOfTrailingZeros", [], "(J)I")
def fJ25_numberOfTrailingZeros_0 (x0 : Int64)  (G : GS) : Option (Int32) :=
  if x0.toInt32 = 0 then ((fJ26_numberOfTrailingZeros_0 (((x0.toUInt64 >>> ((32 : Int32).toInt64.toUInt64 &&& Int64.toUInt64 63)).toInt64).toInt32) G).bind fun v3 => some (32 + v3)) else ((fJ26_numberOfTrailingZeros_0 x0.toInt32 G).bind fun v5 => some v5)
theorem wfJ25_numberOfTrailingZeros_0 {F : zF} (hd : 2 ≤ F.2.2.2) (x0 : Int64)  (G : GS) {a : Int32} (h : fJ25_numberOfTrailingZeros_0 x0  G = some a) (hk : zKPI F G a) : J mJ25_numberOfTrailingZeros F G 0 [(0, vL x0)] [] := by
  unfold fJ25_numberOfTrailingZeros_0 at h
  refine j_lload_n (j := 0) dJ25_numberOfTrailingZeros_0 rfl rfl ?_
  refine j_l2i dJ25_numberOfTrailingZeros_1 ?_
  refine j_istore_n (lv' := [(2, vI x0.toInt32), (0, vL x0)]) dJ25_numberOfTrailingZeros_2 rfl (Nat.le_of_ble_eq_true rfl) rfl ?_
  refine j_iload_n (j := 0) dJ25_numberOfTrailingZeros_3 rfl rfl ?_
  refine j_if_ne (tgt := 21) dJ25_numberOfTrailingZeros_4 (by decide) (fun c1 => ?_) (fun c1 => ?_)
  · rw [if_pos c1] at h
    refine j_bipush (v := 32) dJ25_numberOfTrailingZeros_7 (by decide) ?_
    refine j_lload_n (j := 1) dJ25_numberOfTrailingZeros_9 rfl rfl ?_
    refine j_bipush (v := 32) dJ25_numberOfTrailingZeros_10 (by decide) ?_
    refine j_lushr dJ25_numberOfTrailingZeros_12 ?_
    refine j_l2i dJ25_numberOfTrailingZeros_13 ?_
    replace h := zbE h
    obtain ⟨v3, e2, h⟩ := h
    refine j_cont (zrS (As := [vI (((x0.toUInt64 >>> ((32 : Int32).toInt64.toUInt64 &&& Int64.toUInt64 63)).toInt64).toInt32)]) msJ25_311 (yJ26_numberOfTrailingZeros_ok e2) (Nat.le_trans (Nat.le_of_ble_eq_true rfl) hd) rfl rfl (Nat.le_of_ble_eq_true rfl) dJ25_numberOfTrailingZeros_14) ?_
    refine j_iadd dJ25_numberOfTrailingZeros_17 ?_
    refine j_goto (tgt := 25) dJ25_numberOfTrailingZeros_18 (by decide) ?_
    obtain rfl := Option.some.inj h
    exact j_iret hk.1 hk.2 rfl dJ25_numberOfTrailingZeros_25
  · rw [if_neg c1] at h
    refine j_iload_n (j := 0) dJ25_numberOfTrailingZeros_21 rfl rfl ?_
    replace h := zbE h
    obtain ⟨v5, e4, h⟩ := h
    refine j_cont (zrS (As := [vI x0.toInt32]) msJ25_311 (yJ26_numberOfTrailingZeros_ok e4) (Nat.le_trans (Nat.le_of_ble_eq_true rfl) hd) rfl rfl (Nat.le_of_ble_eq_true rfl) dJ25_numberOfTrailingZeros_22) ?_
    obtain rfl := Option.some.inj h
    exact j_iret hk.1 hk.2 rfl dJ25_numberOfTrailingZeros_25
theorem yJ25_numberOfTrailingZeros_ok {x0 : Int64} {G : GS} {r : Int32} (h : fJ25_numberOfTrailingZeros_0 x0 G = some r) : zRuns yJ25_numberOfTrailingZeros (ws_ yJ25_numberOfTrailingZeros cJ25_numberOfTrailingZeros 3 (some Jvm.ClassFile.FieldType.int)) [vL x0] (.inl (some (vI r)), G, G, 2) :=
  zentry (M := mJ25_numberOfTrailingZeros) (plainFor_of_name (by decide +kernel)) ⟨rfl, rfl, rfl, rfl⟩ (Nat.le_of_ble_eq_true rfl) (wfJ25_numberOfTrailingZeros_0 (Nat.le_refl _) x0 G h ⟨rfl, rfl⟩)
abbrev mJ23_toUnsignedInt : zM := (cJ23_toUnsignedInt, RJ23, 1, (some Jvm.ClassFile.FieldType.int), "toUnsignedInt", [], "(S)I")
def fJ23_toUnsignedInt_0 (x0 : Int32)  (G : GS) : Option (Int32) :=
  some (x0 &&& 65535)
theorem wfJ23_toUnsignedInt_0 {F : zF} (hd : 1 ≤ F.2.2.2) (x0 : Int32)  (G : GS) {a : Int32} (h : fJ23_toUnsignedInt_0 x0  G = some a) (hk : zKPI F G a) : J mJ23_toUnsignedInt F G 0 [(0, vI x0)] [] := by
  unfold fJ23_toUnsignedInt_0 at h
  refine j_iload_n (j := 0) dJ23_toUnsignedInt_0 rfl rfl ?_
  refine j_ldcw (v := 65535) q608 dJ23_toUnsignedInt_1 ?_
  refine j_iand dJ23_toUnsignedInt_4 ?_
  obtain rfl := Option.some.inj h
  exact j_iret hk.1 hk.2 rfl dJ23_toUnsignedInt_5
theorem yJ23_toUnsignedInt_ok {x0 : Int32} {G : GS} {r : Int32} (h : fJ23_toUnsignedInt_0 x0 G = some r) : zRuns yJ23_toUnsignedInt (ws_ yJ23_toUnsignedInt cJ23_toUnsignedInt 1 (some Jvm.ClassFile.FieldType.int)) [vI x0] (.inl (some (vI r)), G, G, 1) :=
  zentry (M := mJ23_toUnsignedInt) (by decide +kernel) ⟨rfl, rfl, rfl, rfl⟩ (Nat.le_of_ble_eq_true rfl) (wfJ23_toUnsignedInt_0 (Nat.le_refl _) x0 G h ⟨rfl, rfl⟩)
theorem msJ23_792 : zSS RJ23 792 yJ23_toUnsignedInt cJ23_toUnsignedInt 1 (some Jvm.ClassFile.FieldType.int) 1 := ⟨lw_S q605 q606 q152 q607, (by decide +kernel), (by decide)⟩
abbrev mJ23_makeInt : zM := (cJ23_makeInt, RJ23, 2, (some Jvm.ClassFile.FieldType.int), "makeInt", [], "(SS)I")
def fJ23_makeInt_0 (x0 : Int32) (x1 : Int32)  (G : GS) : Option (Int32) :=
  (fJ23_toUnsignedInt_0 x0 G).bind fun v2 => (fJ23_pickPos_0 16 0 G).bind fun v4 => (fJ23_toUnsignedInt_0 x1 G).bind fun v6 => (fJ23_pickPos_0 16 16 G).bind fun v8 => some ((v2 <<< (v4 &&& 31)) ||| (v6 <<< (v8 &&& 31)))
theorem wfJ23_makeInt_0 {F : zF} (hd : 2 ≤ F.2.2.2) (x0 : Int32) (x1 : Int32)  (G : GS) {a : Int32} (h : fJ23_makeInt_0 x0 x1  G = some a) (hk : zKPI F G a) : J mJ23_makeInt F G 0 [(0, vI x0), (1, vI x1)] [] := by
  unfold fJ23_makeInt_0 at h
  refine j_iload_n (j := 0) dJ23_makeInt_0 rfl rfl ?_
  replace h := zbE h
  obtain ⟨v2, e1, h⟩ := h
  refine j_cont (zrS (As := [vI x0]) msJ23_792 (yJ23_toUnsignedInt_ok e1) (Nat.le_trans (Nat.le_of_ble_eq_true rfl) hd) rfl rfl (Nat.le_of_ble_eq_true rfl) dJ23_makeInt_1) ?_
  refine j_bipush (v := 16) dJ23_makeInt_4 (by decide) ?_
  refine j_iconst (v := 0) dJ23_makeInt_6 (by decide) ?_
  replace h := zbE h
  obtain ⟨v4, e3, h⟩ := h
  refine j_cont (zrS (As := [vI 16, vI 0]) msJ23_784 (yJ23_pickPos_ok e3) (Nat.le_trans (Nat.le_of_ble_eq_true rfl) hd) rfl rfl (Nat.le_of_ble_eq_true rfl) dJ23_makeInt_7) ?_
  refine j_ishl dJ23_makeInt_10 ?_
  refine j_iload_n (j := 1) dJ23_makeInt_11 rfl rfl ?_
  replace h := zbE h
  obtain ⟨v6, e5, h⟩ := h
  refine j_cont (zrS (As := [vI x1]) msJ23_792 (yJ23_toUnsignedInt_ok e5) (Nat.le_trans (Nat.le_of_ble_eq_true rfl) hd) rfl rfl (Nat.le_of_ble_eq_true rfl) dJ23_makeInt_12) ?_
  refine j_bipush (v := 16) dJ23_makeInt_15 (by decide) ?_
  refine j_bipush (v := 16) dJ23_makeInt_17 (by decide) ?_
  replace h := zbE h
  obtain ⟨v8, e7, h⟩ := h
  refine j_cont (zrS (As := [vI 16, vI 16]) msJ23_784 (yJ23_pickPos_ok e7) (Nat.le_trans (Nat.le_of_ble_eq_true rfl) hd) rfl rfl (Nat.le_of_ble_eq_true rfl) dJ23_makeInt_19) ?_
  refine j_ishl dJ23_makeInt_22 ?_
  refine j_ior dJ23_makeInt_23 ?_
  obtain rfl := Option.some.inj h
  exact j_iret hk.1 hk.2 rfl dJ23_makeInt_24
theorem yJ23_makeInt_ok {x0 : Int32} {x1 : Int32} {G : GS} {r : Int32} (h : fJ23_makeInt_0 x0 x1 G = some r) : zRuns yJ23_makeInt (ws_ yJ23_makeInt cJ23_makeInt 2 (some Jvm.ClassFile.FieldType.int)) [vI x0, vI x1] (.inl (some (vI r)), G, G, 2) :=
  zentry (M := mJ23_makeInt) (by decide +kernel) ⟨rfl, rfl, rfl, rfl⟩ (Nat.le_of_ble_eq_true rfl) (wfJ23_makeInt_0 (Nat.le_refl _) x0 x1 G h ⟨rfl, rfl⟩)
abbrev mJ23_toUnsignedInt_2 : zM := (cJ23_toUnsignedInt_2, RJ23, 1, (some Jvm.ClassFile.FieldType.int), "toUnsignedInt", [], "(B)I")
def fJ23_toUnsignedInt_2_0 (x0 : Int32)  (G : GS) : Option (Int32) :=
  some (x0 &&& 255)
theorem wfJ23_toUnsignedInt_2_0 {F : zF} (hd : 1 ≤ F.2.2.2) (x0 : Int32)  (G : GS) {a : Int32} (h : fJ23_toUnsignedInt_2_0 x0  G = some a) (hk : zKPI F G a) : J mJ23_toUnsignedInt_2 F G 0 [(0, vI x0)] [] := by
  unfold fJ23_toUnsignedInt_2_0 at h
  refine j_iload_n (j := 0) dJ23_toUnsignedInt_2_0 rfl rfl ?_
  refine j_sipush (v := 255) dJ23_toUnsignedInt_2_1 (by decide) ?_
  refine j_iand dJ23_toUnsignedInt_2_4 ?_
  obtain rfl := Option.some.inj h
  exact j_iret hk.1 hk.2 rfl dJ23_toUnsignedInt_2_5
theorem yJ23_toUnsignedInt_2_ok {x0 : Int32} {G : GS} {r : Int32} (h : fJ23_toUnsignedInt_2_0 x0 G = some r) : zRuns yJ23_toUnsignedInt_2 (ws_ yJ23_toUnsignedInt_2 cJ23_toUnsignedInt_2 1 (some Jvm.ClassFile.FieldType.int)) [vI x0] (.inl (some (vI r)), G, G, 1) :=
  zentry (M := mJ23_toUnsignedInt_2) (by decide +kernel) ⟨rfl, rfl, rfl, rfl⟩ (Nat.le_of_ble_eq_true rfl) (wfJ23_toUnsignedInt_2_0 (Nat.le_refl _) x0 G h ⟨rfl, rfl⟩)
theorem msJ23_796 : zSS RJ23 796 yJ23_toUnsignedInt_2 cJ23_toUnsignedInt_2 1 (some Jvm.ClassFile.FieldType.int) 1 := ⟨lw_S q612 q613 q152 q614, (by decide +kernel), (by decide)⟩
abbrev mJ23_makeInt_2 : zM := (cJ23_makeInt_2, RJ23, 4, (some Jvm.ClassFile.FieldType.int), "makeInt", [], "(BBBB)I")
def fJ23_makeInt_2_0 (x0 : Int32) (x1 : Int32) (x2 : Int32) (x3 : Int32)  (G : GS) : Option (Int32) :=
  (fJ23_toUnsignedInt_2_0 x0 G).bind fun v2 => (fJ23_pickPos_0 24 0 G).bind fun v4 => (fJ23_toUnsignedInt_2_0 x1 G).bind fun v6 => (fJ23_pickPos_0 24 8 G).bind fun v8 => (fJ23_toUnsignedInt_2_0 x2 G).bind fun v10 => (fJ23_pickPos_0 24 16 G).bind fun v12 => (fJ23_toUnsignedInt_2_0 x3 G).bind fun v14 => (fJ23_pickPos_0 24 24 G).bind fun v16 => some ((((v2 <<< (v4 &&& 31)) ||| (v6 <<< (v8 &&& 31))) ||| (v10 <<< (v12 &&& 31))) ||| (v14 <<< (v16 &&& 31)))
theorem wfJ23_makeInt_2_0 {F : zF} (hd : 2 ≤ F.2.2.2) (x0 : Int32) (x1 : Int32) (x2 : Int32) (x3 : Int32)  (G : GS) {a : Int32} (h : fJ23_makeInt_2_0 x0 x1 x2 x3  G = some a) (hk : zKPI F G a) : J mJ23_makeInt_2 F G 0 [(0, vI x0), (1, vI x1), (2, vI x2), (3, vI x3)] [] := by
  unfold fJ23_makeInt_2_0 at h
  refine j_iload_n (j := 0) dJ23_makeInt_2_0 rfl rfl ?_
  replace h := zbE h
  obtain ⟨v2, e1, h⟩ := h
  refine j_cont (zrS (As := [vI x0]) msJ23_796 (yJ23_toUnsignedInt_2_ok e1) (Nat.le_trans (Nat.le_of_ble_eq_true rfl) hd) rfl rfl (Nat.le_of_ble_eq_true rfl) dJ23_makeInt_2_1) ?_
  refine j_bipush (v := 24) dJ23_makeInt_2_4 (by decide) ?_
  refine j_iconst (v := 0) dJ23_makeInt_2_6 (by decide) ?_
  replace h := zbE h
  obtain ⟨v4, e3, h⟩ := h
  refine j_cont (zrS (As := [vI 24, vI 0]) msJ23_784 (yJ23_pickPos_ok e3) (Nat.le_trans (Nat.le_of_ble_eq_true rfl) hd) rfl rfl (Nat.le_of_ble_eq_true rfl) dJ23_makeInt_2_7) ?_
  refine j_ishl dJ23_makeInt_2_10 ?_
  refine j_iload_n (j := 1) dJ23_makeInt_2_11 rfl rfl ?_
  replace h := zbE h
  obtain ⟨v6, e5, h⟩ := h
  refine j_cont (zrS (As := [vI x1]) msJ23_796 (yJ23_toUnsignedInt_2_ok e5) (Nat.le_trans (Nat.le_of_ble_eq_true rfl) hd) rfl rfl (Nat.le_of_ble_eq_true rfl) dJ23_makeInt_2_12) ?_
  refine j_bipush (v := 24) dJ23_makeInt_2_15 (by decide) ?_
  refine j_bipush (v := 8) dJ23_makeInt_2_17 (by decide) ?_
  replace h := zbE h
  obtain ⟨v8, e7, h⟩ := h
  refine j_cont (zrS (As := [vI 24, vI 8]) msJ23_784 (yJ23_pickPos_ok e7) (Nat.le_trans (Nat.le_of_ble_eq_true rfl) hd) rfl rfl (Nat.le_of_ble_eq_true rfl) dJ23_makeInt_2_19) ?_
  refine j_ishl dJ23_makeInt_2_22 ?_
  refine j_ior dJ23_makeInt_2_23 ?_
  refine j_iload_n (j := 2) dJ23_makeInt_2_24 rfl rfl ?_
  replace h := zbE h
  obtain ⟨v10, e9, h⟩ := h
  refine j_cont (zrS (As := [vI x2]) msJ23_796 (yJ23_toUnsignedInt_2_ok e9) (Nat.le_trans (Nat.le_of_ble_eq_true rfl) hd) rfl rfl (Nat.le_of_ble_eq_true rfl) dJ23_makeInt_2_25) ?_
  refine j_bipush (v := 24) dJ23_makeInt_2_28 (by decide) ?_
  refine j_bipush (v := 16) dJ23_makeInt_2_30 (by decide) ?_
  replace h := zbE h
  obtain ⟨v12, e11, h⟩ := h
  refine j_cont (zrS (As := [vI 24, vI 16]) msJ23_784 (yJ23_pickPos_ok e11) (Nat.le_trans (Nat.le_of_ble_eq_true rfl) hd) rfl rfl (Nat.le_of_ble_eq_true rfl) dJ23_makeInt_2_32) ?_
  refine j_ishl dJ23_makeInt_2_35 ?_
  refine j_ior dJ23_makeInt_2_36 ?_
  refine j_iload_n (j := 3) dJ23_makeInt_2_37 rfl rfl ?_
  replace h := zbE h
  obtain ⟨v14, e13, h⟩ := h
  refine j_cont (zrS (As := [vI x3]) msJ23_796 (yJ23_toUnsignedInt_2_ok e13) (Nat.le_trans (Nat.le_of_ble_eq_true rfl) hd) rfl rfl (Nat.le_of_ble_eq_true rfl) dJ23_makeInt_2_38) ?_
  refine j_bipush (v := 24) dJ23_makeInt_2_41 (by decide) ?_
  refine j_bipush (v := 24) dJ23_makeInt_2_43 (by decide) ?_
  replace h := zbE h
  obtain ⟨v16, e15, h⟩ := h
  refine j_cont (zrS (As := [vI 24, vI 24]) msJ23_784 (yJ23_pickPos_ok e15) (Nat.le_trans (Nat.le_of_ble_eq_true rfl) hd) rfl rfl (Nat.le_of_ble_eq_true rfl) dJ23_makeInt_2_45) ?_
  refine j_ishl dJ23_makeInt_2_48 ?_
  refine j_ior dJ23_makeInt_2_49 ?_
  obtain rfl := Option.some.inj h
  exact j_iret hk.1 hk.2 rfl dJ23_makeInt_2_50
theorem yJ23_makeInt_2_ok {x0 : Int32} {x1 : Int32} {x2 : Int32} {x3 : Int32} {G : GS} {r : Int32} (h : fJ23_makeInt_2_0 x0 x1 x2 x3 G = some r) : zRuns yJ23_makeInt_2 (ws_ yJ23_makeInt_2 cJ23_makeInt_2 4 (some Jvm.ClassFile.FieldType.int)) [vI x0, vI x1, vI x2, vI x3] (.inl (some (vI r)), G, G, 2) :=
  zentry (M := mJ23_makeInt_2) (by decide +kernel) ⟨rfl, rfl, rfl, rfl⟩ (Nat.le_of_ble_eq_true rfl) (wfJ23_makeInt_2_0 (Nat.le_refl _) x0 x1 x2 x3 G h ⟨rfl, rfl⟩)
abbrev mJ23_getIntUnaligned : zM := (cJ23_getIntUnaligned, RJ23, 4, (some Jvm.ClassFile.FieldType.int), "getIntUnaligned", [], "(Ljava/lang/Object;J)I")
def fJ23_getIntUnaligned_0 (t : Nat) (x1 : Option Nat) (x2 : Int64)  (G : GS) : Option (Int32) :=
  if (lg_cmp (x2 &&& 3) (0 : Int64)) = 0 then none else (if (lg_cmp (x2 &&& 1) (0 : Int64)) = 0 then none else none)
theorem wfJ23_getIntUnaligned_0 {F : zF} (hd : 3 ≤ F.2.2.2) (t : Nat) (x1 : Option Nat) (x2 : Int64)  (G : GS) {a : Int32} (h : fJ23_getIntUnaligned_0 t x1 x2  G = some a) (hk : zKPI F G a) : J mJ23_getIntUnaligned F G 0 [(0, vR (some t)), (1, vR x1), (2, vL x2)] [] := by
  unfold fJ23_getIntUnaligned_0 at h
  refine j_lload_n (j := 2) dJ23_getIntUnaligned_0 rfl rfl ?_
  refine j_ldc2 (v := 3) q538 dJ23_getIntUnaligned_1 ?_
  refine j_land dJ23_getIntUnaligned_4 ?_
  refine j_lconst (v := 0) dJ23_getIntUnaligned_5 rfl ?_
  refine j_lcmp dJ23_getIntUnaligned_6 ?_
  refine j_if_ne (tgt := 17) dJ23_getIntUnaligned_7 (by decide) (fun c1 => ?_) (fun c1 => ?_)
  · rw [if_pos c1] at h
    refine j_aload_n (j := 0) dJ23_getIntUnaligned_10 rfl rfl ?_
    refine j_aload_n (j := 1) dJ23_getIntUnaligned_11 rfl rfl ?_
    refine j_lload_n (j := 2) dJ23_getIntUnaligned_12 rfl rfl ?_
    cases h
  · rw [if_neg c1] at h
    refine j_lload_n (j := 2) dJ23_getIntUnaligned_17 rfl rfl ?_
    refine j_lconst (v := 1) dJ23_getIntUnaligned_18 rfl ?_
    refine j_land dJ23_getIntUnaligned_19 ?_
    refine j_lconst (v := 0) dJ23_getIntUnaligned_20 rfl ?_
    refine j_lcmp dJ23_getIntUnaligned_21 ?_
    refine j_if_ne (tgt := 45) dJ23_getIntUnaligned_22 (by decide) (fun c2 => ?_) (fun c2 => ?_)
    · rw [if_pos c2] at h
      refine j_aload_n (j := 0) dJ23_getIntUnaligned_25 rfl rfl ?_
      refine j_aload_n (j := 1) dJ23_getIntUnaligned_26 rfl rfl ?_
      refine j_lload_n (j := 2) dJ23_getIntUnaligned_27 rfl rfl ?_
      cases h
    · rw [if_neg c2] at h
      refine j_aload_n (j := 0) dJ23_getIntUnaligned_45 rfl rfl ?_
      refine j_aload_n (j := 1) dJ23_getIntUnaligned_46 rfl rfl ?_
      refine j_lload_n (j := 2) dJ23_getIntUnaligned_47 rfl rfl ?_
      cases h
theorem yJ23_getIntUnaligned_ok {t : Nat} {x1 : Option Nat} {x2 : Int64} {G : GS} {r : Int32} (h : fJ23_getIntUnaligned_0 t x1 x2 G = some r) : zRuns yJ23_getIntUnaligned (ws_ yJ23_getIntUnaligned cJ23_getIntUnaligned 4 (some Jvm.ClassFile.FieldType.int)) [vR (some t), vR x1, vL x2] (.inl (some (vI r)), G, G, 3) :=
  zentry (M := mJ23_getIntUnaligned) (by decide +kernel) ⟨rfl, rfl, rfl, rfl⟩ (Nat.le_of_ble_eq_true rfl) (wfJ23_getIntUnaligned_0 (Nat.le_refl _) t x1 x2 G h ⟨rfl, rfl⟩)
theorem zk_65 : ∀ k, [65].contains k = true → zKc k = some "jdk/internal/misc/Unsafe" := fun k h => by rw [zKc_one h]; rfl
theorem msJ13_11 : zSS RJ13 11 yJ26_numberOfTrailingZeros cJ26_numberOfTrailingZeros 2 (some Jvm.ClassFile.FieldType.int) 1 := ⟨lw_S q616 q596 q156 q597, (by decide +kernel), (by decide)⟩
theorem msJ13_30 : zSV RJ13 30 RJ23 yJ23_getLongUnaligned cJ23_getLongUnaligned 4 (some Jvm.ClassFile.FieldType.long) 2 := ⟨lw_V q529 q530 q531 q152 q532, (by decide +kernel), (by decide)⟩
theorem msJ13_40 : zSS RJ13 40 yJ25_numberOfLeadingZeros cJ25_numberOfLeadingZeros 3 (some Jvm.ClassFile.FieldType.int) 1 := ⟨lw_S q583 q584 q155 q585, (by decide +kernel), (by decide)⟩
theorem msJ13_49 : zSS RJ13 49 yJ25_numberOfTrailingZeros cJ25_numberOfTrailingZeros 3 (some Jvm.ClassFile.FieldType.int) 1 := ⟨lw_S q592 q593 q155 q594, (by decide +kernel), (by decide)⟩
theorem msJ13_54 : zSV RJ13 54 RJ23 yJ23_getIntUnaligned cJ23_getIntUnaligned 4 (some Jvm.ClassFile.FieldType.int) 2 := ⟨lw_V q598 q599 q600 q152 q601, (by decide +kernel), (by decide)⟩
theorem msJ13_58 : zSS RJ13 58 yJ26_numberOfLeadingZeros cJ26_numberOfLeadingZeros 2 (some Jvm.ClassFile.FieldType.int) 1 := ⟨lw_S q615 q587 q156 q588, (by decide +kernel), (by decide)⟩
abbrev mJ13_vectorizedMismatch : zM := (cJ13_vectorizedMismatch, RJ13, 19, (some Jvm.ClassFile.FieldType.int), "vectorizedMismatch", [], "(Ljava/lang/Object;JLjava/lang/Object;JII)I")
def fJ13_vectorizedMismatch_258 (x10 : Int32)  (G : GS) : Option (Int32) :=
  some (x10 ^^^ (-1))
theorem wfJ13_vectorizedMismatch_258 {F : zF} (hd : 4 ≤ F.2.2.2) (x10 : Int32)  (G : GS) {a : Int32} (h : fJ13_vectorizedMismatch_258 x10  G = some a) (hk : zKPI F G a) : J mJ13_vectorizedMismatch F G 258 [(10, vI x10)] [] := by
  unfold fJ13_vectorizedMismatch_258 at h
  refine j_iload (j := 0) dJ13_vectorizedMismatch_258 rfl ?_
  refine j_iconst (v := (-1)) dJ13_vectorizedMismatch_260 (by decide) ?_
  refine j_ixor dJ13_vectorizedMismatch_261 ?_
  obtain rfl := Option.some.inj h
  exact j_iret hk.1 hk.2 rfl dJ13_vectorizedMismatch_262
def fJ13_vectorizedMismatch_240 (x8 : Int32) (x9 : Int32) (s0 : Int32) (G : GS) : Option (Int32) :=
  some ((x9 <<< (x8 &&& 31)) + s0)
theorem wfJ13_vectorizedMismatch_240 {F : zF} (hd : 4 ≤ F.2.2.2) (x8 : Int32) (x9 : Int32) (s0 : Int32) (G : GS) {a : Int32} (h : fJ13_vectorizedMismatch_240 x8 x9 s0 G = some a) (hk : zKPI F G a) : J mJ13_vectorizedMismatch F G 240 [(8, vI x8), (9, vI x9)] [vI s0] := by
  unfold fJ13_vectorizedMismatch_240 at h
  refine j_istore (lv' := [(17, vI s0), (8, vI x8), (9, vI x9)]) dJ13_vectorizedMismatch_240 (Nat.le_of_ble_eq_true rfl) rfl ?_
  refine j_iload (j := 2) dJ13_vectorizedMismatch_242 rfl ?_
  refine j_iload (j := 1) dJ13_vectorizedMismatch_244 rfl ?_
  refine j_ishl dJ13_vectorizedMismatch_246 ?_
  refine j_iload (j := 0) dJ13_vectorizedMismatch_247 rfl ?_
  refine j_iadd dJ13_vectorizedMismatch_249 ?_
  obtain rfl := Option.some.inj h
  exact j_iret hk.1 hk.2 rfl dJ13_vectorizedMismatch_250
def fJ13_vectorizedMismatch_122 (x0 : Option Nat) (x1 : Int64) (x3 : Option Nat) (x4 : Int64) (x6 : Int32) (x7 : Int32) (x8 : Int32) (x9 : Int32)  (G : GS) : Option (Int32) :=
  if 2 ≤ x7 then (some ((x6 - (x9 <<< (x8 &&& 31))) ^^^ (-1))) else (if (x6 - (x9 <<< (x8 &&& 31))) < ((1 : Int32) <<< ((2 - x7) &&& 31)) then (fJ13_vectorizedMismatch_258 (x6 - (x9 <<< (x8 &&& 31))) G) else (zk [65] G (gS G 3) <| (fJ23_getIntUnaligned_0 (gS G 3) x0 (x1 + (x9.toInt64 <<< ((3 : Int32).toInt64 &&& 63))) G).bind fun v5 => zk [65] G (gS G 3) <| (fJ23_getIntUnaligned_0 (gS G 3) x3 (x4 + (x9.toInt64 <<< ((3 : Int32).toInt64 &&& 63))) G).bind fun v8 => if v5 = v8 then (fJ13_vectorizedMismatch_258 ((x6 - (x9 <<< (x8 &&& 31))) - ((1 : Int32) <<< ((2 - x7) &&& 31))) G) else (if (0 : Int32) = 0 then ((fJ26_numberOfTrailingZeros_0 (v5 ^^^ v8) G).bind fun v12 => fJ13_vectorizedMismatch_240 x8 x9 (v12 >>> ((3 + x7) &&& 31)) G) else ((fJ26_numberOfLeadingZeros_0 (v5 ^^^ v8) G).bind fun v14 => fJ13_vectorizedMismatch_240 x8 x9 (v14 >>> ((3 + x7) &&& 31)) G))))
theorem wfJ13_vectorizedMismatch_122 {F : zF} (hd : 4 ≤ F.2.2.2) (x0 : Option Nat) (x1 : Int64) (x3 : Option Nat) (x4 : Int64) (x6 : Int32) (x7 : Int32) (x8 : Int32) (x9 : Int32)  (G : GS) {a : Int32} (h : fJ13_vectorizedMismatch_122 x0 x1 x3 x4 x6 x7 x8 x9  G = some a) (hk : zKPI F G a) : J mJ13_vectorizedMismatch F G 122 [(0, vR x0), (1, vL x1), (3, vR x3), (4, vL x4), (6, vI x6), (7, vI x7), (8, vI x8), (9, vI x9)] [] := by
  unfold fJ13_vectorizedMismatch_122 at h
  refine j_iload (j := 4) dJ13_vectorizedMismatch_122 rfl ?_
  refine j_iload (j := 7) dJ13_vectorizedMismatch_124 rfl ?_
  refine j_iload (j := 6) dJ13_vectorizedMismatch_126 rfl ?_
  refine j_ishl dJ13_vectorizedMismatch_128 ?_
  refine j_isub dJ13_vectorizedMismatch_129 ?_
  refine j_istore (lv' := [(10, vI (x6 - (x9 <<< (x8 &&& 31)))), (0, vR x0), (1, vL x1), (3, vR x3), (4, vL x4), (6, vI x6), (7, vI x7), (8, vI x8), (9, vI x9)]) dJ13_vectorizedMismatch_130 (Nat.le_of_ble_eq_true rfl) rfl ?_
  refine j_iload (j := 6) dJ13_vectorizedMismatch_132 rfl ?_
  refine j_gets (i := 10) (x := vI 2) rfl rfl q520 dJ13_vectorizedMismatch_134 ?_
  refine j_icmp_ge (tgt := 263) dJ13_vectorizedMismatch_137 (by decide) (fun c1 => ?_) (fun c1 => ?_)
  · rw [if_pos c1] at h
    refine j_iload (j := 0) dJ13_vectorizedMismatch_263 rfl ?_
    refine j_iconst (v := (-1)) dJ13_vectorizedMismatch_265 (by decide) ?_
    refine j_ixor dJ13_vectorizedMismatch_266 ?_
    obtain rfl := Option.some.inj h
    exact j_iret hk.1 hk.2 rfl dJ13_vectorizedMismatch_267
  · rw [if_neg c1] at h
    refine j_iconst (v := 1) dJ13_vectorizedMismatch_140 (by decide) ?_
    refine j_gets (i := 10) (x := vI 2) rfl rfl q520 dJ13_vectorizedMismatch_141 ?_
    refine j_iload (j := 6) dJ13_vectorizedMismatch_144 rfl ?_
    refine j_isub dJ13_vectorizedMismatch_146 ?_
    refine j_ishl dJ13_vectorizedMismatch_147 ?_
    refine j_istore (lv' := [(11, vI ((1 : Int32) <<< ((2 - x7) &&& 31))), (10, vI (x6 - (x9 <<< (x8 &&& 31)))), (0, vR x0), (1, vL x1), (3, vR x3), (4, vL x4), (6, vI x6), (7, vI x7), (8, vI x8), (9, vI x9)]) dJ13_vectorizedMismatch_148 (Nat.le_of_ble_eq_true rfl) rfl ?_
    refine j_iload (j := 1) dJ13_vectorizedMismatch_150 rfl ?_
    refine j_iload (j := 0) dJ13_vectorizedMismatch_152 rfl ?_
    refine j_icmp_lt (tgt := 258) dJ13_vectorizedMismatch_154 (by decide) (fun c2 => ?_) (fun c2 => ?_)
    · rw [if_pos c2] at h
      exact J.sub (zall [1] rfl) (wfJ13_vectorizedMismatch_258 hd (x6 - (x9 <<< (x8 &&& 31)))  G h hk)
    · rw [if_neg c2] at h
      refine j_iload (j := 9) dJ13_vectorizedMismatch_157 rfl ?_
      refine j_i2l dJ13_vectorizedMismatch_159 ?_
      refine j_gets (i := 11) (x := vI 3) rfl rfl q525 dJ13_vectorizedMismatch_160 ?_
      refine j_lshl dJ13_vectorizedMismatch_163 ?_
      refine j_lstore (lv' := [(12, vL (x9.toInt64 <<< ((3 : Int32).toInt64 &&& 63))), (11, vI ((1 : Int32) <<< ((2 - x7) &&& 31))), (10, vI (x6 - (x9 <<< (x8 &&& 31)))), (0, vR x0), (1, vL x1), (3, vR x3), (4, vL x4), (6, vI x6), (7, vI x7), (8, vI x8), (9, vI x9)]) dJ13_vectorizedMismatch_164 (Nat.le_of_ble_eq_true rfl) rfl ?_
      refine j_gets (i := 3) (x := vR (some (gS G 3))) rfl rfl q527 dJ13_vectorizedMismatch_166 ?_
      refine j_aload_n (j := 3) dJ13_vectorizedMismatch_169 rfl rfl ?_
      refine j_lload_n (j := 4) dJ13_vectorizedMismatch_170 rfl rfl ?_
      refine j_lload (j := 0) dJ13_vectorizedMismatch_171 rfl ?_
      refine j_ladd dJ13_vectorizedMismatch_173 ?_
      replace h := zkE h
      obtain ⟨e3, h⟩ := h
      replace h := zbE h
      obtain ⟨v5, e4, h⟩ := h
      refine j_cont (zrV (As := [vR x0, vL (x1 + (x9.toInt64 <<< ((3 : Int32).toInt64 &&& 63)))]) msJ13_54 (yJ23_getIntUnaligned_ok e4) (Nat.le_trans (Nat.le_of_ble_eq_true rfl) hd) (zk_65 _ e3) rfl rfl (Nat.le_of_ble_eq_true rfl) dJ13_vectorizedMismatch_174) ?_
      refine j_istore (lv' := [(14, vI v5), (12, vL (x9.toInt64 <<< ((3 : Int32).toInt64 &&& 63))), (11, vI ((1 : Int32) <<< ((2 - x7) &&& 31))), (10, vI (x6 - (x9 <<< (x8 &&& 31)))), (0, vR x0), (1, vL x1), (3, vR x3), (4, vL x4), (6, vI x6), (7, vI x7), (8, vI x8), (9, vI x9)]) dJ13_vectorizedMismatch_177 (Nat.le_of_ble_eq_true rfl) rfl ?_
      refine j_gets (i := 3) (x := vR (some (gS G 3))) rfl rfl q527 dJ13_vectorizedMismatch_179 ?_
      refine j_aload_n (j := 6) dJ13_vectorizedMismatch_182 rfl rfl ?_
      refine j_lload (j := 7) dJ13_vectorizedMismatch_183 rfl ?_
      refine j_lload (j := 1) dJ13_vectorizedMismatch_185 rfl ?_
      refine j_ladd dJ13_vectorizedMismatch_187 ?_
      replace h := zkE h
      obtain ⟨e6, h⟩ := h
      replace h := zbE h
      obtain ⟨v8, e7, h⟩ := h
      refine j_cont (zrV (As := [vR x3, vL (x4 + (x9.toInt64 <<< ((3 : Int32).toInt64 &&& 63)))]) msJ13_54 (yJ23_getIntUnaligned_ok e7) (Nat.le_trans (Nat.le_of_ble_eq_true rfl) hd) (zk_65 _ e6) rfl rfl (Nat.le_of_ble_eq_true rfl) dJ13_vectorizedMismatch_188) ?_
      refine j_istore (lv' := [(15, vI v8), (14, vI v5), (12, vL (x9.toInt64 <<< ((3 : Int32).toInt64 &&& 63))), (11, vI ((1 : Int32) <<< ((2 - x7) &&& 31))), (10, vI (x6 - (x9 <<< (x8 &&& 31)))), (0, vR x0), (1, vL x1), (3, vR x3), (4, vL x4), (6, vI x6), (7, vI x7), (8, vI x8), (9, vI x9)]) dJ13_vectorizedMismatch_191 (Nat.le_of_ble_eq_true rfl) rfl ?_
      refine j_iload (j := 1) dJ13_vectorizedMismatch_193 rfl ?_
      refine j_iload (j := 0) dJ13_vectorizedMismatch_195 rfl ?_
      refine j_icmp_eq (tgt := 251) dJ13_vectorizedMismatch_197 (by decide) (fun c9 => ?_) (fun c9 => ?_)
      · rw [if_pos c9] at h
        refine j_iload (j := 4) dJ13_vectorizedMismatch_251 rfl ?_
        refine j_iload (j := 3) dJ13_vectorizedMismatch_253 rfl ?_
        refine j_isub dJ13_vectorizedMismatch_255 ?_
        refine j_istore (lv' := [(10, vI ((x6 - (x9 <<< (x8 &&& 31))) - ((1 : Int32) <<< ((2 - x7) &&& 31)))), (15, vI v8), (14, vI v5), (12, vL (x9.toInt64 <<< ((3 : Int32).toInt64 &&& 63))), (11, vI ((1 : Int32) <<< ((2 - x7) &&& 31))), (0, vR x0), (1, vL x1), (3, vR x3), (4, vL x4), (6, vI x6), (7, vI x7), (8, vI x8), (9, vI x9)]) dJ13_vectorizedMismatch_256 (Nat.le_of_ble_eq_true rfl) rfl ?_
        exact J.sub (zall [0] rfl) (wfJ13_vectorizedMismatch_258 hd ((x6 - (x9 <<< (x8 &&& 31))) - ((1 : Int32) <<< ((2 - x7) &&& 31)))  G h hk)
      · rw [if_neg c9] at h
        refine j_iload (j := 1) dJ13_vectorizedMismatch_200 rfl ?_
        refine j_iload (j := 0) dJ13_vectorizedMismatch_202 rfl ?_
        refine j_ixor dJ13_vectorizedMismatch_204 ?_
        refine j_istore (lv' := [(16, vI (v5 ^^^ v8)), (15, vI v8), (14, vI v5), (12, vL (x9.toInt64 <<< ((3 : Int32).toInt64 &&& 63))), (11, vI ((1 : Int32) <<< ((2 - x7) &&& 31))), (10, vI (x6 - (x9 <<< (x8 &&& 31)))), (0, vR x0), (1, vL x1), (3, vR x3), (4, vL x4), (6, vI x6), (7, vI x7), (8, vI x8), (9, vI x9)]) dJ13_vectorizedMismatch_205 (Nat.le_of_ble_eq_true rfl) rfl ?_
        refine j_gets (i := 9) (x := vI 0) rfl rfl q581 dJ13_vectorizedMismatch_207 ?_
        refine j_if_eq (tgt := 228) dJ13_vectorizedMismatch_210 (by decide) (fun c10 => ?_) (fun c10 => ?_)
        · rw [if_pos c10] at h
          refine j_iload (j := 0) dJ13_vectorizedMismatch_228 rfl ?_
          replace h := zbE h
          obtain ⟨v12, e11, h⟩ := h
          refine j_cont (zrS (As := [vI (v5 ^^^ v8)]) msJ13_11 (yJ26_numberOfTrailingZeros_ok e11) (Nat.le_trans (Nat.le_of_ble_eq_true rfl) hd) rfl rfl (Nat.le_of_ble_eq_true rfl) dJ13_vectorizedMismatch_230) ?_
          refine j_gets (i := 12) (x := vI 3) rfl rfl q590 dJ13_vectorizedMismatch_233 ?_
          refine j_iload (j := 11) dJ13_vectorizedMismatch_236 rfl ?_
          refine j_iadd dJ13_vectorizedMismatch_238 ?_
          refine j_ishr dJ13_vectorizedMismatch_239 ?_
          exact J.sub (zall [12, 13] rfl) (wfJ13_vectorizedMismatch_240 hd x8 x9 (v12 >>> ((3 + x7) &&& 31)) G h hk)
        · rw [if_neg c10] at h
          refine j_iload (j := 0) dJ13_vectorizedMismatch_213 rfl ?_
          replace h := zbE h
          obtain ⟨v14, e13, h⟩ := h
          refine j_cont (zrS (As := [vI (v5 ^^^ v8)]) msJ13_58 (yJ26_numberOfLeadingZeros_ok e13) (Nat.le_trans (Nat.le_of_ble_eq_true rfl) hd) rfl rfl (Nat.le_of_ble_eq_true rfl) dJ13_vectorizedMismatch_215) ?_
          refine j_gets (i := 12) (x := vI 3) rfl rfl q590 dJ13_vectorizedMismatch_218 ?_
          refine j_iload (j := 11) dJ13_vectorizedMismatch_221 rfl ?_
          refine j_iadd dJ13_vectorizedMismatch_223 ?_
          refine j_ishr dJ13_vectorizedMismatch_224 ?_
          refine j_goto (tgt := 240) dJ13_vectorizedMismatch_225 (by decide) ?_
          exact J.sub (zall [12, 13] rfl) (wfJ13_vectorizedMismatch_240 hd x8 x9 (v14 >>> ((3 + x7) &&& 31)) G h hk)
def fJ13_vectorizedMismatch_105 (x8 : Int32) (x9 : Int32) (s0 : Int32) (G : GS) : Option (Int32) :=
  some ((x9 <<< (x8 &&& 31)) + s0)
theorem wfJ13_vectorizedMismatch_105 {F : zF} (hd : 4 ≤ F.2.2.2) (x8 : Int32) (x9 : Int32) (s0 : Int32) (G : GS) {a : Int32} (h : fJ13_vectorizedMismatch_105 x8 x9 s0 G = some a) (hk : zKPI F G a) : J mJ13_vectorizedMismatch F G 105 [(8, vI x8), (9, vI x9)] [vI s0] := by
  unfold fJ13_vectorizedMismatch_105 at h
  refine j_istore (lv' := [(18, vI s0), (8, vI x8), (9, vI x9)]) dJ13_vectorizedMismatch_105 (Nat.le_of_ble_eq_true rfl) rfl ?_
  refine j_iload (j := 2) dJ13_vectorizedMismatch_107 rfl ?_
  refine j_iload (j := 1) dJ13_vectorizedMismatch_109 rfl ?_
  refine j_ishl dJ13_vectorizedMismatch_111 ?_
  refine j_iload (j := 0) dJ13_vectorizedMismatch_112 rfl ?_
  refine j_iadd dJ13_vectorizedMismatch_114 ?_
  obtain rfl := Option.some.inj h
  exact j_iret hk.1 hk.2 rfl dJ13_vectorizedMismatch_115
def fJ13_vectorizedMismatch_65 (x7 : Int32) (x8 : Int32) (x9 : Int32) (x12 : Int64) (x14 : Int64)  (G : GS) : Option (Int32) :=
  if (0 : Int32) = 0 then ((fJ25_numberOfTrailingZeros_0 (x12 ^^^ x14) G).bind fun v3 => fJ13_vectorizedMismatch_105 x8 x9 (v3 >>> ((3 + x7) &&& 31)) G) else ((fJ25_numberOfLeadingZeros_0 (x12 ^^^ x14) G).bind fun v5 => fJ13_vectorizedMismatch_105 x8 x9 (v5 >>> ((3 + x7) &&& 31)) G)
theorem wfJ13_vectorizedMismatch_65 {F : zF} (hd : 4 ≤ F.2.2.2) (x7 : Int32) (x8 : Int32) (x9 : Int32) (x12 : Int64) (x14 : Int64)  (G : GS) {a : Int32} (h : fJ13_vectorizedMismatch_65 x7 x8 x9 x12 x14  G = some a) (hk : zKPI F G a) : J mJ13_vectorizedMismatch F G 65 [(7, vI x7), (8, vI x8), (9, vI x9), (12, vL x12), (14, vL x14)] [] := by
  unfold fJ13_vectorizedMismatch_65 at h
  refine j_lload (j := 3) dJ13_vectorizedMismatch_65 rfl ?_
  refine j_lload (j := 4) dJ13_vectorizedMismatch_67 rfl ?_
  refine j_lxor dJ13_vectorizedMismatch_69 ?_
  refine j_lstore (lv' := [(16, vL (x12 ^^^ x14)), (7, vI x7), (8, vI x8), (9, vI x9), (12, vL x12), (14, vL x14)]) dJ13_vectorizedMismatch_70 (Nat.le_of_ble_eq_true rfl) rfl ?_
  refine j_gets (i := 9) (x := vI 0) rfl rfl q581 dJ13_vectorizedMismatch_72 ?_
  refine j_if_eq (tgt := 93) dJ13_vectorizedMismatch_75 (by decide) (fun c1 => ?_) (fun c1 => ?_)
  · rw [if_pos c1] at h
    refine j_lload (j := 0) dJ13_vectorizedMismatch_93 rfl ?_
    replace h := zbE h
    obtain ⟨v3, e2, h⟩ := h
    refine j_cont (zrS (As := [vL (x12 ^^^ x14)]) msJ13_49 (yJ25_numberOfTrailingZeros_ok e2) (Nat.le_trans (Nat.le_of_ble_eq_true rfl) hd) rfl rfl (Nat.le_of_ble_eq_true rfl) dJ13_vectorizedMismatch_95) ?_
    refine j_gets (i := 12) (x := vI 3) rfl rfl q590 dJ13_vectorizedMismatch_98 ?_
    refine j_iload (j := 1) dJ13_vectorizedMismatch_101 rfl ?_
    refine j_iadd dJ13_vectorizedMismatch_103 ?_
    refine j_ishr dJ13_vectorizedMismatch_104 ?_
    exact J.sub (zall [2, 3] rfl) (wfJ13_vectorizedMismatch_105 hd x8 x9 (v3 >>> ((3 + x7) &&& 31)) G h hk)
  · rw [if_neg c1] at h
    refine j_lload (j := 0) dJ13_vectorizedMismatch_78 rfl ?_
    replace h := zbE h
    obtain ⟨v5, e4, h⟩ := h
    refine j_cont (zrS (As := [vL (x12 ^^^ x14)]) msJ13_40 (yJ25_numberOfLeadingZeros_ok e4) (Nat.le_trans (Nat.le_of_ble_eq_true rfl) hd) rfl rfl (Nat.le_of_ble_eq_true rfl) dJ13_vectorizedMismatch_80) ?_
    refine j_gets (i := 12) (x := vI 3) rfl rfl q590 dJ13_vectorizedMismatch_83 ?_
    refine j_iload (j := 1) dJ13_vectorizedMismatch_86 rfl ?_
    refine j_iadd dJ13_vectorizedMismatch_88 ?_
    refine j_ishr dJ13_vectorizedMismatch_89 ?_
    refine j_goto (tgt := 105) dJ13_vectorizedMismatch_90 (by decide) ?_
    exact J.sub (zall [2, 3] rfl) (wfJ13_vectorizedMismatch_105 hd x8 x9 (v5 >>> ((3 + x7) &&& 31)) G h hk)
def fbJ13_vectorizedMismatch_11 (x0 : Option Nat) (x1 : Int64) (x3 : Option Nat) (x4 : Int64) (x6 : Int32) (x7 : Int32) (x8 : Int32) (x9 : Int32)  (G : GS) : Option ((Int32) ⊕ (Int32)) :=
  if (x6 >>> (x8 &&& 31)) ≤ x9 then (zo (fJ13_vectorizedMismatch_122 x0 x1 x3 x4 x6 x7 x8 x9 G)) else (zk [65] G (gS G 3) <| (fJ23_getLongUnaligned_0 (gS G 3) x0 (x1 + (x9.toInt64 <<< ((3 : Int32).toInt64 &&& 63))) G).bind fun l4 => zk [65] G (gS G 3) <| (fJ23_getLongUnaligned_0 (gS G 3) x3 (x4 + (x9.toInt64 <<< ((3 : Int32).toInt64 &&& 63))) G).bind fun l7 => if (lg_cmp l4 l7) = 0 then (some (.inl ((x9 + 1)))) else (zo (fJ13_vectorizedMismatch_65 x7 x8 x9 l4 l7 G)))
def flJ13_vectorizedMismatch_11 (x0 : Option Nat) (x1 : Int64) (x3 : Option Nat) (x4 : Int64) (x6 : Int32) (x7 : Int32) (x8 : Int32) (x9 : Int32) (G : GS) : Option (Int32) := zloop (fun s : Int32 => fbJ13_vectorizedMismatch_11 x0 x1 x3 x4 x6 x7 x8 s G) (x9)
theorem wfbJ13_vectorizedMismatch_11 {F : zF} (hd : 4 ≤ F.2.2.2) (x0 : Option Nat) (x1 : Int64) (x3 : Option Nat) (x4 : Int64) (x6 : Int32) (x7 : Int32) (x8 : Int32) (x9 : Int32) (G : GS) {a : (Int32) ⊕ (Int32)} (h : fbJ13_vectorizedMismatch_11 x0 x1 x3 x4 x6 x7 x8 x9 G = some a) (hk : (zcase (fun s : Int32 => J mJ13_vectorizedMismatch F G 11 [(0, vR x0), (1, vL x1), (3, vR x3), (4, vL x4), (6, vI x6), (7, vI x7), (8, vI x8), (9, vI s)] []) (zKPI F G)) a) : J mJ13_vectorizedMismatch F G 11 [(0, vR x0), (1, vL x1), (3, vR x3), (4, vL x4), (6, vI x6), (7, vI x7), (8, vI x8), (9, vI x9)] [] := by
  unfold fbJ13_vectorizedMismatch_11 at h
  refine j_iload (j := 7) dJ13_vectorizedMismatch_11 rfl ?_
  refine j_iload (j := 4) dJ13_vectorizedMismatch_13 rfl ?_
  refine j_iload (j := 6) dJ13_vectorizedMismatch_15 rfl ?_
  refine j_ishr dJ13_vectorizedMismatch_17 ?_
  refine j_icmp_ge (tgt := 122) dJ13_vectorizedMismatch_18 (by decide) (fun c1 => ?_) (fun c1 => ?_)
  · rw [if_pos c1] at h
    replace h := zoE h
    obtain ⟨a, h, rfl⟩ := h
    replace hk := hk
    exact J.sub (zall [0, 1, 2, 3, 4, 5, 6, 7] rfl) (wfJ13_vectorizedMismatch_122 hd x0 x1 x3 x4 x6 x7 x8 x9  G h hk)
  · rw [if_neg c1] at h
    refine j_iload (j := 7) dJ13_vectorizedMismatch_21 rfl ?_
    refine j_i2l dJ13_vectorizedMismatch_23 ?_
    refine j_gets (i := 11) (x := vI 3) rfl rfl q525 dJ13_vectorizedMismatch_24 ?_
    refine j_lshl dJ13_vectorizedMismatch_27 ?_
    refine j_lstore (lv' := [(10, vL (x9.toInt64 <<< ((3 : Int32).toInt64 &&& 63))), (0, vR x0), (1, vL x1), (3, vR x3), (4, vL x4), (6, vI x6), (7, vI x7), (8, vI x8), (9, vI x9)]) dJ13_vectorizedMismatch_28 (Nat.le_of_ble_eq_true rfl) rfl ?_
    refine j_gets (i := 3) (x := vR (some (gS G 3))) rfl rfl q527 dJ13_vectorizedMismatch_30 ?_
    refine j_aload_n (j := 1) dJ13_vectorizedMismatch_33 rfl rfl ?_
    refine j_lload_n (j := 2) dJ13_vectorizedMismatch_34 rfl rfl ?_
    refine j_lload (j := 0) dJ13_vectorizedMismatch_35 rfl ?_
    refine j_ladd dJ13_vectorizedMismatch_37 ?_
    replace h := zkE h
    obtain ⟨e2, h⟩ := h
    replace h := zbE h
    obtain ⟨l4, e3, h⟩ := h
    refine j_cont (zrV (As := [vR x0, vL (x1 + (x9.toInt64 <<< ((3 : Int32).toInt64 &&& 63)))]) msJ13_30 (yJ23_getLongUnaligned_ok e3) (Nat.le_trans (Nat.le_of_ble_eq_true rfl) hd) (zk_65 _ e2) rfl rfl (Nat.le_of_ble_eq_true rfl) dJ13_vectorizedMismatch_38) ?_
    refine j_lstore (lv' := [(12, vL l4), (10, vL (x9.toInt64 <<< ((3 : Int32).toInt64 &&& 63))), (0, vR x0), (1, vL x1), (3, vR x3), (4, vL x4), (6, vI x6), (7, vI x7), (8, vI x8), (9, vI x9)]) dJ13_vectorizedMismatch_41 (Nat.le_of_ble_eq_true rfl) rfl ?_
    refine j_gets (i := 3) (x := vR (some (gS G 3))) rfl rfl q527 dJ13_vectorizedMismatch_43 ?_
    refine j_aload_n (j := 4) dJ13_vectorizedMismatch_46 rfl rfl ?_
    refine j_lload (j := 5) dJ13_vectorizedMismatch_47 rfl ?_
    refine j_lload (j := 1) dJ13_vectorizedMismatch_49 rfl ?_
    refine j_ladd dJ13_vectorizedMismatch_51 ?_
    replace h := zkE h
    obtain ⟨e5, h⟩ := h
    replace h := zbE h
    obtain ⟨l7, e6, h⟩ := h
    refine j_cont (zrV (As := [vR x3, vL (x4 + (x9.toInt64 <<< ((3 : Int32).toInt64 &&& 63)))]) msJ13_30 (yJ23_getLongUnaligned_ok e6) (Nat.le_trans (Nat.le_of_ble_eq_true rfl) hd) (zk_65 _ e5) rfl rfl (Nat.le_of_ble_eq_true rfl) dJ13_vectorizedMismatch_52) ?_
    refine j_lstore (lv' := [(14, vL l7), (12, vL l4), (10, vL (x9.toInt64 <<< ((3 : Int32).toInt64 &&& 63))), (0, vR x0), (1, vL x1), (3, vR x3), (4, vL x4), (6, vI x6), (7, vI x7), (8, vI x8), (9, vI x9)]) dJ13_vectorizedMismatch_55 (Nat.le_of_ble_eq_true rfl) rfl ?_
    refine j_lload (j := 1) dJ13_vectorizedMismatch_57 rfl ?_
    refine j_lload (j := 0) dJ13_vectorizedMismatch_59 rfl ?_
    refine j_lcmp dJ13_vectorizedMismatch_61 ?_
    refine j_if_eq (tgt := 116) dJ13_vectorizedMismatch_62 (by decide) (fun c8 => ?_) (fun c8 => ?_)
    · rw [if_pos c8] at h
      refine j_iinc (j := 10) (v := (x9 + 1)) (lv' := [(9, vI (x9 + 1)), (14, vL l7), (12, vL l4), (10, vL (x9.toInt64 <<< ((3 : Int32).toInt64 &&& 63))), (0, vR x0), (1, vL x1), (3, vR x3), (4, vL x4), (6, vI x6), (7, vI x7), (8, vI x8)]) dJ13_vectorizedMismatch_116 rfl rfl (Nat.le_of_ble_eq_true rfl) rfl ?_
      refine j_goto (tgt := 11) dJ13_vectorizedMismatch_119 (by decide) ?_
      obtain rfl := Option.some.inj h
      exact J.sub (zall [4, 5, 6, 7, 8, 9, 10, 0] rfl) hk
    · rw [if_neg c8] at h
      replace h := zoE h
      obtain ⟨a, h, rfl⟩ := h
      replace hk := hk
      exact J.sub (zall [8, 9, 10, 1, 0] rfl) (wfJ13_vectorizedMismatch_65 hd x7 x8 x9 l4 l7  G h hk)
theorem wflJ13_vectorizedMismatch_11 {F : zF} (hd : 4 ≤ F.2.2.2) (x0 : Option Nat) (x1 : Int64) (x3 : Option Nat) (x4 : Int64) (x6 : Int32) (x7 : Int32) (x8 : Int32) (x9 : Int32) (G : GS) {a : Int32} (h : flJ13_vectorizedMismatch_11 x0 x1 x3 x4 x6 x7 x8 x9 G = some a) (hk : zKPI F G a) : J mJ13_vectorizedMismatch F G 11 [(0, vR x0), (1, vL x1), (3, vR x3), (4, vL x4), (6, vI x6), (7, vI x7), (8, vI x8), (9, vI x9)] [] := by
  unfold flJ13_vectorizedMismatch_11 at h
  exact zloop_walk (P := (fun s : Int32 => J mJ13_vectorizedMismatch F G 11 [(0, vR x0), (1, vL x1), (3, vR x3), (4, vL x4), (6, vI x6), (7, vI x7), (8, vI x8), (9, vI s)] [])) (fun s b e hk => wfbJ13_vectorizedMismatch_11 hd x0 x1 x3 x4 x6 x7 x8 s G e hk) (x9) _ h hk
def fJ13_vectorizedMismatch_0 (x0 : Option Nat) (x1 : Int64) (x3 : Option Nat) (x4 : Int64) (x6 : Int32) (x7 : Int32)  (G : GS) : Option (Int32) :=
  flJ13_vectorizedMismatch_11 x0 x1 x3 x4 x6 x7 (3 - x7) 0 G
theorem wfJ13_vectorizedMismatch_0 {F : zF} (hd : 4 ≤ F.2.2.2) (x0 : Option Nat) (x1 : Int64) (x3 : Option Nat) (x4 : Int64) (x6 : Int32) (x7 : Int32)  (G : GS) {a : Int32} (h : fJ13_vectorizedMismatch_0 x0 x1 x3 x4 x6 x7  G = some a) (hk : zKPI F G a) : J mJ13_vectorizedMismatch F G 0 [(0, vR x0), (1, vL x1), (3, vR x3), (4, vL x4), (6, vI x6), (7, vI x7)] [] := by
  unfold fJ13_vectorizedMismatch_0 at h
  refine j_gets (i := 11) (x := vI 3) rfl rfl q525 dJ13_vectorizedMismatch_0 ?_
  refine j_iload (j := 5) dJ13_vectorizedMismatch_3 rfl ?_
  refine j_isub dJ13_vectorizedMismatch_5 ?_
  refine j_istore (lv' := [(8, vI (3 - x7)), (0, vR x0), (1, vL x1), (3, vR x3), (4, vL x4), (6, vI x6), (7, vI x7)]) dJ13_vectorizedMismatch_6 (Nat.le_of_ble_eq_true rfl) rfl ?_
  refine j_iconst (v := 0) dJ13_vectorizedMismatch_8 (by decide) ?_
  refine j_istore (lv' := [(9, vI 0), (8, vI (3 - x7)), (0, vR x0), (1, vL x1), (3, vR x3), (4, vL x4), (6, vI x6), (7, vI x7)]) dJ13_vectorizedMismatch_9 (Nat.le_of_ble_eq_true rfl) rfl ?_
  exact J.sub (zall [2, 3, 4, 5, 6, 7, 1, 0] rfl) (wflJ13_vectorizedMismatch_11 hd x0 x1 x3 x4 x6 x7 (3 - x7) 0  G h hk)
theorem yJ13_vectorizedMismatch_ok {x0 : Option Nat} {x1 : Int64} {x3 : Option Nat} {x4 : Int64} {x6 : Int32} {x7 : Int32} {G : GS} {r : Int32} (h : fJ13_vectorizedMismatch_0 x0 x1 x3 x4 x6 x7 G = some r) : zRuns yJ13_vectorizedMismatch (ws_ yJ13_vectorizedMismatch cJ13_vectorizedMismatch 19 (some Jvm.ClassFile.FieldType.int)) [vR x0, vL x1, vR x3, vL x4, vI x6, vI x7] (.inl (some (vI r)), G, G, 4) :=
  zentry (M := mJ13_vectorizedMismatch) (plainFor_of_name (by decide +kernel)) ⟨rfl, rfl, rfl, rfl⟩ (Nat.le_of_ble_eq_true rfl) (wfJ13_vectorizedMismatch_0 (Nat.le_refl _) x0 x1 x3 x4 x6 x7 G h ⟨rfl, rfl⟩)
theorem msJ13_122 : zSS RJ13 122 yJ13_vectorizedMismatch cJ13_vectorizedMismatch 19 (some Jvm.ClassFile.FieldType.int) 6 := ⟨lw_S q522 q523 q139 q524, (by decide +kernel), (by decide)⟩
abbrev mJ13_mismatch : zM := (cJ13_mismatch, RJ13, 4, (some Jvm.ClassFile.FieldType.int), "mismatch", [], "([I[II)I")
def fbJ13_mismatch_48 (x0 : Option Nat) (x1 : Option Nat) (x2 : Int32) (x3 : Int32)  (G : GS) : Option ((Int32) ⊕ (Int32)) :=
  if x2 ≤ x3 then (zo (some (-1))) else (x0.bind fun a2 => (zaI G 50 a2 x3).bind fun v4 => x1.bind fun a6 => (zaI G 50 a6 x3).bind fun v8 => if v4 = v8 then (some (.inl ((x3 + 1)))) else (zo (some x3)))
def flJ13_mismatch_48 (x0 : Option Nat) (x1 : Option Nat) (x2 : Int32) (x3 : Int32) (G : GS) : Option (Int32) := zloop (fun s : Int32 => fbJ13_mismatch_48 x0 x1 x2 s G) (x3)
theorem wfbJ13_mismatch_48 {F : zF} (hd : 5 ≤ F.2.2.2) (x0 : Option Nat) (x1 : Option Nat) (x2 : Int32) (x3 : Int32) (G : GS) {a : (Int32) ⊕ (Int32)} (h : fbJ13_mismatch_48 x0 x1 x2 x3 G = some a) (hk : (zcase (fun s : Int32 => J mJ13_mismatch F G 48 [(0, vR x0), (1, vR x1), (2, vI x2), (3, vI s)] []) (zKPI F G)) a) : J mJ13_mismatch F G 48 [(0, vR x0), (1, vR x1), (2, vI x2), (3, vI x3)] [] := by
  unfold fbJ13_mismatch_48 at h
  refine j_iload_n (j := 3) dJ13_mismatch_48 rfl rfl ?_
  refine j_iload_n (j := 2) dJ13_mismatch_49 rfl rfl ?_
  refine j_icmp_ge (tgt := 70) dJ13_mismatch_50 (by decide) (fun c1 => ?_) (fun c1 => ?_)
  · rw [if_pos c1] at h
    replace h := zoE h
    obtain ⟨a, h, rfl⟩ := h
    replace hk := hk
    refine j_iconst (v := (-1)) dJ13_mismatch_70 (by decide) ?_
    obtain rfl := Option.some.inj h
    exact j_iret hk.1 hk.2 rfl dJ13_mismatch_71
  · rw [if_neg c1] at h
    refine j_aload_n (j := 0) dJ13_mismatch_53 rfl rfl ?_
    refine j_iload_n (j := 3) dJ13_mismatch_54 rfl rfl ?_
    replace h := zbE h
    obtain ⟨a2, e3, h⟩ := h
    subst e3
    replace h := zbE h
    obtain ⟨v4, e5, h⟩ := h
    refine j_iald (Or.inl rfl) e5 dJ13_mismatch_55 ?_
    refine j_aload_n (j := 1) dJ13_mismatch_56 rfl rfl ?_
    refine j_iload_n (j := 3) dJ13_mismatch_57 rfl rfl ?_
    replace h := zbE h
    obtain ⟨a6, e7, h⟩ := h
    subst e7
    replace h := zbE h
    obtain ⟨v8, e9, h⟩ := h
    refine j_iald (Or.inl rfl) e9 dJ13_mismatch_58 ?_
    refine j_icmp_eq (tgt := 64) dJ13_mismatch_59 (by decide) (fun c10 => ?_) (fun c10 => ?_)
    · rw [if_pos c10] at h
      refine j_iinc (j := 3) (v := (x3 + 1)) (lv' := [(3, vI (x3 + 1)), (0, vR (some a2)), (1, vR (some a6)), (2, vI x2)]) dJ13_mismatch_64 rfl rfl (Nat.le_of_ble_eq_true rfl) rfl ?_
      refine j_goto (tgt := 48) dJ13_mismatch_67 (by decide) ?_
      obtain rfl := Option.some.inj h
      exact J.sub (zall [1, 2, 3, 0] rfl) hk
    · rw [if_neg c10] at h
      replace h := zoE h
      obtain ⟨a, h, rfl⟩ := h
      replace hk := hk
      refine j_iload_n (j := 3) dJ13_mismatch_62 rfl rfl ?_
      obtain rfl := Option.some.inj h
      exact j_iret hk.1 hk.2 rfl dJ13_mismatch_63
theorem wflJ13_mismatch_48 {F : zF} (hd : 5 ≤ F.2.2.2) (x0 : Option Nat) (x1 : Option Nat) (x2 : Int32) (x3 : Int32) (G : GS) {a : Int32} (h : flJ13_mismatch_48 x0 x1 x2 x3 G = some a) (hk : zKPI F G a) : J mJ13_mismatch F G 48 [(0, vR x0), (1, vR x1), (2, vI x2), (3, vI x3)] [] := by
  unfold flJ13_mismatch_48 at h
  exact zloop_walk (P := (fun s : Int32 => J mJ13_mismatch F G 48 [(0, vR x0), (1, vR x1), (2, vI x2), (3, vI s)] [])) (fun s b e hk => wfbJ13_mismatch_48 hd x0 x1 x2 s G e hk) (x3) _ h hk
def fJ13_mismatch_0 (x0 : Option Nat) (x1 : Option Nat) (x2 : Int32)  (G : GS) : Option (Int32) :=
  if x2 ≤ 1 then (flJ13_mismatch_48 x0 x1 x2 0 G) else (x0.bind fun a2 => (zaI G 50 a2 (0 : Int32)).bind fun v4 => x1.bind fun a6 => (zaI G 50 a6 (0 : Int32)).bind fun v8 => if v4 = v8 then ((fJ13_vectorizedMismatch_0 (some a2) ((16 : Int32).toInt64) (some a6) ((16 : Int32).toInt64) x2 2 G).bind fun v12 => if v12 < 0 then (flJ13_mismatch_48 (some a2) (some a6) x2 (x2 - (v12 ^^^ (-1))) G) else (some v12)) else (some 0))
theorem wfJ13_mismatch_0 {F : zF} (hd : 5 ≤ F.2.2.2) (x0 : Option Nat) (x1 : Option Nat) (x2 : Int32)  (G : GS) {a : Int32} (h : fJ13_mismatch_0 x0 x1 x2  G = some a) (hk : zKPI F G a) : J mJ13_mismatch F G 0 [(0, vR x0), (1, vR x1), (2, vI x2)] [] := by
  unfold fJ13_mismatch_0 at h
  refine j_iconst (v := 0) dJ13_mismatch_0 (by decide) ?_
  refine j_istore_n (lv' := [(3, vI 0), (0, vR x0), (1, vR x1), (2, vI x2)]) dJ13_mismatch_1 rfl (Nat.le_of_ble_eq_true rfl) rfl ?_
  refine j_iload_n (j := 3) dJ13_mismatch_2 rfl rfl ?_
  refine j_iconst (v := 1) dJ13_mismatch_3 (by decide) ?_
  refine j_icmp_le (tgt := 48) dJ13_mismatch_4 (by decide) (fun c1 => ?_) (fun c1 => ?_)
  · rw [if_pos c1] at h
    exact J.sub (zall [1, 2, 3, 0] rfl) (wflJ13_mismatch_48 hd x0 x1 x2 0  G h hk)
  · rw [if_neg c1] at h
    refine j_aload_n (j := 1) dJ13_mismatch_7 rfl rfl ?_
    refine j_iconst (v := 0) dJ13_mismatch_8 (by decide) ?_
    replace h := zbE h
    obtain ⟨a2, e3, h⟩ := h
    subst e3
    replace h := zbE h
    obtain ⟨v4, e5, h⟩ := h
    refine j_iald (Or.inl rfl) e5 dJ13_mismatch_9 ?_
    refine j_aload_n (j := 2) dJ13_mismatch_10 rfl rfl ?_
    refine j_iconst (v := 0) dJ13_mismatch_11 (by decide) ?_
    replace h := zbE h
    obtain ⟨a6, e7, h⟩ := h
    subst e7
    replace h := zbE h
    obtain ⟨v8, e9, h⟩ := h
    refine j_iald (Or.inl rfl) e9 dJ13_mismatch_12 ?_
    refine j_icmp_eq (tgt := 18) dJ13_mismatch_13 (by decide) (fun c10 => ?_) (fun c10 => ?_)
    · rw [if_pos c10] at h
      refine j_aload_n (j := 1) dJ13_mismatch_18 rfl rfl ?_
      refine j_gets (i := 7) (x := vI 16) rfl rfl q518 dJ13_mismatch_19 ?_
      refine j_i2l dJ13_mismatch_22 ?_
      refine j_aload_n (j := 2) dJ13_mismatch_23 rfl rfl ?_
      refine j_gets (i := 7) (x := vI 16) rfl rfl q518 dJ13_mismatch_24 ?_
      refine j_i2l dJ13_mismatch_27 ?_
      refine j_iload_n (j := 3) dJ13_mismatch_28 rfl rfl ?_
      refine j_gets (i := 10) (x := vI 2) rfl rfl q520 dJ13_mismatch_29 ?_
      replace h := zbE h
      obtain ⟨v12, e11, h⟩ := h
      refine j_cont (zrS (As := [vR (some a2), vL ((16 : Int32).toInt64), vR (some a6), vL ((16 : Int32).toInt64), vI x2, vI 2]) msJ13_122 (yJ13_vectorizedMismatch_ok e11) (Nat.le_trans (Nat.le_of_ble_eq_true rfl) hd) rfl rfl (Nat.le_of_ble_eq_true rfl) dJ13_mismatch_32) ?_
      refine j_istore_n (lv' := [(3, vI v12), (0, vR (some a2)), (1, vR (some a6)), (2, vI x2)]) dJ13_mismatch_35 rfl (Nat.le_of_ble_eq_true rfl) rfl ?_
      refine j_iload_n (j := 0) dJ13_mismatch_36 rfl rfl ?_
      refine j_if_lt (tgt := 42) dJ13_mismatch_37 (by decide) (fun c13 => ?_) (fun c13 => ?_)
      · rw [if_pos c13] at h
        refine j_iload_n (j := 3) dJ13_mismatch_42 rfl rfl ?_
        refine j_iload_n (j := 0) dJ13_mismatch_43 rfl rfl ?_
        refine j_iconst (v := (-1)) dJ13_mismatch_44 (by decide) ?_
        refine j_ixor dJ13_mismatch_45 ?_
        refine j_isub dJ13_mismatch_46 ?_
        refine j_istore_n (lv' := [(3, vI (x2 - (v12 ^^^ (-1)))), (0, vR (some a2)), (1, vR (some a6)), (2, vI x2)]) dJ13_mismatch_47 rfl (Nat.le_of_ble_eq_true rfl) rfl ?_
        exact J.sub (zall [1, 2, 3, 0] rfl) (wflJ13_mismatch_48 hd (some a2) (some a6) x2 (x2 - (v12 ^^^ (-1)))  G h hk)
      · rw [if_neg c13] at h
        refine j_iload_n (j := 0) dJ13_mismatch_40 rfl rfl ?_
        obtain rfl := Option.some.inj h
        exact j_iret hk.1 hk.2 rfl dJ13_mismatch_41
    · rw [if_neg c10] at h
      refine j_iconst (v := 0) dJ13_mismatch_16 (by decide) ?_
      obtain rfl := Option.some.inj h
      exact j_iret hk.1 hk.2 rfl dJ13_mismatch_17
theorem yJ13_mismatch_ok {x0 : Option Nat} {x1 : Option Nat} {x2 : Int32} {G : GS} {r : Int32} (h : fJ13_mismatch_0 x0 x1 x2 G = some r) : zRuns yJ13_mismatch (ws_ yJ13_mismatch cJ13_mismatch 4 (some Jvm.ClassFile.FieldType.int)) [vR x0, vR x1, vI x2] (.inl (some (vI r)), G, G, 5) :=
  zentry (M := mJ13_mismatch) (plainFor_of_name (by decide +kernel)) ⟨rfl, rfl, rfl, rfl⟩ (Nat.le_of_ble_eq_true rfl) (wfJ13_mismatch_0 (Nat.le_refl _) x0 x1 x2 G h ⟨rfl, rfl⟩)
theorem msJ15_254 : zSS RJ15 254 yJ13_mismatch cJ13_mismatch 4 (some Jvm.ClassFile.FieldType.int) 3 := ⟨lw_S q515 q516 q139 q517, (by decide +kernel), (by decide)⟩
abbrev mJ15_equals : zM := (cJ15_equals, RJ15, 3, (some Jvm.ClassFile.FieldType.boolean), "equals", [], "([I[I)Z")
def fJ15_equals_0 (x0 : Option Nat) (x1 : Option Nat)  (G : GS) : Option (Int32) :=
  if x0 = x1 then (zcond (zbb 1) (some 1)) else (zopt x0 (zcond (zbb 0) (some 0)) (fun a3 => zopt x1 (zcond (zbb 0) (some 0)) (fun a5 => (zln G a3).bind fun v7 => (zln G a5).bind fun v9 => if v9 = v7 then ((fJ13_mismatch_0 (some a3) (some a5) v7 G).bind fun v13 => if 0 ≤ v13 then (zcond (zbb 0) (some 0)) else (zcond (zbb 1) (some 1))) else (zcond (zbb 0) (some 0)))))
theorem wfJ15_equals_0 {F : zF} (hd : 6 ≤ F.2.2.2) (x0 : Option Nat) (x1 : Option Nat)  (G : GS) {a : Int32} (h : fJ15_equals_0 x0 x1  G = some a) (hk : zKPI F G a) : J mJ15_equals F G 0 [(0, vR x0), (1, vR x1)] [] := by
  unfold fJ15_equals_0 at h
  refine j_aload_n (j := 0) dJ15_equals_0 rfl rfl ?_
  refine j_aload_n (j := 1) dJ15_equals_1 rfl rfl ?_
  refine j_acmp_ne (tgt := 7) dJ15_equals_2 (by decide) (fun c1 => ?_) (fun c1 => ?_)
  · rw [if_pos c1] at h
    refine j_iconst (v := 1) dJ15_equals_5 (by decide) ?_
    replace h := zcondE h
    obtain ⟨e2, h⟩ := h
    obtain rfl := Option.some.inj h
    exact j_zret hk.1 hk.2 rfl (zbb_n e2) dJ15_equals_6
  · rw [if_neg c1] at h
    refine j_aload_n (j := 0) dJ15_equals_7 rfl rfl ?_
    rcases x0 with _ | a3
    · replace h := zopt_n h
      refine j_ifnull0 (tgt := 15) dJ15_equals_8 (by decide) ?_
      refine j_iconst (v := 0) dJ15_equals_15 (by decide) ?_
      replace h := zcondE h
      obtain ⟨e4, h⟩ := h
      obtain rfl := Option.some.inj h
      exact j_zret hk.1 hk.2 rfl (zbb_n e4) dJ15_equals_16
    · replace h := zopt_s h
      refine j_ifnull1 dJ15_equals_8 ?_
      refine j_aload_n (j := 1) dJ15_equals_11 rfl rfl ?_
      rcases x1 with _ | a5
      · replace h := zopt_n h
        refine j_ifnonnull0 dJ15_equals_12 ?_
        refine j_iconst (v := 0) dJ15_equals_15 (by decide) ?_
        replace h := zcondE h
        obtain ⟨e6, h⟩ := h
        obtain rfl := Option.some.inj h
        exact j_zret hk.1 hk.2 rfl (zbb_n e6) dJ15_equals_16
      · replace h := zopt_s h
        refine j_ifnonnull1 (tgt := 17) dJ15_equals_12 (by decide) ?_
        refine j_aload_n (j := 0) dJ15_equals_17 rfl rfl ?_
        replace h := zbE h
        obtain ⟨v7, e8, h⟩ := h
        refine j_alen e8 dJ15_equals_18 ?_
        refine j_istore_n (lv' := [(2, vI v7), (0, vR (some a3)), (1, vR (some a5))]) dJ15_equals_19 rfl (Nat.le_of_ble_eq_true rfl) rfl ?_
        refine j_aload_n (j := 2) dJ15_equals_20 rfl rfl ?_
        replace h := zbE h
        obtain ⟨v9, e10, h⟩ := h
        refine j_alen e10 dJ15_equals_21 ?_
        refine j_iload_n (j := 0) dJ15_equals_22 rfl rfl ?_
        refine j_icmp_eq (tgt := 28) dJ15_equals_23 (by decide) (fun c11 => ?_) (fun c11 => ?_)
        · rw [if_pos c11] at h
          refine j_aload_n (j := 1) dJ15_equals_28 rfl rfl ?_
          refine j_aload_n (j := 2) dJ15_equals_29 rfl rfl ?_
          refine j_iload_n (j := 0) dJ15_equals_30 rfl rfl ?_
          replace h := zbE h
          obtain ⟨v13, e12, h⟩ := h
          refine j_cont (zrS (As := [vR (some a3), vR (some a5), vI v7]) msJ15_254 (yJ13_mismatch_ok e12) (Nat.le_trans (Nat.le_of_ble_eq_true rfl) hd) rfl rfl (Nat.le_of_ble_eq_true rfl) dJ15_equals_31) ?_
          refine j_if_ge (tgt := 41) dJ15_equals_34 (by decide) (fun c14 => ?_) (fun c14 => ?_)
          · rw [if_pos c14] at h
            refine j_iconst (v := 0) dJ15_equals_41 (by decide) ?_
            replace h := zcondE h
            obtain ⟨e15, h⟩ := h
            obtain rfl := Option.some.inj h
            exact j_zret hk.1 hk.2 rfl (zbb_n e15) dJ15_equals_42
          · rw [if_neg c14] at h
            refine j_iconst (v := 1) dJ15_equals_37 (by decide) ?_
            refine j_goto (tgt := 42) dJ15_equals_38 (by decide) ?_
            replace h := zcondE h
            obtain ⟨e16, h⟩ := h
            obtain rfl := Option.some.inj h
            exact j_zret hk.1 hk.2 rfl (zbb_n e16) dJ15_equals_42
        · rw [if_neg c11] at h
          refine j_iconst (v := 0) dJ15_equals_26 (by decide) ?_
          replace h := zcondE h
          obtain ⟨e17, h⟩ := h
          obtain rfl := Option.some.inj h
          exact j_zret hk.1 hk.2 rfl (zbb_n e17) dJ15_equals_27
theorem yJ15_equals_ok {x0 : Option Nat} {x1 : Option Nat} {G : GS} {r : Int32} (h : fJ15_equals_0 x0 x1 G = some r) : zRuns yJ15_equals (ws_ yJ15_equals cJ15_equals 3 (some Jvm.ClassFile.FieldType.boolean)) [vR x0, vR x1] (.inl (some (vI r)), G, G, 6) :=
  zentry (M := mJ15_equals) (plainFor_of_name (by decide +kernel)) ⟨rfl, rfl, rfl, rfl⟩ (Nat.le_of_ble_eq_true rfl) (wfJ15_equals_0 (Nat.le_refl _) x0 x1 G h ⟨rfl, rfl⟩)
theorem msX5_122 : zSV RX5 122 RX5 yX5_followIn cX5_followIn 4 none 2 := ⟨lw_V q508 q510 qs5 q151 q511, (by decide +kernel), (by decide)⟩
theorem msX5_126 : zSS RX5 126 yJ15_equals cJ15_equals 3 (some Jvm.ClassFile.FieldType.boolean) 2 := ⟨lw_S q512 q513 q141 q514, (by decide +kernel), (by decide)⟩
abbrev mX5_findFollow : zM := (cX5_findFollow, RX5, 6, none, "findFollow", [], "()V")
def fX5_findFollow_117 (t : Nat) (s0 : Int32) (G : GS) : Option ((Int32 × GS) ⊕ (GS)) :=
  some (.inl (s0, G))
theorem wfX5_findFollow_117 {F : zF} (hd : 8 ≤ F.2.2.2) (t : Nat) (s0 : Int32) (G : GS) {a : (Int32 × GS) ⊕ (GS)} (h : fX5_findFollow_117 t s0 G = some a) (hk : (zcase (fun s : Int32 × GS => J mX5_findFollow F s.2 11 [(0, vR (some t)), (1, vI s.1)] []) (zKV F)) a) : J mX5_findFollow F G 117 [(0, vR (some t))] [vI s0] := by
  unfold fX5_findFollow_117 at h
  refine j_istore_n (lv' := [(1, vI s0), (0, vR (some t))]) dX5_findFollow_117 rfl (Nat.le_of_ble_eq_true rfl) rfl ?_
  refine j_goto (tgt := 11) dX5_findFollow_118 (by decide) ?_
  obtain rfl := Option.some.inj h
  exact J.sub (zall [1, 0] rfl) hk
def fX5_findFollow_101 (t : Nat) (x2 : Option Nat)  (G : GS) : Option ((Int32 × GS) ⊕ (GS)) :=
  (zgR G 5 t 2).bind fun r1 => (fJ15_equals_0 x2 r1 G).bind fun v4 => if v4 = 0 then (fX5_findFollow_117 t 1 G) else (fX5_findFollow_117 t 0 G)
theorem wfX5_findFollow_101 {F : zF} (hd : 8 ≤ F.2.2.2) (t : Nat) (x2 : Option Nat)  (G : GS) {a : (Int32 × GS) ⊕ (GS)} (h : fX5_findFollow_101 t x2  G = some a) (hk : (zcase (fun s : Int32 × GS => J mX5_findFollow F s.2 11 [(0, vR (some t)), (1, vI s.1)] []) (zKV F)) a) : J mX5_findFollow F G 101 [(0, vR (some t)), (2, vR x2)] [] := by
  unfold fX5_findFollow_101 at h
  refine j_aload_n (j := 1) dX5_findFollow_101 rfl rfl ?_
  refine j_aload_n (j := 0) dX5_findFollow_102 rfl rfl ?_
  replace h := zbE h
  obtain ⟨r1, e2, h⟩ := h
  refine j_getR fgX5_15 (fun _ _ _ => rfl) dX5_findFollow_103 e2 ?_
  replace h := zbE h
  obtain ⟨v4, e3, h⟩ := h
  refine j_cont (zrS (As := [vR x2, vR r1]) msX5_126 (yJ15_equals_ok e3) (Nat.le_trans (Nat.le_of_ble_eq_true rfl) hd) rfl rfl (Nat.le_of_ble_eq_true rfl) dX5_findFollow_106) ?_
  refine j_if_ne (tgt := 116) dX5_findFollow_109 (by decide) (fun c5 => ?_) (fun c5 => ?_)
  · rw [if_pos c5] at h
    refine j_iconst (v := 1) dX5_findFollow_112 (by decide) ?_
    refine j_goto (tgt := 117) dX5_findFollow_113 (by decide) ?_
    exact J.sub (zall [0] rfl) (wfX5_findFollow_117 hd t 1 G h hk)
  · rw [if_neg c5] at h
    refine j_iconst (v := 0) dX5_findFollow_116 (by decide) ?_
    exact J.sub (zall [0] rfl) (wfX5_findFollow_117 hd t 0 G h hk)
def fX5_findFollow_98 (t : Nat) (x2 : Option Nat) (x3 : Option Nat)  (G : GS) : Option ((GS) ⊕ ((Int32 × GS) ⊕ (GS))) :=
  some (.inl (G))
theorem wfX5_findFollow_98 {F : zF} (hd : 8 ≤ F.2.2.2) (t : Nat) (x2 : Option Nat) (x3 : Option Nat)  (G : GS) {a : (GS) ⊕ ((Int32 × GS) ⊕ (GS))} (h : fX5_findFollow_98 t x2 x3  G = some a) (hk : (zcase (fun s : GS => J mX5_findFollow F s 36 [(0, vR (some t)), (2, vR x2), (3, vR x3)] []) ((zcase (fun s : Int32 × GS => J mX5_findFollow F s.2 11 [(0, vR (some t)), (1, vI s.1)] []) (zKV F)))) a) : J mX5_findFollow F G 98 [(0, vR (some t)), (2, vR x2), (3, vR x3)] [] := by
  unfold fX5_findFollow_98 at h
  refine j_goto (tgt := 36) dX5_findFollow_98 (by decide) ?_
  obtain rfl := Option.some.inj h
  exact J.sub (zall [0, 1, 2] rfl) hk
def fX5_findFollow_92 (t : Nat) (x2 : Option Nat) (x3 : Option Nat) (x4 : Option Nat) (x5 : Int32)  (G : GS) : Option ((Int32 × GS) ⊕ ((GS) ⊕ ((Int32 × GS) ⊕ (GS)))) :=
  some (.inl ((x5 + 1), G))
theorem wfX5_findFollow_92 {F : zF} (hd : 8 ≤ F.2.2.2) (t : Nat) (x2 : Option Nat) (x3 : Option Nat) (x4 : Option Nat) (x5 : Int32)  (G : GS) {a : (Int32 × GS) ⊕ ((GS) ⊕ ((Int32 × GS) ⊕ (GS)))} (h : fX5_findFollow_92 t x2 x3 x4 x5  G = some a) (hk : (zcase (fun s : Int32 × GS => J mX5_findFollow F s.2 59 [(0, vR (some t)), (2, vR x2), (3, vR x3), (4, vR x4), (5, vI s.1)] []) ((zcase (fun s : GS => J mX5_findFollow F s 36 [(0, vR (some t)), (2, vR x2), (3, vR x3)] []) ((zcase (fun s : Int32 × GS => J mX5_findFollow F s.2 11 [(0, vR (some t)), (1, vI s.1)] []) (zKV F)))))) a) : J mX5_findFollow F G 92 [(0, vR (some t)), (2, vR x2), (3, vR x3), (4, vR x4), (5, vI x5)] [] := by
  unfold fX5_findFollow_92 at h
  refine j_iinc (j := 4) (v := (x5 + 1)) (lv' := [(5, vI (x5 + 1)), (0, vR (some t)), (2, vR x2), (3, vR x3), (4, vR x4)]) dX5_findFollow_92 rfl rfl (Nat.le_of_ble_eq_true rfl) rfl ?_
  refine j_goto (tgt := 59) dX5_findFollow_95 (by decide) ?_
  obtain rfl := Option.some.inj h
  exact J.sub (zall [1, 2, 3, 4, 0] rfl) hk
def fbX5_findFollow_59 (t : Nat) (x2 : Option Nat) (x3 : Option Nat) (x4 : Option Nat) (x5 : Int32)  (G : GS) : Option ((Int32 × GS) ⊕ ((GS) ⊕ ((Int32 × GS) ⊕ (GS)))) :=
  x4.bind fun a1 => (zgR G 3 a1 1).bind fun r3 => r3.bind fun a5 => (zln G a5).bind fun v7 => if v7 ≤ x5 then (zo (fX5_findFollow_98 t x2 x3 G)) else ((zgR G 3 a1 1).bind fun r10 => r10.bind fun a12 => (zaI G 50 a12 x5).bind fun v14 => (fX1_isNonterminal_0 v14 G).bind fun v17 => if v17 = 0 then (fX5_findFollow_92 t x2 x3 (some a1) x5 G) else (zk [5] G t <| (fX5_followIn_0 t (some a1) x5 G).bind fun G21 => fX5_findFollow_92 t x2 x3 (some a1) x5 G21))
def flX5_findFollow_59 (t : Nat) (x2 : Option Nat) (x3 : Option Nat) (x4 : Option Nat) (x5 : Int32) (G : GS) : Option ((GS) ⊕ ((Int32 × GS) ⊕ (GS))) := zloop (fun s : Int32 × GS => fbX5_findFollow_59 t x2 x3 x4 s.1 s.2) (x5, G)
theorem wfbX5_findFollow_59 {F : zF} (hd : 8 ≤ F.2.2.2) (t : Nat) (x2 : Option Nat) (x3 : Option Nat) (x4 : Option Nat) (x5 : Int32) (G : GS) {a : (Int32 × GS) ⊕ ((GS) ⊕ ((Int32 × GS) ⊕ (GS)))} (h : fbX5_findFollow_59 t x2 x3 x4 x5 G = some a) (hk : (zcase (fun s : Int32 × GS => J mX5_findFollow F s.2 59 [(0, vR (some t)), (2, vR x2), (3, vR x3), (4, vR x4), (5, vI s.1)] []) ((zcase (fun s : GS => J mX5_findFollow F s 36 [(0, vR (some t)), (2, vR x2), (3, vR x3)] []) ((zcase (fun s : Int32 × GS => J mX5_findFollow F s.2 11 [(0, vR (some t)), (1, vI s.1)] []) (zKV F)))))) a) : J mX5_findFollow F G 59 [(0, vR (some t)), (2, vR x2), (3, vR x3), (4, vR x4), (5, vI x5)] [] := by
  unfold fbX5_findFollow_59 at h
  refine j_iload (j := 4) dX5_findFollow_59 rfl ?_
  refine j_aload (j := 3) dX5_findFollow_61 rfl ?_
  replace h := zbE h
  obtain ⟨a1, e2, h⟩ := h
  subst e2
  replace h := zbE h
  obtain ⟨r3, e4, h⟩ := h
  refine j_getR fgX5_94 (fun _ _ _ => rfl) dX5_findFollow_63 e4 ?_
  replace h := zbE h
  obtain ⟨a5, e6, h⟩ := h
  subst e6
  replace h := zbE h
  obtain ⟨v7, e8, h⟩ := h
  refine j_alen e8 dX5_findFollow_66 ?_
  refine j_icmp_ge (tgt := 98) dX5_findFollow_67 (by decide) (fun c9 => ?_) (fun c9 => ?_)
  · rw [if_pos c9] at h
    replace h := zoE h
    obtain ⟨a, h, rfl⟩ := h
    replace hk := hk
    exact J.sub (zall [0, 1, 2] rfl) (wfX5_findFollow_98 hd t x2 x3  G h hk)
  · rw [if_neg c9] at h
    refine j_aload (j := 3) dX5_findFollow_70 rfl ?_
    replace h := zbE h
    obtain ⟨r10, e11, h⟩ := h
    refine j_getR fgX5_94 (fun _ _ _ => rfl) dX5_findFollow_72 e11 ?_
    refine j_iload (j := 4) dX5_findFollow_75 rfl ?_
    replace h := zbE h
    obtain ⟨a12, e13, h⟩ := h
    subst e13
    replace h := zbE h
    obtain ⟨v14, e15, h⟩ := h
    refine j_iald (Or.inl rfl) e15 dX5_findFollow_77 ?_
    replace h := zbE h
    obtain ⟨v17, e16, h⟩ := h
    refine j_cont (zrSN (As := [vI v14]) msX5_70 q401 (yX1_isNonterminal_ok e16) (Nat.le_trans (Nat.le_of_ble_eq_true rfl) hd) rfl rfl (Nat.le_of_ble_eq_true rfl) dX5_findFollow_78) ?_
    refine j_if_eq (tgt := 92) dX5_findFollow_81 (by decide) (fun c18 => ?_) (fun c18 => ?_)
    · rw [if_pos c18] at h
      exact J.sub (zall [0, 1, 2, 3, 4] rfl) (wfX5_findFollow_92 hd t x2 x3 (some a1) x5  G h hk)
    · rw [if_neg c18] at h
      refine j_aload_n (j := 0) dX5_findFollow_84 rfl rfl ?_
      refine j_aload (j := 3) dX5_findFollow_85 rfl ?_
      refine j_iload (j := 4) dX5_findFollow_87 rfl ?_
      replace h := zkE h
      obtain ⟨e19, h⟩ := h
      replace h := zbE h
      obtain ⟨G21, e20, h⟩ := h
      refine j_cont (zrV (As := [vR (some a1), vI x5]) msX5_122 (yX5_followIn_ok e20) (Nat.le_trans (Nat.le_of_ble_eq_true rfl) hd) (zk_5 _ e19) rfl rfl (Nat.le_of_ble_eq_true rfl) dX5_findFollow_89) ?_
      exact J.sub (zall [0, 1, 2, 3, 4] rfl) (wfX5_findFollow_92 hd t x2 x3 (some a1) x5  G21 h hk)
theorem wflX5_findFollow_59 {F : zF} (hd : 8 ≤ F.2.2.2) (t : Nat) (x2 : Option Nat) (x3 : Option Nat) (x4 : Option Nat) (x5 : Int32) (G : GS) {a : (GS) ⊕ ((Int32 × GS) ⊕ (GS))} (h : flX5_findFollow_59 t x2 x3 x4 x5 G = some a) (hk : (zcase (fun s : GS => J mX5_findFollow F s 36 [(0, vR (some t)), (2, vR x2), (3, vR x3)] []) ((zcase (fun s : Int32 × GS => J mX5_findFollow F s.2 11 [(0, vR (some t)), (1, vI s.1)] []) (zKV F)))) a) : J mX5_findFollow F G 59 [(0, vR (some t)), (2, vR x2), (3, vR x3), (4, vR x4), (5, vI x5)] [] := by
  unfold flX5_findFollow_59 at h
  exact zloop_walk (P := (fun s : Int32 × GS => J mX5_findFollow F s.2 59 [(0, vR (some t)), (2, vR x2), (3, vR x3), (4, vR x4), (5, vI s.1)] [])) (fun s b e hk => wfbX5_findFollow_59 hd t x2 x3 x4 s.1 s.2 e hk) (x5, G) _ h hk
def fbX5_findFollow_36 (t : Nat) (x2 : Option Nat) (x3 : Option Nat)  (G : GS) : Option ((GS) ⊕ ((Int32 × GS) ⊕ (GS))) :=
  x3.bind fun a1 => zk [13] G a1 <| (fJ19_hasNext_0 a1 G).bind fun v5 => if v5 = 0 then (zo (fX5_findFollow_101 t x2 G)) else (zk [13] G a1 <| zb2 (fJ19_next_0 a1 G) fun r9 G10 => zkq [3] G10 r9 (flX5_findFollow_59 t x2 (some a1) r9 0 G10))
def flX5_findFollow_36 (t : Nat) (x2 : Option Nat) (x3 : Option Nat) (G : GS) : Option ((Int32 × GS) ⊕ (GS)) := zloop (fun s : GS => fbX5_findFollow_36 t x2 x3 s) (G)
theorem wfbX5_findFollow_36 {F : zF} (hd : 8 ≤ F.2.2.2) (t : Nat) (x2 : Option Nat) (x3 : Option Nat) (G : GS) {a : (GS) ⊕ ((Int32 × GS) ⊕ (GS))} (h : fbX5_findFollow_36 t x2 x3 G = some a) (hk : (zcase (fun s : GS => J mX5_findFollow F s 36 [(0, vR (some t)), (2, vR x2), (3, vR x3)] []) ((zcase (fun s : Int32 × GS => J mX5_findFollow F s.2 11 [(0, vR (some t)), (1, vI s.1)] []) (zKV F)))) a) : J mX5_findFollow F G 36 [(0, vR (some t)), (2, vR x2), (3, vR x3)] [] := by
  unfold fbX5_findFollow_36 at h
  refine j_aload_n (j := 2) dX5_findFollow_36 rfl rfl ?_
  replace h := zbE h
  obtain ⟨a1, e2, h⟩ := h
  subst e2
  replace h := zkE h
  obtain ⟨e3, h⟩ := h
  replace h := zbE h
  obtain ⟨v5, e4, h⟩ := h
  refine j_cont (zrF (As := []) msX5_82_J19 (yJ19_hasNext_ok e4) (Nat.le_trans (Nat.le_of_ble_eq_true rfl) hd) (zk_13 _ e3) rfl rfl (Nat.le_of_ble_eq_true rfl) dX5_findFollow_37) ?_
  refine j_if_eq (tgt := 101) dX5_findFollow_42 (by decide) (fun c6 => ?_) (fun c6 => ?_)
  · rw [if_pos c6] at h
    replace h := zoE h
    obtain ⟨a, h, rfl⟩ := h
    replace hk := hk
    exact J.sub (zall [0, 1] rfl) (wfX5_findFollow_101 hd t x2  G h hk)
  · rw [if_neg c6] at h
    refine j_aload_n (j := 2) dX5_findFollow_45 rfl rfl ?_
    replace h := zkE h
    obtain ⟨e7, h⟩ := h
    replace h := zb2E h
    obtain ⟨r9, G10, e8, h⟩ := h
    refine j_cont (zrF (As := []) msX5_88_J19 (yJ19_next_ok e8) (Nat.le_trans (Nat.le_of_ble_eq_true rfl) hd) (zk_13 _ e7) rfl rfl (Nat.le_of_ble_eq_true rfl) dX5_findFollow_46) ?_
    replace h := zkqE h
    obtain ⟨e11, h⟩ := h
    refine j_castq (fun k => j_castN dX5_findFollow_51 k) (fun b q12 k => j_castS (zk_3 _ (e11 b q12)) ⟨2, _, rfl, rfl⟩ q476 dX5_findFollow_51 k) ?_
    refine j_astore (lv' := [(4, vR r9), (0, vR (some t)), (2, vR x2), (3, vR (some a1))]) dX5_findFollow_54 (Nat.le_of_ble_eq_true rfl) rfl ?_
    refine j_iconst (v := 0) dX5_findFollow_56 (by decide) ?_
    refine j_istore (lv' := [(5, vI 0), (4, vR r9), (0, vR (some t)), (2, vR x2), (3, vR (some a1))]) dX5_findFollow_57 (Nat.le_of_ble_eq_true rfl) rfl ?_
    exact J.sub (zall [2, 3, 4, 1, 0] rfl) (wflX5_findFollow_59 hd t x2 (some a1) r9 0  G10 h hk)
theorem wflX5_findFollow_36 {F : zF} (hd : 8 ≤ F.2.2.2) (t : Nat) (x2 : Option Nat) (x3 : Option Nat) (G : GS) {a : (Int32 × GS) ⊕ (GS)} (h : flX5_findFollow_36 t x2 x3 G = some a) (hk : (zcase (fun s : Int32 × GS => J mX5_findFollow F s.2 11 [(0, vR (some t)), (1, vI s.1)] []) (zKV F)) a) : J mX5_findFollow F G 36 [(0, vR (some t)), (2, vR x2), (3, vR x3)] [] := by
  unfold flX5_findFollow_36 at h
  exact zloop_walk (P := (fun s : GS => J mX5_findFollow F s 36 [(0, vR (some t)), (2, vR x2), (3, vR x3)] [])) (fun s b e hk => wfbX5_findFollow_36 hd t x2 x3 s e hk) (G) _ h hk
def fbX5_findFollow_11 (t : Nat) (x1 : Int32)  (G : GS) : Option ((Int32 × GS) ⊕ (GS)) :=
  if x1 = 0 then (zo (some G)) else ((zgR G 5 t 2).bind fun r2 => r2.bind fun a4 => (zcln G a4).bind fun G6 => zk [50] G6 (gz G) <| (zgR G6 5 t 0).bind fun r9 => r9.bind fun a11 => zk [12] G6 a11 <| zb2 (fJ2_iterator_0 a11 G6) fun r15 G16 => flX5_findFollow_36 t (some (gz G)) r15 G16)
def flX5_findFollow_11 (t : Nat) (x1 : Int32) (G : GS) : Option (GS) := zloop (fun s : Int32 × GS => fbX5_findFollow_11 t s.1 s.2) (x1, G)
theorem wfbX5_findFollow_11 {F : zF} (hd : 8 ≤ F.2.2.2) (t : Nat) (x1 : Int32) (G : GS) {a : (Int32 × GS) ⊕ (GS)} (h : fbX5_findFollow_11 t x1 G = some a) (hk : (zcase (fun s : Int32 × GS => J mX5_findFollow F s.2 11 [(0, vR (some t)), (1, vI s.1)] []) (zKV F)) a) : J mX5_findFollow F G 11 [(0, vR (some t)), (1, vI x1)] [] := by
  unfold fbX5_findFollow_11 at h
  refine j_iload_n (j := 1) dX5_findFollow_11 rfl rfl ?_
  refine j_if_eq (tgt := 121) dX5_findFollow_12 (by decide) (fun c1 => ?_) (fun c1 => ?_)
  · rw [if_pos c1] at h
    replace h := zoE h
    obtain ⟨a, h, rfl⟩ := h
    replace hk := hk
    obtain rfl := Option.some.inj h
    exact j_vret hk.1 hk.2 rfl dX5_findFollow_121
  · rw [if_neg c1] at h
    refine j_aload_n (j := 0) dX5_findFollow_15 rfl rfl ?_
    replace h := zbE h
    obtain ⟨r2, e3, h⟩ := h
    refine j_getR fgX5_15 (fun _ _ _ => rfl) dX5_findFollow_16 e3 ?_
    replace h := zbE h
    obtain ⟨a4, e5, h⟩ := h
    subst e5
    replace h := zbE h
    obtain ⟨G6, e7, h⟩ := h
    refine j_clone e7 q501 q502 q503 q504 q505 (zxw 118 rfl) (Nat.le_trans (Nat.le_of_ble_eq_true rfl) hd) (Nat.le_of_ble_eq_true rfl) dX5_findFollow_19 ?_
    replace h := zkE h
    obtain ⟨e8, h⟩ := h
    refine j_castI (zKc_one e8) q507 dX5_findFollow_22 ?_
    refine j_astore_n (lv' := [(2, vR (some (gz G))), (0, vR (some t)), (1, vI x1)]) dX5_findFollow_25 rfl (Nat.le_of_ble_eq_true rfl) rfl ?_
    refine j_aload_n (j := 1) dX5_findFollow_26 rfl rfl ?_
    replace h := zbE h
    obtain ⟨r9, e10, h⟩ := h
    refine j_getR fgX5_39 (fun _ _ _ => rfl) dX5_findFollow_27 e10 ?_
    replace h := zbE h
    obtain ⟨a11, e12, h⟩ := h
    subst e12
    replace h := zkE h
    obtain ⟨e13, h⟩ := h
    replace h := zb2E h
    obtain ⟨r15, G16, e14, h⟩ := h
    refine j_cont (zrF (As := []) msX5_78_J2 (yJ2_iterator_ok e14) (Nat.le_trans (Nat.le_of_ble_eq_true rfl) hd) (zk_12 _ e13) rfl rfl (Nat.le_of_ble_eq_true rfl) dX5_findFollow_30) ?_
    refine j_astore_n (lv' := [(3, vR r15), (2, vR (some (gz G))), (0, vR (some t)), (1, vI x1)]) dX5_findFollow_35 rfl (Nat.le_of_ble_eq_true rfl) rfl ?_
    exact J.sub (zall [2, 1, 0] rfl) (wflX5_findFollow_36 hd t (some (gz G)) r15  G16 h hk)
theorem wflX5_findFollow_11 {F : zF} (hd : 8 ≤ F.2.2.2) (t : Nat) (x1 : Int32) (G : GS) {a : GS} (h : flX5_findFollow_11 t x1 G = some a) (hk : zKV F a) : J mX5_findFollow F G 11 [(0, vR (some t)), (1, vI x1)] [] := by
  unfold flX5_findFollow_11 at h
  exact zloop_walk (P := (fun s : Int32 × GS => J mX5_findFollow F s.2 11 [(0, vR (some t)), (1, vI s.1)] [])) (fun s b e hk => wfbX5_findFollow_11 hd t s.1 s.2 e hk) (x1, G) _ h hk
def fX5_findFollow_0 (t : Nat)  (G : GS) : Option (GS) :=
  (zgR G 5 t 2).bind fun r1 => r1.bind fun a3 => (zsI G 50 a3 (0 : Int32) 4096).bind fun G5 => flX5_findFollow_11 t 1 G5
theorem wfX5_findFollow_0 {F : zF} (hd : 8 ≤ F.2.2.2) (t : Nat)  (G : GS) {a : GS} (h : fX5_findFollow_0 t  G = some a) (hk : zKV F a) : J mX5_findFollow F G 0 [(0, vR (some t))] [] := by
  unfold fX5_findFollow_0 at h
  refine j_aload_n (j := 0) dX5_findFollow_0 rfl rfl ?_
  replace h := zbE h
  obtain ⟨r1, e2, h⟩ := h
  refine j_getR fgX5_15 (fun _ _ _ => rfl) dX5_findFollow_1 e2 ?_
  refine j_iconst (v := 0) dX5_findFollow_4 (by decide) ?_
  refine j_sipush (v := 4096) dX5_findFollow_5 (by decide) ?_
  replace h := zbE h
  obtain ⟨a3, e4, h⟩ := h
  subst e4
  replace h := zbE h
  obtain ⟨G5, e6, h⟩ := h
  refine j_iast e6 dX5_findFollow_8 ?_
  refine j_iconst (v := 1) dX5_findFollow_9 (by decide) ?_
  refine j_istore_n (lv' := [(1, vI 1), (0, vR (some t))]) dX5_findFollow_10 rfl (Nat.le_of_ble_eq_true rfl) rfl ?_
  exact J.sub (zall [1, 0] rfl) (wflX5_findFollow_11 hd t 1  G5 h hk)
theorem yX5_findFollow_ok {t : Nat} {G : GS} {G1 : GS} (h : fX5_findFollow_0 t G = some G1) : zRuns yX5_findFollow (ws_ yX5_findFollow cX5_findFollow 6 none) [vR (some t)] (.inl none, G, G1, 8) :=
  zentry (M := mX5_findFollow) (plainFor_of_name (by decide +kernel)) ⟨rfl, rfl, rfl, rfl⟩ (Nat.le_of_ble_eq_true rfl) (wfX5_findFollow_0 (Nat.le_refl _) t G h ⟨rfl, rfl⟩)
abbrev mJ15_fill : zM := (cJ15_fill, RJ15, 4, none, "fill", [], "([II)V")
def fbJ15_fill_5 (x0 : Option Nat) (x1 : Int32) (x2 : Int32) (x3 : Int32)  (G : GS) : Option ((Int32 × GS) ⊕ (GS)) :=
  if x3 ≤ x2 then (zo (some G)) else (x0.bind fun a2 => (zsI G 50 a2 x2 x1).bind fun G4 => some (.inl ((x2 + 1), G4)))
def flJ15_fill_5 (x0 : Option Nat) (x1 : Int32) (x2 : Int32) (x3 : Int32) (G : GS) : Option (GS) := zloop (fun s : Int32 × GS => fbJ15_fill_5 x0 x1 s.1 x3 s.2) (x2, G)
theorem wfbJ15_fill_5 {F : zF} (hd : 1 ≤ F.2.2.2) (x0 : Option Nat) (x1 : Int32) (x2 : Int32) (x3 : Int32) (G : GS) {a : (Int32 × GS) ⊕ (GS)} (h : fbJ15_fill_5 x0 x1 x2 x3 G = some a) (hk : (zcase (fun s : Int32 × GS => J mJ15_fill F s.2 5 [(0, vR x0), (1, vI x1), (2, vI s.1), (3, vI x3)] []) (zKV F)) a) : J mJ15_fill F G 5 [(0, vR x0), (1, vI x1), (2, vI x2), (3, vI x3)] [] := by
  unfold fbJ15_fill_5 at h
  refine j_iload_n (j := 2) dJ15_fill_5 rfl rfl ?_
  refine j_iload_n (j := 3) dJ15_fill_6 rfl rfl ?_
  refine j_icmp_ge (tgt := 20) dJ15_fill_7 (by decide) (fun c1 => ?_) (fun c1 => ?_)
  · rw [if_pos c1] at h
    replace h := zoE h
    obtain ⟨a, h, rfl⟩ := h
    replace hk := hk
    obtain rfl := Option.some.inj h
    exact j_vret hk.1 hk.2 rfl dJ15_fill_20
  · rw [if_neg c1] at h
    refine j_aload_n (j := 0) dJ15_fill_10 rfl rfl ?_
    refine j_iload_n (j := 2) dJ15_fill_11 rfl rfl ?_
    refine j_iload_n (j := 1) dJ15_fill_12 rfl rfl ?_
    replace h := zbE h
    obtain ⟨a2, e3, h⟩ := h
    subst e3
    replace h := zbE h
    obtain ⟨G4, e5, h⟩ := h
    refine j_iast e5 dJ15_fill_13 ?_
    refine j_iinc (j := 2) (v := (x2 + 1)) (lv' := [(2, vI (x2 + 1)), (0, vR (some a2)), (1, vI x1), (3, vI x3)]) dJ15_fill_14 rfl rfl (Nat.le_of_ble_eq_true rfl) rfl ?_
    refine j_goto (tgt := 5) dJ15_fill_17 (by decide) ?_
    obtain rfl := Option.some.inj h
    exact J.sub (zall [1, 2, 0, 3] rfl) hk
theorem wflJ15_fill_5 {F : zF} (hd : 1 ≤ F.2.2.2) (x0 : Option Nat) (x1 : Int32) (x2 : Int32) (x3 : Int32) (G : GS) {a : GS} (h : flJ15_fill_5 x0 x1 x2 x3 G = some a) (hk : zKV F a) : J mJ15_fill F G 5 [(0, vR x0), (1, vI x1), (2, vI x2), (3, vI x3)] [] := by
  unfold flJ15_fill_5 at h
  exact zloop_walk (P := (fun s : Int32 × GS => J mJ15_fill F s.2 5 [(0, vR x0), (1, vI x1), (2, vI s.1), (3, vI x3)] [])) (fun s b e hk => wfbJ15_fill_5 hd x0 x1 s.1 x3 s.2 e hk) (x2, G) _ h hk
def fJ15_fill_0 (x0 : Option Nat) (x1 : Int32)  (G : GS) : Option (GS) :=
  x0.bind fun a1 => (zln G a1).bind fun v3 => flJ15_fill_5 (some a1) x1 0 v3 G
theorem wfJ15_fill_0 {F : zF} (hd : 1 ≤ F.2.2.2) (x0 : Option Nat) (x1 : Int32)  (G : GS) {a : GS} (h : fJ15_fill_0 x0 x1  G = some a) (hk : zKV F a) : J mJ15_fill F G 0 [(0, vR x0), (1, vI x1)] [] := by
  unfold fJ15_fill_0 at h
  refine j_iconst (v := 0) dJ15_fill_0 (by decide) ?_
  refine j_istore_n (lv' := [(2, vI 0), (0, vR x0), (1, vI x1)]) dJ15_fill_1 rfl (Nat.le_of_ble_eq_true rfl) rfl ?_
  refine j_aload_n (j := 1) dJ15_fill_2 rfl rfl ?_
  replace h := zbE h
  obtain ⟨a1, e2, h⟩ := h
  subst e2
  replace h := zbE h
  obtain ⟨v3, e4, h⟩ := h
  refine j_alen e4 dJ15_fill_3 ?_
  refine j_istore_n (lv' := [(3, vI v3), (2, vI 0), (0, vR (some a1)), (1, vI x1)]) dJ15_fill_4 rfl (Nat.le_of_ble_eq_true rfl) rfl ?_
  exact J.sub (zall [2, 3, 1, 0] rfl) (wflJ15_fill_5 hd (some a1) x1 0 v3  G h hk)
theorem yJ15_fill_ok {x0 : Option Nat} {x1 : Int32} {G : GS} {G1 : GS} (h : fJ15_fill_0 x0 x1 G = some G1) : zRuns yJ15_fill (ws_ yJ15_fill cJ15_fill 4 none) [vR x0, vI x1] (.inl none, G, G1, 1) :=
  zentry (M := mJ15_fill) (plainFor_of_name (by decide +kernel)) ⟨rfl, rfl, rfl, rfl⟩ (Nat.le_of_ble_eq_true rfl) (wfJ15_fill_0 (Nat.le_refl _) x0 x1 G h ⟨rfl, rfl⟩)
theorem msJ27_1 : zSI RJ27 1 yJ0_init cJ0_init 1 0 := ⟨q193, q124, q635, q192, rfl, (by decide +kernel), (by decide)⟩
abbrev mJ27_init : zM := (cJ27_init, RJ27, 1, none, "<init>", [], "()V")
def fJ27_init_0 (t : Nat)  (G : GS) : Option (GS) :=
  (fJ0_init_0 t G).bind fun G2 => some G2
theorem wfJ27_init_0 {F : zF} (hd : 3 ≤ F.2.2.2) (t : Nat)  (G : GS) {a : GS} (h : fJ27_init_0 t  G = some a) (hk : zKV F a) : J mJ27_init F G 0 [(0, vR (some t))] [] := by
  unfold fJ27_init_0 at h
  refine j_aload_n (j := 0) dJ27_init_0 rfl rfl ?_
  replace h := zbE h
  obtain ⟨G2, e1, h⟩ := h
  refine j_cont (zrI (As := []) msJ27_1 (yJ0_init_ok e1) (Nat.le_trans (Nat.le_of_ble_eq_true rfl) hd) rfl rfl (Nat.le_of_ble_eq_true rfl) dJ27_init_1) ?_
  obtain rfl := Option.some.inj h
  exact j_vret hk.1 hk.2 rfl dJ27_init_4
theorem yJ27_init_ok {t : Nat} {G : GS} {G1 : GS} (h : fJ27_init_0 t G = some G1) : zRuns yJ27_init (ws_ yJ27_init cJ27_init 1 none) [vR (some t)] (.inl none, G, G1, 3) :=
  zentry (M := mJ27_init) (plainFor_of_name (by decide +kernel)) ⟨rfl, rfl, rfl, rfl⟩ (Nat.le_of_ble_eq_true rfl) (wfJ27_init_0 (Nat.le_refl _) t G h ⟨rfl, rfl⟩)
theorem fpJ28_17_J28 : zFP RJ28 17 19 0 (.array (.object "java/lang/Object")) false := ⟨(RJ28, TJ28, 4, tyJ28), rfl, by decide, in_J28, tyJ28_ok, nmJ28, rfl, rfl, (by decide), "java/util/PriorityQueue", Or.inl rfl, q706⟩
theorem fpJ28_21_J28 : zFP RJ28 21 19 2 (.object "java/util/Comparator") true := ⟨(RJ28, TJ28, 4, tyJ28), rfl, by decide, in_J28, tyJ28_ok, nmJ28, rfl, rfl, (by intro _; rfl), "java/util/PriorityQueue", Or.inl rfl, q709⟩
theorem msJ28_7 : zSI RJ28 7 yJ27_init cJ27_init 1 0 := ⟨q634, q157, q632, q633, rfl, (by decide +kernel), (by decide)⟩
abbrev mJ28_init_2 : zM := (cJ28_init_2, RJ28, 3, none, "<init>", [], "(ILjava/util/Comparator;)V")
def fJ28_init_2_0 (t : Nat) (x1 : Int32) (x2 : Option Nat)  (G : GS) : Option (GS) :=
  (fJ27_init_0 t G).bind fun G2 => if 1 ≤ x1 then ((zna G2 54 x1).bind fun G4 => (zpR G4 20 t 0 (some (gz G2))).bind fun G6 => (zpR G6 20 t 2 x2).bind fun G8 => some G8) else none
theorem wfJ28_init_2_0 {F : zF} (hd : 4 ≤ F.2.2.2) (t : Nat) (x1 : Int32) (x2 : Option Nat)  (G : GS) {a : GS} (h : fJ28_init_2_0 t x1 x2  G = some a) (hk : zKV F a) : J mJ28_init_2 F G 0 [(0, vR (some t)), (1, vI x1), (2, vR x2)] [] := by
  unfold fJ28_init_2_0 at h
  refine j_aload_n (j := 0) dJ28_init_2_0 rfl rfl ?_
  replace h := zbE h
  obtain ⟨G2, e1, h⟩ := h
  refine j_cont (zrI (As := []) msJ28_7 (yJ27_init_ok e1) (Nat.le_trans (Nat.le_of_ble_eq_true rfl) hd) rfl rfl (Nat.le_of_ble_eq_true rfl) dJ28_init_2_1) ?_
  refine j_iload_n (j := 1) dJ28_init_2_4 rfl rfl ?_
  refine j_iconst (v := 1) dJ28_init_2_5 (by decide) ?_
  refine j_icmp_ge (tgt := 17) dJ28_init_2_6 (by decide) (fun c3 => ?_) (fun c3 => ?_)
  · rw [if_pos c3] at h
    refine j_aload_n (j := 0) dJ28_init_2_17 rfl rfl ?_
    refine j_iload_n (j := 1) dJ28_init_2_18 rfl rfl ?_
    replace h := zbE h
    obtain ⟨G4, e5, h⟩ := h
    refine j_anewa (t := 4) rfl (Or.inl rfl) q703 e5 dJ28_init_2_19 ?_
    replace h := zbE h
    obtain ⟨G6, e7, h⟩ := h
    refine j_putR fpJ28_17_J28 (Or.inl rfl) (Or.inr ⟨_, rfl⟩) dJ28_init_2_22 e7 ?_
    refine j_aload_n (j := 0) dJ28_init_2_25 rfl rfl ?_
    refine j_aload_n (j := 2) dJ28_init_2_26 rfl rfl ?_
    replace h := zbE h
    obtain ⟨G8, e9, h⟩ := h
    refine j_putR fpJ28_21_J28 (Or.inr rfl) (Or.inl ⟨_, rfl⟩) dJ28_init_2_27 e9 ?_
    obtain rfl := Option.some.inj h
    exact j_vret hk.1 hk.2 rfl dJ28_init_2_30
  · rw [if_neg c3] at h
    cases h
theorem yJ28_init_2_ok {t : Nat} {x1 : Int32} {x2 : Option Nat} {G : GS} {G1 : GS} (h : fJ28_init_2_0 t x1 x2 G = some G1) : zRuns yJ28_init_2 (ws_ yJ28_init_2 cJ28_init_2 3 none) [vR (some t), vI x1, vR x2] (.inl none, G, G1, 4) :=
  zentry (M := mJ28_init_2) (plainFor_of_name (by decide +kernel)) ⟨rfl, rfl, rfl, rfl⟩ (Nat.le_of_ble_eq_true rfl) (wfJ28_init_2_0 (Nat.le_refl _) t x1 x2 G h ⟨rfl, rfl⟩)
theorem msJ28_3 : zSI RJ28 3 yJ28_init_2 cJ28_init_2 3 2 := ⟨q631, q158, q629, q630, rfl, (by decide +kernel), (by decide)⟩
abbrev mJ28_init : zM := (cJ28_init, RJ28, 1, none, "<init>", [], "()V")
def fJ28_init_0 (t : Nat)  (G : GS) : Option (GS) :=
  (fJ28_init_2_0 t 11 none G).bind fun G2 => some G2
theorem wfJ28_init_0 {F : zF} (hd : 5 ≤ F.2.2.2) (t : Nat)  (G : GS) {a : GS} (h : fJ28_init_0 t  G = some a) (hk : zKV F a) : J mJ28_init F G 0 [(0, vR (some t))] [] := by
  unfold fJ28_init_0 at h
  refine j_aload_n (j := 0) dJ28_init_0 rfl rfl ?_
  refine j_bipush (v := 11) dJ28_init_1 (by decide) ?_
  refine j_null dJ28_init_3 ?_
  replace h := zbE h
  obtain ⟨G2, e1, h⟩ := h
  refine j_cont (zrI (As := [vI 11, vR none]) msJ28_3 (yJ28_init_2_ok e1) (Nat.le_trans (Nat.le_of_ble_eq_true rfl) hd) rfl rfl (Nat.le_of_ble_eq_true rfl) dJ28_init_4) ?_
  obtain rfl := Option.some.inj h
  exact j_vret hk.1 hk.2 rfl dJ28_init_7
theorem yJ28_init_ok {t : Nat} {G : GS} {G1 : GS} (h : fJ28_init_0 t G = some G1) : zRuns yJ28_init (ws_ yJ28_init cJ28_init 1 none) [vR (some t)] (.inl none, G, G1, 5) :=
  zentry (M := mJ28_init) (plainFor_of_name (by decide +kernel)) ⟨rfl, rfl, rfl, rfl⟩ (Nat.le_of_ble_eq_true rfl) (wfJ28_init_0 (Nat.le_refl _) t G h ⟨rfl, rfl⟩)
theorem fgX5_18 : zFG RX5 18 4 3 (.array (.int)) := ⟨(RX5, TX5, 10, tyX5), rfl, by decide, in_X5, rfl, "SelahGenerator$Sets", Or.inl rfl, Or.inl q1151⟩
theorem msX5_133 : zSS RX5 133 yJ14_min cJ14_min 2 (some Jvm.ClassFile.FieldType.int) 2 := ⟨lw_S q730 q731 q140 q732, (by decide +kernel), (by decide)⟩
abbrev mX5_lengthOf : zM := (cX5_lengthOf, RX5, 8, (some Jvm.ClassFile.FieldType.int), "lengthOf", [], "(LSelahGenerator$Rule;)I")
def fX5_lengthOf_49 (t : Nat) (x2 : Int32) (x3 : Option Nat) (x4 : Int32) (x5 : Int32) (s0 : Int32) (G : GS) : Option ((Int32 × Int32) ⊕ (Int32)) :=
  if s0 = (-1) then (zo (some (-1))) else ((fJ14_min_0 1000000 (x2 + s0) G).bind fun v3 => some (.inl (v3, (x5 + 1))))
theorem wfX5_lengthOf_49 {F : zF} (hd : 3 ≤ F.2.2.2) (t : Nat) (x2 : Int32) (x3 : Option Nat) (x4 : Int32) (x5 : Int32) (s0 : Int32) (G : GS) {a : (Int32 × Int32) ⊕ (Int32)} (h : fX5_lengthOf_49 t x2 x3 x4 x5 s0 G = some a) (hk : (zcase (fun s : Int32 × Int32 => J mX5_lengthOf F G 14 [(0, vR (some t)), (2, vI s.1), (3, vR x3), (4, vI x4), (5, vI s.2)] []) (zKPI F G)) a) : J mX5_lengthOf F G 49 [(0, vR (some t)), (2, vI x2), (3, vR x3), (4, vI x4), (5, vI x5)] [vI s0] := by
  unfold fX5_lengthOf_49 at h
  refine j_istore (lv' := [(7, vI s0), (0, vR (some t)), (2, vI x2), (3, vR x3), (4, vI x4), (5, vI x5)]) dX5_lengthOf_49 (Nat.le_of_ble_eq_true rfl) rfl ?_
  refine j_iload (j := 0) dX5_lengthOf_51 rfl ?_
  refine j_iconst (v := (-1)) dX5_lengthOf_53 (by decide) ?_
  refine j_icmp_ne (tgt := 59) dX5_lengthOf_54 (by decide) (fun c1 => ?_) (fun c1 => ?_)
  · rw [if_pos c1] at h
    replace h := zoE h
    obtain ⟨a, h, rfl⟩ := h
    replace hk := hk
    refine j_iconst (v := (-1)) dX5_lengthOf_57 (by decide) ?_
    obtain rfl := Option.some.inj h
    exact j_iret hk.1 hk.2 rfl dX5_lengthOf_58
  · rw [if_neg c1] at h
    refine j_ldc (v := 1000000) q729 dX5_lengthOf_59 ?_
    refine j_iload_n (j := 2) dX5_lengthOf_61 rfl rfl ?_
    refine j_iload (j := 0) dX5_lengthOf_62 rfl ?_
    refine j_iadd dX5_lengthOf_64 ?_
    replace h := zbE h
    obtain ⟨v3, e2, h⟩ := h
    refine j_cont (zrS (As := [vI 1000000, vI (x2 + s0)]) msX5_133 (yJ14_min_ok e2) (Nat.le_trans (Nat.le_of_ble_eq_true rfl) hd) rfl rfl (Nat.le_of_ble_eq_true rfl) dX5_lengthOf_65) ?_
    refine j_istore_n (lv' := [(2, vI v3), (7, vI s0), (0, vR (some t)), (3, vR x3), (4, vI x4), (5, vI x5)]) dX5_lengthOf_68 rfl (Nat.le_of_ble_eq_true rfl) rfl ?_
    refine j_iinc (j := 5) (v := (x5 + 1)) (lv' := [(5, vI (x5 + 1)), (2, vI v3), (7, vI s0), (0, vR (some t)), (3, vR x3), (4, vI x4)]) dX5_lengthOf_69 rfl rfl (Nat.le_of_ble_eq_true rfl) rfl ?_
    refine j_goto (tgt := 14) dX5_lengthOf_72 (by decide) ?_
    obtain rfl := Option.some.inj h
    exact J.sub (zall [3, 1, 4, 5, 0] rfl) hk
def fbX5_lengthOf_14 (t : Nat) (x2 : Int32) (x3 : Option Nat) (x4 : Int32) (x5 : Int32)  (G : GS) : Option ((Int32 × Int32) ⊕ (Int32)) :=
  if x4 ≤ x5 then (zo (some x2)) else (x3.bind fun a2 => (zaI G 50 a2 x5).bind fun v4 => (fX1_isNonterminal_0 v4 G).bind fun v7 => if v7 = 0 then (fX5_lengthOf_49 t x2 (some a2) x4 x5 1 G) else ((zgR G 5 t 3).bind fun r9 => r9.bind fun a11 => (zaI G 50 a11 (v4 - 20)).bind fun v13 => fX5_lengthOf_49 t x2 (some a2) x4 x5 v13 G))
def flX5_lengthOf_14 (t : Nat) (x2 : Int32) (x3 : Option Nat) (x4 : Int32) (x5 : Int32) (G : GS) : Option (Int32) := zloop (fun s : Int32 × Int32 => fbX5_lengthOf_14 t s.1 x3 x4 s.2 G) (x2, x5)
theorem wfbX5_lengthOf_14 {F : zF} (hd : 3 ≤ F.2.2.2) (t : Nat) (x2 : Int32) (x3 : Option Nat) (x4 : Int32) (x5 : Int32) (G : GS) {a : (Int32 × Int32) ⊕ (Int32)} (h : fbX5_lengthOf_14 t x2 x3 x4 x5 G = some a) (hk : (zcase (fun s : Int32 × Int32 => J mX5_lengthOf F G 14 [(0, vR (some t)), (2, vI s.1), (3, vR x3), (4, vI x4), (5, vI s.2)] []) (zKPI F G)) a) : J mX5_lengthOf F G 14 [(0, vR (some t)), (2, vI x2), (3, vR x3), (4, vI x4), (5, vI x5)] [] := by
  unfold fbX5_lengthOf_14 at h
  refine j_iload (j := 4) dX5_lengthOf_14 rfl ?_
  refine j_iload (j := 3) dX5_lengthOf_16 rfl ?_
  refine j_icmp_ge (tgt := 75) dX5_lengthOf_18 (by decide) (fun c1 => ?_) (fun c1 => ?_)
  · rw [if_pos c1] at h
    replace h := zoE h
    obtain ⟨a, h, rfl⟩ := h
    replace hk := hk
    refine j_iload_n (j := 1) dX5_lengthOf_75 rfl rfl ?_
    obtain rfl := Option.some.inj h
    exact j_iret hk.1 hk.2 rfl dX5_lengthOf_76
  · rw [if_neg c1] at h
    refine j_aload_n (j := 2) dX5_lengthOf_21 rfl rfl ?_
    refine j_iload (j := 4) dX5_lengthOf_22 rfl ?_
    replace h := zbE h
    obtain ⟨a2, e3, h⟩ := h
    subst e3
    replace h := zbE h
    obtain ⟨v4, e5, h⟩ := h
    refine j_iald (Or.inl rfl) e5 dX5_lengthOf_24 ?_
    refine j_istore (lv' := [(6, vI v4), (0, vR (some t)), (2, vI x2), (3, vR (some a2)), (4, vI x4), (5, vI x5)]) dX5_lengthOf_25 (Nat.le_of_ble_eq_true rfl) rfl ?_
    refine j_iload (j := 0) dX5_lengthOf_27 rfl ?_
    replace h := zbE h
    obtain ⟨v7, e6, h⟩ := h
    refine j_cont (zrSN (As := [vI v4]) msX5_70 q401 (yX1_isNonterminal_ok e6) (Nat.le_trans (Nat.le_of_ble_eq_true rfl) hd) rfl rfl (Nat.le_of_ble_eq_true rfl) dX5_lengthOf_29) ?_
    refine j_if_eq (tgt := 48) dX5_lengthOf_32 (by decide) (fun c8 => ?_) (fun c8 => ?_)
    · rw [if_pos c8] at h
      refine j_iconst (v := 1) dX5_lengthOf_48 (by decide) ?_
      exact J.sub (zall [1, 2, 3, 4, 5] rfl) (wfX5_lengthOf_49 hd t x2 (some a2) x4 x5 1 G h hk)
    · rw [if_neg c8] at h
      refine j_aload_n (j := 1) dX5_lengthOf_35 rfl rfl ?_
      replace h := zbE h
      obtain ⟨r9, e10, h⟩ := h
      refine j_getR fgX5_18 (fun _ _ _ => rfl) dX5_lengthOf_36 e10 ?_
      refine j_iload (j := 0) dX5_lengthOf_39 rfl ?_
      refine j_bipush (v := 20) dX5_lengthOf_41 (by decide) ?_
      refine j_isub dX5_lengthOf_43 ?_
      replace h := zbE h
      obtain ⟨a11, e12, h⟩ := h
      subst e12
      replace h := zbE h
      obtain ⟨v13, e14, h⟩ := h
      refine j_iald (Or.inl rfl) e14 dX5_lengthOf_44 ?_
      refine j_goto (tgt := 49) dX5_lengthOf_45 (by decide) ?_
      exact J.sub (zall [1, 2, 3, 4, 5] rfl) (wfX5_lengthOf_49 hd t x2 (some a2) x4 x5 v13 G h hk)
theorem wflX5_lengthOf_14 {F : zF} (hd : 3 ≤ F.2.2.2) (t : Nat) (x2 : Int32) (x3 : Option Nat) (x4 : Int32) (x5 : Int32) (G : GS) {a : Int32} (h : flX5_lengthOf_14 t x2 x3 x4 x5 G = some a) (hk : zKPI F G a) : J mX5_lengthOf F G 14 [(0, vR (some t)), (2, vI x2), (3, vR x3), (4, vI x4), (5, vI x5)] [] := by
  unfold flX5_lengthOf_14 at h
  exact zloop_walk (P := (fun s : Int32 × Int32 => J mX5_lengthOf F G 14 [(0, vR (some t)), (2, vI s.1), (3, vR x3), (4, vI x4), (5, vI s.2)] [])) (fun s b e hk => wfbX5_lengthOf_14 hd t s.1 x3 x4 s.2 G e hk) (x2, x5) _ h hk
def fX5_lengthOf_0 (t : Nat) (x1 : Option Nat)  (G : GS) : Option (Int32) :=
  x1.bind fun a1 => (zgR G 3 a1 1).bind fun r3 => r3.bind fun a5 => (zln G a5).bind fun v7 => flX5_lengthOf_14 t 0 (some a5) v7 0 G
theorem wfX5_lengthOf_0 {F : zF} (hd : 3 ≤ F.2.2.2) (t : Nat) (x1 : Option Nat)  (G : GS) {a : Int32} (h : fX5_lengthOf_0 t x1  G = some a) (hk : zKPI F G a) : J mX5_lengthOf F G 0 [(0, vR (some t)), (1, vR x1)] [] := by
  unfold fX5_lengthOf_0 at h
  refine j_iconst (v := 0) dX5_lengthOf_0 (by decide) ?_
  refine j_istore_n (lv' := [(2, vI 0), (0, vR (some t)), (1, vR x1)]) dX5_lengthOf_1 rfl (Nat.le_of_ble_eq_true rfl) rfl ?_
  refine j_aload_n (j := 2) dX5_lengthOf_2 rfl rfl ?_
  replace h := zbE h
  obtain ⟨a1, e2, h⟩ := h
  subst e2
  replace h := zbE h
  obtain ⟨r3, e4, h⟩ := h
  refine j_getR fgX5_94 (fun _ _ _ => rfl) dX5_lengthOf_3 e4 ?_
  refine j_astore_n (lv' := [(3, vR r3), (2, vI 0), (0, vR (some t)), (1, vR (some a1))]) dX5_lengthOf_6 rfl (Nat.le_of_ble_eq_true rfl) rfl ?_
  refine j_aload_n (j := 0) dX5_lengthOf_7 rfl rfl ?_
  replace h := zbE h
  obtain ⟨a5, e6, h⟩ := h
  subst e6
  replace h := zbE h
  obtain ⟨v7, e8, h⟩ := h
  refine j_alen e8 dX5_lengthOf_8 ?_
  refine j_istore (lv' := [(4, vI v7), (3, vR (some a5)), (2, vI 0), (0, vR (some t)), (1, vR (some a1))]) dX5_lengthOf_9 (Nat.le_of_ble_eq_true rfl) rfl ?_
  refine j_iconst (v := 0) dX5_lengthOf_11 (by decide) ?_
  refine j_istore (lv' := [(5, vI 0), (4, vI v7), (3, vR (some a5)), (2, vI 0), (0, vR (some t)), (1, vR (some a1))]) dX5_lengthOf_12 (Nat.le_of_ble_eq_true rfl) rfl ?_
  exact J.sub (zall [4, 3, 2, 1, 0] rfl) (wflX5_lengthOf_14 hd t 0 (some a5) v7 0  G h hk)
theorem yX5_lengthOf_ok {t : Nat} {x1 : Option Nat} {G : GS} {r : Int32} (h : fX5_lengthOf_0 t x1 G = some r) : zRuns yX5_lengthOf (ws_ yX5_lengthOf cX5_lengthOf 8 (some Jvm.ClassFile.FieldType.int)) [vR (some t), vR x1] (.inl (some (vI r)), G, G, 3) :=
  zentry (M := mX5_lengthOf) (plainFor_of_name (by decide +kernel)) ⟨rfl, rfl, rfl, rfl⟩ (Nat.le_of_ble_eq_true rfl) (wfX5_lengthOf_0 (Nat.le_refl _) t x1 G h ⟨rfl, rfl⟩)
theorem fpX6_13_X6 : zFP RX6 13 5 1 (.int) true := ⟨(RX6, TX6, 2, tyX6), rfl, by decide, in_X6, tyX6_ok, nmX6, rfl, rfl, (by intro _; rfl), "SelahGenerator$Length", Or.inl rfl, q741⟩
theorem fpX6_7_X6 : zFP RX6 7 5 0 (.int) true := ⟨(RX6, TX6, 2, tyX6), rfl, by decide, in_X6, tyX6_ok, nmX6, rfl, rfl, (by intro _; rfl), "SelahGenerator$Length", Or.inl rfl, q739⟩
abbrev mX6_init : zM := (cX6_init, RX6, 3, none, "<init>", [], "(II)V")
def fX6_init_0 (t : Nat) (x1 : Int32) (x2 : Int32)  (G : GS) : Option (GS) :=
  (zpI G 6 t 0 x1).bind fun G1 => (zpI G1 6 t 1 x2).bind fun G3 => some G3
theorem wfX6_init_0 {F : zF} (hd : 2 ≤ F.2.2.2) (t : Nat) (x1 : Int32) (x2 : Int32)  (G : GS) {a : GS} (h : fX6_init_0 t x1 x2  G = some a) (hk : zKV F a) : J mX6_init F G 0 [(0, vR (some t)), (1, vI x1), (2, vI x2)] [] := by
  unfold fX6_init_0 at h
  refine j_aload_n (j := 0) dX6_init_0 rfl rfl ?_
  refine j_objinit q738 q181 q182 (Nat.le_trans (Nat.le_of_ble_eq_true rfl) hd) (Nat.le_of_ble_eq_true rfl) dX6_init_1 ?_
  refine j_aload_n (j := 0) dX6_init_4 rfl rfl ?_
  refine j_iload_n (j := 1) dX6_init_5 rfl rfl ?_
  replace h := zbE h
  obtain ⟨G1, e2, h⟩ := h
  refine j_putI fpX6_7_X6 (Or.inr rfl) rfl dX6_init_6 e2 ?_
  refine j_aload_n (j := 0) dX6_init_9 rfl rfl ?_
  refine j_iload_n (j := 2) dX6_init_10 rfl rfl ?_
  replace h := zbE h
  obtain ⟨G3, e4, h⟩ := h
  refine j_putI fpX6_13_X6 (Or.inr rfl) rfl dX6_init_11 e4 ?_
  obtain rfl := Option.some.inj h
  exact j_vret hk.1 hk.2 rfl dX6_init_14
theorem yX6_init_ok {t : Nat} {x1 : Int32} {x2 : Int32} {G : GS} {G1 : GS} (h : fX6_init_0 t x1 x2 G = some G1) : zRuns yX6_init (ws_ yX6_init cX6_init 3 none) [vR (some t), vI x1, vI x2] (.inl none, G, G1, 2) :=
  zentry (M := mX6_init) (plainFor_of_name (by decide +kernel)) ⟨rfl, rfl, rfl, rfl⟩ (Nat.le_of_ble_eq_true rfl) (wfX6_init_0 (Nat.le_refl _) t x1 x2 G h ⟨rfl, rfl⟩)
theorem fgJ28_17 : zFG RJ28 17 19 0 (.array (.object "java/lang/Object")) := ⟨(RJ28, TJ28, 4, tyJ28), rfl, by decide, in_J28, rfl, "java/util/PriorityQueue", Or.inl rfl, Or.inl q706⟩
theorem msJ28_80 : zSS RJ28 80 yJ13_newLength cJ13_newLength 4 (some Jvm.ClassFile.FieldType.int) 3 := ⟨lw_S q760 q761 q139 q762, (by decide +kernel), (by decide)⟩
theorem msJ28_86 : zSS RJ28 86 yJ15_copyOf cJ15_copyOf 2 (some (Jvm.ClassFile.FieldType.array (Jvm.ClassFile.FieldType.object "java/lang/Object"))) 2 := ⟨lw_S q770 q771 q141 q772, (by decide +kernel), (by decide)⟩
abbrev mJ28_grow : zM := (cJ28_grow, RJ28, 4, none, "grow", [], "(I)V")
def fJ28_grow_25 (t : Nat) (s0 : Int32) (s1 : Int32) (s2 : Int32) (G : GS) : Option (GS) :=
  zb2 (fJ13_newLength_0 s0 s1 s2 G) fun v2 G3 => (zgR G3 20 t 0).bind fun r4 => zb2 (fJ15_copyOf_0 r4 v2 G3) fun r7 G8 => (zpR G8 20 t 0 r7).bind fun G9 => some G9
theorem wfJ28_grow_25 {F : zF} (hd : 4 ≤ F.2.2.2) (t : Nat) (s0 : Int32) (s1 : Int32) (s2 : Int32) (G : GS) {a : GS} (h : fJ28_grow_25 t s0 s1 s2 G = some a) (hk : zKV F a) : J mJ28_grow F G 25 [(0, vR (some t))] [vI s2, vI s1, vI s0] := by
  unfold fJ28_grow_25 at h
  replace h := zb2E h
  obtain ⟨v2, G3, e1, h⟩ := h
  refine j_cont (zrS (As := [vI s0, vI s1, vI s2]) msJ28_80 (yJ13_newLength_ok e1) (Nat.le_trans (Nat.le_of_ble_eq_true rfl) hd) rfl rfl (Nat.le_of_ble_eq_true rfl) dJ28_grow_25) ?_
  refine j_istore_n (lv' := [(3, vI v2), (0, vR (some t))]) dJ28_grow_28 rfl (Nat.le_of_ble_eq_true rfl) rfl ?_
  refine j_aload_n (j := 1) dJ28_grow_29 rfl rfl ?_
  refine j_aload_n (j := 1) dJ28_grow_30 rfl rfl ?_
  replace h := zbE h
  obtain ⟨r4, e5, h⟩ := h
  refine j_getR fgJ28_17 (fun _ _ _ => rfl) dJ28_grow_31 e5 ?_
  refine j_iload_n (j := 0) dJ28_grow_34 rfl rfl ?_
  replace h := zb2E h
  obtain ⟨r7, G8, e6, h⟩ := h
  refine j_cont (zrS (As := [vR r4, vI v2]) msJ28_86 (yJ15_copyOf_ok e6) (Nat.le_trans (Nat.le_of_ble_eq_true rfl) hd) rfl rfl (Nat.le_of_ble_eq_true rfl) dJ28_grow_35) ?_
  replace h := zbE h
  obtain ⟨G9, e10, h⟩ := h
  refine j_putR fpJ28_17_J28 (Or.inl rfl) (Or.inr ⟨_, rfl⟩) dJ28_grow_38 e10 ?_
  obtain rfl := Option.some.inj h
  exact j_vret hk.1 hk.2 rfl dJ28_grow_41
def fJ28_grow_0 (t : Nat) (x1 : Int32)  (G : GS) : Option (GS) :=
  (zgR G 20 t 0).bind fun r1 => r1.bind fun a3 => (zln G a3).bind fun v5 => if 64 ≤ v5 then (fJ28_grow_25 t v5 (x1 - v5) (v5 >>> ((1 : Int32) &&& 31)) G) else (fJ28_grow_25 t v5 (x1 - v5) (v5 + 2) G)
theorem wfJ28_grow_0 {F : zF} (hd : 4 ≤ F.2.2.2) (t : Nat) (x1 : Int32)  (G : GS) {a : GS} (h : fJ28_grow_0 t x1  G = some a) (hk : zKV F a) : J mJ28_grow F G 0 [(0, vR (some t)), (1, vI x1)] [] := by
  unfold fJ28_grow_0 at h
  refine j_aload_n (j := 0) dJ28_grow_0 rfl rfl ?_
  replace h := zbE h
  obtain ⟨r1, e2, h⟩ := h
  refine j_getR fgJ28_17 (fun _ _ _ => rfl) dJ28_grow_1 e2 ?_
  replace h := zbE h
  obtain ⟨a3, e4, h⟩ := h
  subst e4
  replace h := zbE h
  obtain ⟨v5, e6, h⟩ := h
  refine j_alen e6 dJ28_grow_4 ?_
  refine j_istore_n (lv' := [(2, vI v5), (0, vR (some t)), (1, vI x1)]) dJ28_grow_5 rfl (Nat.le_of_ble_eq_true rfl) rfl ?_
  refine j_iload_n (j := 0) dJ28_grow_6 rfl rfl ?_
  refine j_iload_n (j := 2) dJ28_grow_7 rfl rfl ?_
  refine j_iload_n (j := 0) dJ28_grow_8 rfl rfl ?_
  refine j_isub dJ28_grow_9 ?_
  refine j_iload_n (j := 0) dJ28_grow_10 rfl rfl ?_
  refine j_bipush (v := 64) dJ28_grow_11 (by decide) ?_
  refine j_icmp_ge (tgt := 22) dJ28_grow_13 (by decide) (fun c7 => ?_) (fun c7 => ?_)
  · rw [if_pos c7] at h
    refine j_iload_n (j := 0) dJ28_grow_22 rfl rfl ?_
    refine j_iconst (v := 1) dJ28_grow_23 (by decide) ?_
    refine j_ishr dJ28_grow_24 ?_
    exact J.sub (zall [1] rfl) (wfJ28_grow_25 hd t v5 (x1 - v5) (v5 >>> ((1 : Int32) &&& 31)) G h hk)
  · rw [if_neg c7] at h
    refine j_iload_n (j := 0) dJ28_grow_16 rfl rfl ?_
    refine j_iconst (v := 2) dJ28_grow_17 (by decide) ?_
    refine j_iadd dJ28_grow_18 ?_
    refine j_goto (tgt := 25) dJ28_grow_19 (by decide) ?_
    exact J.sub (zall [1] rfl) (wfJ28_grow_25 hd t v5 (x1 - v5) (v5 + 2) G h hk)
theorem yJ28_grow_ok {t : Nat} {x1 : Int32} {G : GS} {G1 : GS} (h : fJ28_grow_0 t x1 G = some G1) : zRuns yJ28_grow (ws_ yJ28_grow cJ28_grow 4 none) [vR (some t), vI x1] (.inl none, G, G1, 4) :=
  zentry (M := mJ28_grow) (plainFor_of_name (by decide +kernel)) ⟨rfl, rfl, rfl, rfl⟩ (Nat.le_of_ble_eq_true rfl) (wfJ28_grow_0 (Nat.le_refl _) t x1 G h ⟨rfl, rfl⟩)
end
