/-! printed: functions and walks -/
set_option maxRecDepth 100000
noncomputable section
abbrev mJ2_remove : zM := (cJ2_remove, RJ2, 4, (some (Jvm.ClassFile.FieldType.object "java/lang/Object")), "remove", [], "(I)Ljava/lang/Object;")
def fJ2_remove_0 (t : Nat) (x1 : Int32)  (G : GS) : Option ((Option Nat) × GS) :=
  (zgI G 12 t 2).bind fun v1 => (fJ16_checkIndex_0 x1 v1 G).bind fun v4 => (zgR G 12 t 1).bind fun r5 => r5.bind fun a7 => (zaR G 54 a7 x1).bind fun r9 => zk [12] G t <| (fJ2_fastRemove_0 t (some a7) x1 G).bind fun G13 => some (r9, G13)
theorem wfJ2_remove_0 {F : zF} (hd : 3 ≤ F.2.2.2) (t : Nat) (x1 : Int32)  (G : GS) {a : (Option Nat) × GS} (h : fJ2_remove_0 t x1  G = some a) (hk : zKR F a) : J mJ2_remove F G 0 [(0, vR (some t)), (1, vI x1)] [] := by
  unfold fJ2_remove_0 at h
  refine j_iload_n (j := 1) dJ2_remove_0 rfl rfl ?_
  refine j_aload_n (j := 0) dJ2_remove_1 rfl rfl ?_
  replace h := zbE h
  obtain ⟨v1, e2, h⟩ := h
  refine j_getI fgJ2_48 (fun _ _ _ => rfl) dJ2_remove_2 e2 ?_
  replace h := zbE h
  obtain ⟨v4, e3, h⟩ := h
  refine j_cont (zrS (As := [vI x1, vI v1]) msJ2_118 (yJ16_checkIndex_ok e3) (Nat.le_trans (Nat.le_of_ble_eq_true rfl) hd) rfl rfl (Nat.le_of_ble_eq_true rfl) dJ2_remove_5) ?_
  refine j_pop dJ2_remove_8 rfl ?_
  refine j_aload_n (j := 0) dJ2_remove_9 rfl rfl ?_
  replace h := zbE h
  obtain ⟨r5, e6, h⟩ := h
  refine j_getR fgJ2_9 (fun _ _ _ => rfl) dJ2_remove_10 e6 ?_
  refine j_astore_n (lv' := [(2, vR r5), (0, vR (some t)), (1, vI x1)]) dJ2_remove_13 rfl (Nat.le_of_ble_eq_true rfl) rfl ?_
  refine j_aload_n (j := 0) dJ2_remove_14 rfl rfl ?_
  refine j_iload_n (j := 2) dJ2_remove_15 rfl rfl ?_
  replace h := zbE h
  obtain ⟨a7, e8, h⟩ := h
  subst e8
  replace h := zbE h
  obtain ⟨r9, e10, h⟩ := h
  refine j_aald (Or.inl rfl) e10 dJ2_remove_16 ?_
  refine j_astore_n (lv' := [(3, vR r9), (2, vR (some a7)), (0, vR (some t)), (1, vI x1)]) dJ2_remove_17 rfl (Nat.le_of_ble_eq_true rfl) rfl ?_
  refine j_aload_n (j := 2) dJ2_remove_18 rfl rfl ?_
  refine j_aload_n (j := 1) dJ2_remove_19 rfl rfl ?_
  refine j_iload_n (j := 3) dJ2_remove_20 rfl rfl ?_
  replace h := zkE h
  obtain ⟨e11, h⟩ := h
  replace h := zbE h
  obtain ⟨G13, e12, h⟩ := h
  refine j_cont (zrV (As := [vR (some a7), vI x1]) msJ2_144 (yJ2_fastRemove_ok e12) (Nat.le_trans (Nat.le_of_ble_eq_true rfl) hd) (zk_12 _ e11) rfl rfl (Nat.le_of_ble_eq_true rfl) dJ2_remove_21) ?_
  refine j_aload_n (j := 0) dJ2_remove_24 rfl rfl ?_
  obtain rfl := Option.some.inj h
  exact j_aret hk.1 hk.2 rfl (Or.inl ⟨_, rfl⟩) dJ2_remove_25
theorem yJ2_remove_ok {t : Nat} {x1 : Int32} {G : GS} {r : Option Nat} {G1 : GS} (h : fJ2_remove_0 t x1 G = some (r, G1)) : zRuns yJ2_remove (ws_ yJ2_remove cJ2_remove 4 (some (Jvm.ClassFile.FieldType.object "java/lang/Object"))) [vR (some t), vI x1] (.inl (some (vR r)), G, G1, 3) :=
  zentry (M := mJ2_remove) (plainFor_of_name (by decide +kernel)) ⟨rfl, rfl, rfl, rfl⟩ (Nat.le_of_ble_eq_true rfl) (wfJ2_remove_0 (Nat.le_refl _) t x1 G h ⟨rfl, rfl⟩)
theorem msJ3_114 : zSS RJ3 114 yJ13_newLength cJ13_newLength 4 (some Jvm.ClassFile.FieldType.int) 3 := ⟨lw_S q2018 q761 q139 q762, (by decide +kernel), (by decide)⟩
abbrev mJ3_newCapacity : zM := (cJ3_newCapacity, RJ3, 6, (some Jvm.ClassFile.FieldType.int), "newCapacity", [], "(I)I")
def fJ3_newCapacity_0 (t : Nat) (x1 : Int32)  (G : GS) : Option ((Int32) × GS) :=
  (zgR G 22 t 0).bind fun r1 => r1.bind fun a3 => (zln G a3).bind fun v5 => (zgI G 22 t 1).bind fun v7 => (zgI G 22 t 1).bind fun v9 => zb2 (fJ13_newLength_0 v5 ((x1 <<< (v7 &&& 31)) - v5) (v5 + ((2 : Int32) <<< (v9 &&& 31))) G) fun v12 G13 => if v12 = 2147483647 then none else ((zgI G13 22 t 1).bind fun v15 => some ((v12 >>> (v15 &&& 31)), G13))
theorem wfJ3_newCapacity_0 {F : zF} (hd : 3 ≤ F.2.2.2) (t : Nat) (x1 : Int32)  (G : GS) {a : (Int32) × GS} (h : fJ3_newCapacity_0 t x1  G = some a) (hk : zKI F a) : J mJ3_newCapacity F G 0 [(0, vR (some t)), (1, vI x1)] [] := by
  unfold fJ3_newCapacity_0 at h
  refine j_aload_n (j := 0) dJ3_newCapacity_0 rfl rfl ?_
  replace h := zbE h
  obtain ⟨r1, e2, h⟩ := h
  refine j_getR fgJ3_15 (fun _ _ _ => rfl) dJ3_newCapacity_1 e2 ?_
  replace h := zbE h
  obtain ⟨a3, e4, h⟩ := h
  subst e4
  replace h := zbE h
  obtain ⟨v5, e6, h⟩ := h
  refine j_alen e6 dJ3_newCapacity_4 ?_
  refine j_istore_n (lv' := [(2, vI v5), (0, vR (some t)), (1, vI x1)]) dJ3_newCapacity_5 rfl (Nat.le_of_ble_eq_true rfl) rfl ?_
  refine j_iload_n (j := 2) dJ3_newCapacity_6 rfl rfl ?_
  refine j_aload_n (j := 1) dJ3_newCapacity_7 rfl rfl ?_
  replace h := zbE h
  obtain ⟨v7, e8, h⟩ := h
  refine j_getI fgJ3_22 (fun _ _ _ => rfl) dJ3_newCapacity_8 e8 ?_
  refine j_ishl dJ3_newCapacity_11 ?_
  refine j_istore_n (lv' := [(3, vI (x1 <<< (v7 &&& 31))), (2, vI v5), (0, vR (some t)), (1, vI x1)]) dJ3_newCapacity_12 rfl (Nat.le_of_ble_eq_true rfl) rfl ?_
  refine j_iload_n (j := 0) dJ3_newCapacity_13 rfl rfl ?_
  refine j_iload_n (j := 1) dJ3_newCapacity_14 rfl rfl ?_
  refine j_isub dJ3_newCapacity_15 ?_
  refine j_istore (lv' := [(4, vI ((x1 <<< (v7 &&& 31)) - v5)), (3, vI (x1 <<< (v7 &&& 31))), (2, vI v5), (0, vR (some t)), (1, vI x1)]) dJ3_newCapacity_16 (Nat.le_of_ble_eq_true rfl) rfl ?_
  refine j_iload_n (j := 2) dJ3_newCapacity_18 rfl rfl ?_
  refine j_iload (j := 0) dJ3_newCapacity_19 rfl ?_
  refine j_iload_n (j := 2) dJ3_newCapacity_21 rfl rfl ?_
  refine j_iconst (v := 2) dJ3_newCapacity_22 (by decide) ?_
  refine j_aload_n (j := 3) dJ3_newCapacity_23 rfl rfl ?_
  replace h := zbE h
  obtain ⟨v9, e10, h⟩ := h
  refine j_getI fgJ3_22 (fun _ _ _ => rfl) dJ3_newCapacity_24 e10 ?_
  refine j_ishl dJ3_newCapacity_27 ?_
  refine j_iadd dJ3_newCapacity_28 ?_
  replace h := zb2E h
  obtain ⟨v12, G13, e11, h⟩ := h
  refine j_cont (zrS (As := [vI v5, vI ((x1 <<< (v7 &&& 31)) - v5), vI (v5 + ((2 : Int32) <<< (v9 &&& 31)))]) msJ3_114 (yJ13_newLength_ok e11) (Nat.le_trans (Nat.le_of_ble_eq_true rfl) hd) rfl rfl (Nat.le_of_ble_eq_true rfl) dJ3_newCapacity_29) ?_
  refine j_istore (lv' := [(5, vI v12), (4, vI ((x1 <<< (v7 &&& 31)) - v5)), (3, vI (x1 <<< (v7 &&& 31))), (2, vI v5), (0, vR (some t)), (1, vI x1)]) dJ3_newCapacity_32 (Nat.le_of_ble_eq_true rfl) rfl ?_
  refine j_iload (j := 0) dJ3_newCapacity_34 rfl ?_
  refine j_ldc (v := 2147483647) q2019 dJ3_newCapacity_36 ?_
  refine j_icmp_ne (tgt := 51) dJ3_newCapacity_38 (by decide) (fun c14 => ?_) (fun c14 => ?_)
  · rw [if_pos c14] at h
    cases h
  · rw [if_neg c14] at h
    refine j_iload (j := 0) dJ3_newCapacity_51 rfl ?_
    refine j_aload_n (j := 4) dJ3_newCapacity_53 rfl rfl ?_
    replace h := zbE h
    obtain ⟨v15, e16, h⟩ := h
    refine j_getI fgJ3_22 (fun _ _ _ => rfl) dJ3_newCapacity_54 e16 ?_
    refine j_ishr dJ3_newCapacity_57 ?_
    obtain rfl := Option.some.inj h
    exact j_iret hk.1 hk.2 rfl dJ3_newCapacity_58
theorem yJ3_newCapacity_ok {t : Nat} {x1 : Int32} {G : GS} {r : Int32} {G1 : GS} (h : fJ3_newCapacity_0 t x1 G = some (r, G1)) : zRuns yJ3_newCapacity (ws_ yJ3_newCapacity cJ3_newCapacity 6 (some Jvm.ClassFile.FieldType.int)) [vR (some t), vI x1] (.inl (some (vI r)), G, G1, 3) :=
  zentry (M := mJ3_newCapacity) (plainFor_of_name (by decide +kernel)) ⟨rfl, rfl, rfl, rfl⟩ (Nat.le_of_ble_eq_true rfl) (wfJ3_newCapacity_0 (Nat.le_refl _) t x1 G h ⟨rfl, rfl⟩)
abbrev mJ15_copyOf_4 : zM := (cJ15_copyOf_4, RJ15, 3, (some (Jvm.ClassFile.FieldType.array Jvm.ClassFile.FieldType.byte)), "copyOf", [], "([BI)[B")
def fJ15_copyOf_4_0 (x0 : Option Nat) (x1 : Int32)  (G : GS) : Option ((Option Nat) × GS) :=
  x0.bind fun a1 => (zln G a1).bind fun v3 => if x1 = v3 then none else ((zna G 53 x1).bind fun G6 => (zln G6 a1).bind fun v8 => (fJ14_min_0 v8 x1 G6).bind fun v11 => none)
theorem wfJ15_copyOf_4_0 {F : zF} (hd : 2 ≤ F.2.2.2) (x0 : Option Nat) (x1 : Int32)  (G : GS) {a : (Option Nat) × GS} (h : fJ15_copyOf_4_0 x0 x1  G = some a) (hk : zKR F a) : J mJ15_copyOf_4 F G 0 [(0, vR x0), (1, vI x1)] [] := by
  unfold fJ15_copyOf_4_0 at h
  refine j_iload_n (j := 1) dJ15_copyOf_4_0 rfl rfl ?_
  refine j_aload_n (j := 0) dJ15_copyOf_4_1 rfl rfl ?_
  replace h := zbE h
  obtain ⟨a1, e2, h⟩ := h
  subst e2
  replace h := zbE h
  obtain ⟨v3, e4, h⟩ := h
  refine j_alen e4 dJ15_copyOf_4_2 ?_
  refine j_icmp_ne (tgt := 14) dJ15_copyOf_4_3 (by decide) (fun c5 => ?_) (fun c5 => ?_)
  · rw [if_pos c5] at h
    refine j_aload_n (j := 0) dJ15_copyOf_4_6 rfl rfl ?_
    cases h
  · rw [if_neg c5] at h
    refine j_iload_n (j := 1) dJ15_copyOf_4_14 rfl rfl ?_
    replace h := zbE h
    obtain ⟨G6, e7, h⟩ := h
    refine j_newa (t := 3) (ty := .byte) rfl rfl q244 (fun _ _ _ e1 e2 e3 => by simp only [zfv, e1, e2, e3] <;> rfl) (by decide) (fun _ _ h => h) e7 dJ15_copyOf_4_15 ?_
    refine j_astore_n (lv' := [(2, vR (some (gz G))), (0, vR (some a1)), (1, vI x1)]) dJ15_copyOf_4_17 rfl (Nat.le_of_ble_eq_true rfl) rfl ?_
    refine j_aload_n (j := 1) dJ15_copyOf_4_18 rfl rfl ?_
    refine j_iconst (v := 0) dJ15_copyOf_4_19 (by decide) ?_
    refine j_aload_n (j := 0) dJ15_copyOf_4_20 rfl rfl ?_
    refine j_iconst (v := 0) dJ15_copyOf_4_21 (by decide) ?_
    refine j_aload_n (j := 1) dJ15_copyOf_4_22 rfl rfl ?_
    replace h := zbE h
    obtain ⟨v8, e9, h⟩ := h
    refine j_alen e9 dJ15_copyOf_4_23 ?_
    refine j_iload_n (j := 2) dJ15_copyOf_4_24 rfl rfl ?_
    replace h := zbE h
    obtain ⟨v11, e10, h⟩ := h
    refine j_cont (zrS (As := [vI v8, vI x1]) msJ15_304 (yJ14_min_ok e10) (Nat.le_trans (Nat.le_of_ble_eq_true rfl) hd) rfl rfl (Nat.le_of_ble_eq_true rfl) dJ15_copyOf_4_25) ?_
    cases h
theorem yJ15_copyOf_4_ok {x0 : Option Nat} {x1 : Int32} {G : GS} {r : Option Nat} {G1 : GS} (h : fJ15_copyOf_4_0 x0 x1 G = some (r, G1)) : zRuns yJ15_copyOf_4 (ws_ yJ15_copyOf_4 cJ15_copyOf_4 3 (some (Jvm.ClassFile.FieldType.array Jvm.ClassFile.FieldType.byte))) [vR x0, vI x1] (.inl (some (vR r)), G, G1, 2) :=
  zentry (M := mJ15_copyOf_4) (plainFor_of_name (by decide +kernel)) ⟨rfl, rfl, rfl, rfl⟩ (Nat.le_of_ble_eq_true rfl) (wfJ15_copyOf_4_0 (Nat.le_refl _) x0 x1 G h ⟨rfl, rfl⟩)
abbrev mJ3_ensureCapacityInternal : zM := (cJ3_ensureCapacityInternal, RJ3, 3, none, "ensureCapacityInternal", [], "(I)V")
def fJ3_ensureCapacityInternal_0 (t : Nat) (x1 : Int32)  (G : GS) : Option (GS) :=
  (zgR G 22 t 0).bind fun r1 => r1.bind fun a3 => (zln G a3).bind fun v5 => (zgI G 22 t 1).bind fun v7 => if (x1 - (v5 >>> (v7 &&& 31))) ≤ 0 then (some G) else ((zgR G 22 t 0).bind fun r10 => none)
theorem wfJ3_ensureCapacityInternal_0 {F : zF} (hd : 4 ≤ F.2.2.2) (t : Nat) (x1 : Int32)  (G : GS) {a : GS} (h : fJ3_ensureCapacityInternal_0 t x1  G = some a) (hk : zKV F a) : J mJ3_ensureCapacityInternal F G 0 [(0, vR (some t)), (1, vI x1)] [] := by
  unfold fJ3_ensureCapacityInternal_0 at h
  refine j_aload_n (j := 0) dJ3_ensureCapacityInternal_0 rfl rfl ?_
  replace h := zbE h
  obtain ⟨r1, e2, h⟩ := h
  refine j_getR fgJ3_15 (fun _ _ _ => rfl) dJ3_ensureCapacityInternal_1 e2 ?_
  replace h := zbE h
  obtain ⟨a3, e4, h⟩ := h
  subst e4
  replace h := zbE h
  obtain ⟨v5, e6, h⟩ := h
  refine j_alen e6 dJ3_ensureCapacityInternal_4 ?_
  refine j_aload_n (j := 0) dJ3_ensureCapacityInternal_5 rfl rfl ?_
  replace h := zbE h
  obtain ⟨v7, e8, h⟩ := h
  refine j_getI fgJ3_22 (fun _ _ _ => rfl) dJ3_ensureCapacityInternal_6 e8 ?_
  refine j_ishr dJ3_ensureCapacityInternal_9 ?_
  refine j_istore_n (lv' := [(2, vI (v5 >>> (v7 &&& 31))), (0, vR (some t)), (1, vI x1)]) dJ3_ensureCapacityInternal_10 rfl (Nat.le_of_ble_eq_true rfl) rfl ?_
  refine j_iload_n (j := 2) dJ3_ensureCapacityInternal_11 rfl rfl ?_
  refine j_iload_n (j := 0) dJ3_ensureCapacityInternal_12 rfl rfl ?_
  refine j_isub dJ3_ensureCapacityInternal_13 ?_
  refine j_if_le (tgt := 38) dJ3_ensureCapacityInternal_14 (by decide) (fun c9 => ?_) (fun c9 => ?_)
  · rw [if_pos c9] at h
    obtain rfl := Option.some.inj h
    exact j_vret hk.1 hk.2 rfl dJ3_ensureCapacityInternal_38
  · rw [if_neg c9] at h
    refine j_aload_n (j := 1) dJ3_ensureCapacityInternal_17 rfl rfl ?_
    refine j_aload_n (j := 1) dJ3_ensureCapacityInternal_18 rfl rfl ?_
    replace h := zbE h
    obtain ⟨r10, e11, h⟩ := h
    refine j_getR fgJ3_15 (fun _ _ _ => rfl) dJ3_ensureCapacityInternal_19 e11 ?_
    refine j_aload_n (j := 1) dJ3_ensureCapacityInternal_22 rfl rfl ?_
    refine j_iload_n (j := 2) dJ3_ensureCapacityInternal_23 rfl rfl ?_
    cases h
theorem yJ3_ensureCapacityInternal_ok {t : Nat} {x1 : Int32} {G : GS} {G1 : GS} (h : fJ3_ensureCapacityInternal_0 t x1 G = some G1) : zRuns yJ3_ensureCapacityInternal (ws_ yJ3_ensureCapacityInternal cJ3_ensureCapacityInternal 3 none) [vR (some t), vI x1] (.inl none, G, G1, 4) :=
  zentry (M := mJ3_ensureCapacityInternal) (plainFor_of_name (by decide +kernel)) ⟨rfl, rfl, rfl, rfl⟩ (Nat.le_of_ble_eq_true rfl) (wfJ3_ensureCapacityInternal_0 (Nat.le_refl _) t x1 G h ⟨rfl, rfl⟩)
abbrev mJ3_isLatin1 : zM := (cJ3_isLatin1, RJ3, 1, (some Jvm.ClassFile.FieldType.boolean), "isLatin1", [], "()Z")
def fJ3_isLatin1_17   (G : GS) : Option (Int32) :=
  zcond (zbb 0) (some 0)
theorem wfJ3_isLatin1_17 {F : zF} (hd : 1 ≤ F.2.2.2)   (G : GS) {a : Int32} (h : fJ3_isLatin1_17   G = some a) (hk : zKPI F G a) : J mJ3_isLatin1 F G 17 [] [] := by
  unfold fJ3_isLatin1_17 at h
  refine j_iconst (v := 0) dJ3_isLatin1_17 (by decide) ?_
  replace h := zcondE h
  obtain ⟨e1, h⟩ := h
  obtain rfl := Option.some.inj h
  exact j_zret hk.1 hk.2 rfl (zbb_n e1) dJ3_isLatin1_18
def fJ3_isLatin1_0 (t : Nat)  (G : GS) : Option (Int32) :=
  if (1 : Int32) = 0 then (fJ3_isLatin1_17 G) else ((zgI G 22 t 1).bind fun v2 => if v2 = 0 then (zcond (zbb 1) (some 1)) else (fJ3_isLatin1_17 G))
theorem wfJ3_isLatin1_0 {F : zF} (hd : 1 ≤ F.2.2.2) (t : Nat)  (G : GS) {a : Int32} (h : fJ3_isLatin1_0 t  G = some a) (hk : zKPI F G a) : J mJ3_isLatin1 F G 0 [(0, vR (some t))] [] := by
  unfold fJ3_isLatin1_0 at h
  refine j_gets (i := 6) (x := vI 1) rfl rfl q221 dJ3_isLatin1_0 ?_
  refine j_if_eq (tgt := 17) dJ3_isLatin1_3 (by decide) (fun c1 => ?_) (fun c1 => ?_)
  · rw [if_pos c1] at h
    exact J.sub (zall [] rfl) (wfJ3_isLatin1_17 hd   G h hk)
  · rw [if_neg c1] at h
    refine j_aload_n (j := 0) dJ3_isLatin1_6 rfl rfl ?_
    replace h := zbE h
    obtain ⟨v2, e3, h⟩ := h
    refine j_getI fgJ3_22 (fun _ _ _ => rfl) dJ3_isLatin1_7 e3 ?_
    refine j_if_ne (tgt := 17) dJ3_isLatin1_10 (by decide) (fun c4 => ?_) (fun c4 => ?_)
    · rw [if_pos c4] at h
      refine j_iconst (v := 1) dJ3_isLatin1_13 (by decide) ?_
      refine j_goto (tgt := 18) dJ3_isLatin1_14 (by decide) ?_
      replace h := zcondE h
      obtain ⟨e5, h⟩ := h
      obtain rfl := Option.some.inj h
      exact j_zret hk.1 hk.2 rfl (zbb_n e5) dJ3_isLatin1_18
    · rw [if_neg c4] at h
      exact J.sub (zall [] rfl) (wfJ3_isLatin1_17 hd   G h hk)
theorem yJ3_isLatin1_ok {t : Nat} {G : GS} {r : Int32} (h : fJ3_isLatin1_0 t G = some r) : zRuns yJ3_isLatin1 (ws_ yJ3_isLatin1 cJ3_isLatin1 1 (some Jvm.ClassFile.FieldType.boolean)) [vR (some t)] (.inl (some (vI r)), G, G, 1) :=
  zentry (M := mJ3_isLatin1) (plainFor_of_name (by decide +kernel)) ⟨rfl, rfl, rfl, rfl⟩ (Nat.le_of_ble_eq_true rfl) (wfJ3_isLatin1_0 (Nat.le_refl _) t G h ⟨rfl, rfl⟩)
abbrev mJ17_checkFromToIndex : zM := (cJ17_checkFromToIndex, RJ17, 4, (some Jvm.ClassFile.FieldType.int), "checkFromToIndex", [], "(IIILjava/util/function/BiFunction;)I")
def fJ17_checkFromToIndex_14 (x0 : Int32) (x1 : Int32) (x2 : Int32) (x3 : Option Nat)  (G : GS) : Option (Int32) :=
  none
theorem wfJ17_checkFromToIndex_14 {F : zF} (hd : 1 ≤ F.2.2.2) (x0 : Int32) (x1 : Int32) (x2 : Int32) (x3 : Option Nat)  (G : GS) {a : Int32} (h : fJ17_checkFromToIndex_14 x0 x1 x2 x3  G = some a) (hk : zKPI F G a) : J mJ17_checkFromToIndex F G 14 [(0, vI x0), (1, vI x1), (2, vI x2), (3, vR x3)] [] := by
  unfold fJ17_checkFromToIndex_14 at h
  refine j_aload_n (j := 3) dJ17_checkFromToIndex_14 rfl rfl ?_
  refine j_iload_n (j := 0) dJ17_checkFromToIndex_15 rfl rfl ?_
  refine j_iload_n (j := 1) dJ17_checkFromToIndex_16 rfl rfl ?_
  refine j_iload_n (j := 2) dJ17_checkFromToIndex_17 rfl rfl ?_
  cases h
def fJ17_checkFromToIndex_0 (x0 : Int32) (x1 : Int32) (x2 : Int32) (x3 : Option Nat)  (G : GS) : Option (Int32) :=
  if x0 < 0 then (fJ17_checkFromToIndex_14 x0 x1 x2 x3 G) else (if x1 < x0 then (fJ17_checkFromToIndex_14 x0 x1 x2 x3 G) else (if x1 ≤ x2 then (some x0) else (fJ17_checkFromToIndex_14 x0 x1 x2 x3 G)))
theorem wfJ17_checkFromToIndex_0 {F : zF} (hd : 1 ≤ F.2.2.2) (x0 : Int32) (x1 : Int32) (x2 : Int32) (x3 : Option Nat)  (G : GS) {a : Int32} (h : fJ17_checkFromToIndex_0 x0 x1 x2 x3  G = some a) (hk : zKPI F G a) : J mJ17_checkFromToIndex F G 0 [(0, vI x0), (1, vI x1), (2, vI x2), (3, vR x3)] [] := by
  unfold fJ17_checkFromToIndex_0 at h
  refine j_iload_n (j := 0) dJ17_checkFromToIndex_0 rfl rfl ?_
  refine j_if_lt (tgt := 14) dJ17_checkFromToIndex_1 (by decide) (fun c1 => ?_) (fun c1 => ?_)
  · rw [if_pos c1] at h
    exact J.sub (zall [0, 1, 2, 3] rfl) (wfJ17_checkFromToIndex_14 hd x0 x1 x2 x3  G h hk)
  · rw [if_neg c1] at h
    refine j_iload_n (j := 0) dJ17_checkFromToIndex_4 rfl rfl ?_
    refine j_iload_n (j := 1) dJ17_checkFromToIndex_5 rfl rfl ?_
    refine j_icmp_gt (tgt := 14) dJ17_checkFromToIndex_6 (by decide) (fun c2 => ?_) (fun c2 => ?_)
    · rw [if_pos c2] at h
      exact J.sub (zall [0, 1, 2, 3] rfl) (wfJ17_checkFromToIndex_14 hd x0 x1 x2 x3  G h hk)
    · rw [if_neg c2] at h
      refine j_iload_n (j := 1) dJ17_checkFromToIndex_9 rfl rfl ?_
      refine j_iload_n (j := 2) dJ17_checkFromToIndex_10 rfl rfl ?_
      refine j_icmp_le (tgt := 22) dJ17_checkFromToIndex_11 (by decide) (fun c3 => ?_) (fun c3 => ?_)
      · rw [if_pos c3] at h
        refine j_iload_n (j := 0) dJ17_checkFromToIndex_22 rfl rfl ?_
        obtain rfl := Option.some.inj h
        exact j_iret hk.1 hk.2 rfl dJ17_checkFromToIndex_23
      · rw [if_neg c3] at h
        exact J.sub (zall [0, 1, 2, 3] rfl) (wfJ17_checkFromToIndex_14 hd x0 x1 x2 x3  G h hk)
theorem yJ17_checkFromToIndex_ok {x0 : Int32} {x1 : Int32} {x2 : Int32} {x3 : Option Nat} {G : GS} {r : Int32} (h : fJ17_checkFromToIndex_0 x0 x1 x2 x3 G = some r) : zRuns yJ17_checkFromToIndex (ws_ yJ17_checkFromToIndex cJ17_checkFromToIndex 4 (some Jvm.ClassFile.FieldType.int)) [vI x0, vI x1, vI x2, vR x3] (.inl (some (vI r)), G, G, 1) :=
  zentry (M := mJ17_checkFromToIndex) (plainFor_of_name (by decide +kernel)) ⟨rfl, rfl, rfl, rfl⟩ (Nat.le_of_ble_eq_true rfl) (wfJ17_checkFromToIndex_0 (Nat.le_refl _) x0 x1 x2 x3 G h ⟨rfl, rfl⟩)
theorem msJ5_1062 : zSS RJ5 1062 yJ17_checkFromToIndex cJ17_checkFromToIndex 4 (some Jvm.ClassFile.FieldType.int) 4 := ⟨lw_S q960 q961 q144 q962, (by decide +kernel), (by decide)⟩
abbrev mJ5_checkBoundsBeginEnd : zM := (cJ5_checkBoundsBeginEnd, RJ5, 3, none, "checkBoundsBeginEnd", [], "(III)V")
def fJ5_checkBoundsBeginEnd_0 (x0 : Int32) (x1 : Int32) (x2 : Int32)  (G : GS) : Option (GS) :=
  (fJ17_checkFromToIndex_0 x0 x1 x2 (some (gS G 4)) G).bind fun v2 => some G
theorem wfJ5_checkBoundsBeginEnd_0 {F : zF} (hd : 2 ≤ F.2.2.2) (x0 : Int32) (x1 : Int32) (x2 : Int32)  (G : GS) {a : GS} (h : fJ5_checkBoundsBeginEnd_0 x0 x1 x2  G = some a) (hk : zKV F a) : J mJ5_checkBoundsBeginEnd F G 0 [(0, vI x0), (1, vI x1), (2, vI x2)] [] := by
  unfold fJ5_checkBoundsBeginEnd_0 at h
  refine j_iload_n (j := 0) dJ5_checkBoundsBeginEnd_0 rfl rfl ?_
  refine j_iload_n (j := 1) dJ5_checkBoundsBeginEnd_1 rfl rfl ?_
  refine j_iload_n (j := 2) dJ5_checkBoundsBeginEnd_2 rfl rfl ?_
  refine j_gets (i := 4) (x := vR (some (gS G 4))) rfl rfl q958 dJ5_checkBoundsBeginEnd_3 ?_
  replace h := zbE h
  obtain ⟨v2, e1, h⟩ := h
  refine j_cont (zrS (As := [vI x0, vI x1, vI x2, vR (some (gS G 4))]) msJ5_1062 (yJ17_checkFromToIndex_ok e1) (Nat.le_trans (Nat.le_of_ble_eq_true rfl) hd) rfl rfl (Nat.le_of_ble_eq_true rfl) dJ5_checkBoundsBeginEnd_6) ?_
  refine j_pop dJ5_checkBoundsBeginEnd_9 rfl ?_
  obtain rfl := Option.some.inj h
  exact j_vret hk.1 hk.2 rfl dJ5_checkBoundsBeginEnd_10
theorem yJ5_checkBoundsBeginEnd_ok {x0 : Int32} {x1 : Int32} {x2 : Int32} {G : GS} {G1 : GS} (h : fJ5_checkBoundsBeginEnd_0 x0 x1 x2 G = some G1) : zRuns yJ5_checkBoundsBeginEnd (ws_ yJ5_checkBoundsBeginEnd cJ5_checkBoundsBeginEnd 3 none) [vI x0, vI x1, vI x2] (.inl none, G, G1, 2) :=
  zentry (M := mJ5_checkBoundsBeginEnd) (plainFor_of_name (by decide +kernel)) ⟨rfl, rfl, rfl, rfl⟩ (Nat.le_of_ble_eq_true rfl) (wfJ5_checkBoundsBeginEnd_0 (Nat.le_refl _) x0 x1 x2 G h ⟨rfl, rfl⟩)
theorem msJ6_241 : zSS RJ6 241 yJ5_checkBoundsBeginEnd cJ5_checkBoundsBeginEnd 3 none 3 := ⟨lw_S q2041 q2042 q129 q2043, (by decide +kernel), (by decide)⟩
theorem msJ6_48 : zSS RJ6 48 yJ6_length cJ6_length 1 (some Jvm.ClassFile.FieldType.int) 1 := ⟨lw_S q898 q899 q130 q900, (by decide +kernel), (by decide)⟩
abbrev mJ6_checkBoundsBeginEnd : zM := (cJ6_checkBoundsBeginEnd, RJ6, 3, none, "checkBoundsBeginEnd", [], "(II[B)V")
def fJ6_checkBoundsBeginEnd_0 (x0 : Int32) (x1 : Int32) (x2 : Option Nat)  (G : GS) : Option (GS) :=
  (fJ6_length_0 x2 G).bind fun v2 => (fJ5_checkBoundsBeginEnd_0 x0 x1 v2 G).bind fun G4 => some G4
theorem wfJ6_checkBoundsBeginEnd_0 {F : zF} (hd : 3 ≤ F.2.2.2) (x0 : Int32) (x1 : Int32) (x2 : Option Nat)  (G : GS) {a : GS} (h : fJ6_checkBoundsBeginEnd_0 x0 x1 x2  G = some a) (hk : zKV F a) : J mJ6_checkBoundsBeginEnd F G 0 [(0, vI x0), (1, vI x1), (2, vR x2)] [] := by
  unfold fJ6_checkBoundsBeginEnd_0 at h
  refine j_iload_n (j := 0) dJ6_checkBoundsBeginEnd_0 rfl rfl ?_
  refine j_iload_n (j := 1) dJ6_checkBoundsBeginEnd_1 rfl rfl ?_
  refine j_aload_n (j := 2) dJ6_checkBoundsBeginEnd_2 rfl rfl ?_
  replace h := zbE h
  obtain ⟨v2, e1, h⟩ := h
  refine j_cont (zrS (As := [vR x2]) msJ6_48 (yJ6_length_ok e1) (Nat.le_trans (Nat.le_of_ble_eq_true rfl) hd) rfl rfl (Nat.le_of_ble_eq_true rfl) dJ6_checkBoundsBeginEnd_3) ?_
  replace h := zbE h
  obtain ⟨G4, e3, h⟩ := h
  refine j_cont (zrS (As := [vI x0, vI x1, vI v2]) msJ6_241 (yJ5_checkBoundsBeginEnd_ok e3) (Nat.le_trans (Nat.le_of_ble_eq_true rfl) hd) rfl rfl (Nat.le_of_ble_eq_true rfl) dJ6_checkBoundsBeginEnd_6) ?_
  obtain rfl := Option.some.inj h
  exact j_vret hk.1 hk.2 rfl dJ6_checkBoundsBeginEnd_9
theorem yJ6_checkBoundsBeginEnd_ok {x0 : Int32} {x1 : Int32} {x2 : Option Nat} {G : GS} {G1 : GS} (h : fJ6_checkBoundsBeginEnd_0 x0 x1 x2 G = some G1) : zRuns yJ6_checkBoundsBeginEnd (ws_ yJ6_checkBoundsBeginEnd cJ6_checkBoundsBeginEnd 3 none) [vI x0, vI x1, vR x2] (.inl none, G, G1, 3) :=
  zentry (M := mJ6_checkBoundsBeginEnd) (plainFor_of_name (by decide +kernel)) ⟨rfl, rfl, rfl, rfl⟩ (Nat.le_of_ble_eq_true rfl) (wfJ6_checkBoundsBeginEnd_0 (Nat.le_refl _) x0 x1 x2 G h ⟨rfl, rfl⟩)
abbrev mJ6_putChar : zM := (cJ6_putChar, RJ6, 3, none, "putChar", [], "([BII)V")
def fJ6_putChar_0 (x0 : Option Nat) (x1 : Int32) (x2 : Int32)  (G : GS) : Option (GS) :=
  none
theorem wfJ6_putChar_0 {F : zF} (hd : 2 ≤ F.2.2.2) (x0 : Option Nat) (x1 : Int32) (x2 : Int32)  (G : GS) {a : GS} (h : fJ6_putChar_0 x0 x1 x2  G = some a) (hk : zKV F a) : J mJ6_putChar F G 0 [(0, vR x0), (1, vI x1), (2, vI x2)] [] := by
  unfold fJ6_putChar_0 at h
  cases h
theorem yJ6_putChar_ok {x0 : Option Nat} {x1 : Int32} {x2 : Int32} {G : GS} {G1 : GS} (h : fJ6_putChar_0 x0 x1 x2 G = some G1) : zRuns yJ6_putChar (ws_ yJ6_putChar cJ6_putChar 3 none) [vR x0, vI x1, vI x2] (.inl none, G, G1, 2) :=
  zentry (M := mJ6_putChar) (plainFor_of_name (by decide +kernel)) ⟨rfl, rfl, rfl, rfl⟩ (Nat.le_of_ble_eq_true rfl) (wfJ6_putChar_0 (Nat.le_refl _) x0 x1 x2 G h ⟨rfl, rfl⟩)
theorem msJ6_111 : zSS RJ6 111 yJ6_putChar cJ6_putChar 3 none 3 := ⟨lw_S q2048 q2049 q130 q2050, (by decide +kernel), (by decide)⟩
theorem msJ6_96 : zSS RJ6 96 yJ6_checkBoundsBeginEnd cJ6_checkBoundsBeginEnd 3 none 3 := ⟨lw_S q2038 q2039 q130 q2040, (by decide +kernel), (by decide)⟩
abbrev mJ6_putCharsAt : zM := (cJ6_putCharsAt, RJ6, 7, (some Jvm.ClassFile.FieldType.int), "putCharsAt", [], "([BICCCC)I")
def fJ6_putCharsAt_0 (x0 : Option Nat) (x1 : Int32) (x2 : Int32) (x3 : Int32) (x4 : Int32) (x5 : Int32)  (G : GS) : Option ((Int32) × GS) :=
  (fJ6_checkBoundsBeginEnd_0 x1 (x1 + 4) x0 G).bind fun G2 => (fJ6_putChar_0 x0 x1 x2 G2).bind fun G4 => (fJ6_putChar_0 x0 (x1 + 1) x3 G4).bind fun G6 => (fJ6_putChar_0 x0 ((x1 + 1) + 1) x4 G6).bind fun G8 => (fJ6_putChar_0 x0 (((x1 + 1) + 1) + 1) x5 G8).bind fun G10 => none
theorem wfJ6_putCharsAt_0 {F : zF} (hd : 4 ≤ F.2.2.2) (x0 : Option Nat) (x1 : Int32) (x2 : Int32) (x3 : Int32) (x4 : Int32) (x5 : Int32)  (G : GS) {a : (Int32) × GS} (h : fJ6_putCharsAt_0 x0 x1 x2 x3 x4 x5  G = some a) (hk : zKI F a) : J mJ6_putCharsAt F G 0 [(0, vR x0), (1, vI x1), (2, vI x2), (3, vI x3), (4, vI x4), (5, vI x5)] [] := by
  unfold fJ6_putCharsAt_0 at h
  refine j_iload_n (j := 1) dJ6_putCharsAt_0 rfl rfl ?_
  refine j_iconst (v := 4) dJ6_putCharsAt_1 (by decide) ?_
  refine j_iadd dJ6_putCharsAt_2 ?_
  refine j_istore (lv' := [(6, vI (x1 + 4)), (0, vR x0), (1, vI x1), (2, vI x2), (3, vI x3), (4, vI x4), (5, vI x5)]) dJ6_putCharsAt_3 (Nat.le_of_ble_eq_true rfl) rfl ?_
  refine j_iload_n (j := 2) dJ6_putCharsAt_5 rfl rfl ?_
  refine j_iload (j := 0) dJ6_putCharsAt_6 rfl ?_
  refine j_aload_n (j := 1) dJ6_putCharsAt_8 rfl rfl ?_
  replace h := zbE h
  obtain ⟨G2, e1, h⟩ := h
  refine j_cont (zrS (As := [vI x1, vI (x1 + 4), vR x0]) msJ6_96 (yJ6_checkBoundsBeginEnd_ok e1) (Nat.le_trans (Nat.le_of_ble_eq_true rfl) hd) rfl rfl (Nat.le_of_ble_eq_true rfl) dJ6_putCharsAt_9) ?_
  refine j_aload_n (j := 1) dJ6_putCharsAt_12 rfl rfl ?_
  refine j_iload_n (j := 2) dJ6_putCharsAt_13 rfl rfl ?_
  refine j_iinc (j := 2) (v := (x1 + 1)) (lv' := [(1, vI (x1 + 1)), (6, vI (x1 + 4)), (0, vR x0), (2, vI x2), (3, vI x3), (4, vI x4), (5, vI x5)]) dJ6_putCharsAt_14 rfl rfl (Nat.le_of_ble_eq_true rfl) rfl ?_
  refine j_iload_n (j := 3) dJ6_putCharsAt_17 rfl rfl ?_
  replace h := zbE h
  obtain ⟨G4, e3, h⟩ := h
  refine j_cont (zrS (As := [vR x0, vI x1, vI x2]) msJ6_111 (yJ6_putChar_ok e3) (Nat.le_trans (Nat.le_of_ble_eq_true rfl) hd) rfl rfl (Nat.le_of_ble_eq_true rfl) dJ6_putCharsAt_18) ?_
  refine j_aload_n (j := 2) dJ6_putCharsAt_21 rfl rfl ?_
  refine j_iload_n (j := 0) dJ6_putCharsAt_22 rfl rfl ?_
  refine j_iinc (j := 0) (v := ((x1 + 1) + 1)) (lv' := [(1, vI ((x1 + 1) + 1)), (6, vI (x1 + 4)), (0, vR x0), (2, vI x2), (3, vI x3), (4, vI x4), (5, vI x5)]) dJ6_putCharsAt_23 rfl rfl (Nat.le_of_ble_eq_true rfl) rfl ?_
  refine j_iload_n (j := 4) dJ6_putCharsAt_26 rfl rfl ?_
  replace h := zbE h
  obtain ⟨G6, e5, h⟩ := h
  refine j_cont (zrS (As := [vR x0, vI (x1 + 1), vI x3]) msJ6_111 (yJ6_putChar_ok e5) (Nat.le_trans (Nat.le_of_ble_eq_true rfl) hd) rfl rfl (Nat.le_of_ble_eq_true rfl) dJ6_putCharsAt_27) ?_
  refine j_aload_n (j := 2) dJ6_putCharsAt_30 rfl rfl ?_
  refine j_iload_n (j := 0) dJ6_putCharsAt_31 rfl rfl ?_
  refine j_iinc (j := 0) (v := (((x1 + 1) + 1) + 1)) (lv' := [(1, vI (((x1 + 1) + 1) + 1)), (6, vI (x1 + 4)), (0, vR x0), (2, vI x2), (3, vI x3), (4, vI x4), (5, vI x5)]) dJ6_putCharsAt_32 rfl rfl (Nat.le_of_ble_eq_true rfl) rfl ?_
  refine j_iload (j := 5) dJ6_putCharsAt_35 rfl ?_
  replace h := zbE h
  obtain ⟨G8, e7, h⟩ := h
  refine j_cont (zrS (As := [vR x0, vI ((x1 + 1) + 1), vI x4]) msJ6_111 (yJ6_putChar_ok e7) (Nat.le_trans (Nat.le_of_ble_eq_true rfl) hd) rfl rfl (Nat.le_of_ble_eq_true rfl) dJ6_putCharsAt_37) ?_
  refine j_aload_n (j := 2) dJ6_putCharsAt_40 rfl rfl ?_
  refine j_iload_n (j := 0) dJ6_putCharsAt_41 rfl rfl ?_
  refine j_iinc (j := 0) (v := ((((x1 + 1) + 1) + 1) + 1)) (lv' := [(1, vI ((((x1 + 1) + 1) + 1) + 1)), (6, vI (x1 + 4)), (0, vR x0), (2, vI x2), (3, vI x3), (4, vI x4), (5, vI x5)]) dJ6_putCharsAt_42 rfl rfl (Nat.le_of_ble_eq_true rfl) rfl ?_
  refine j_iload (j := 6) dJ6_putCharsAt_45 rfl ?_
  replace h := zbE h
  obtain ⟨G10, e9, h⟩ := h
  refine j_cont (zrS (As := [vR x0, vI (((x1 + 1) + 1) + 1), vI x5]) msJ6_111 (yJ6_putChar_ok e9) (Nat.le_trans (Nat.le_of_ble_eq_true rfl) hd) rfl rfl (Nat.le_of_ble_eq_true rfl) dJ6_putCharsAt_47) ?_
  cases h
theorem yJ6_putCharsAt_ok {x0 : Option Nat} {x1 : Int32} {x2 : Int32} {x3 : Int32} {x4 : Int32} {x5 : Int32} {G : GS} {r : Int32} {G1 : GS} (h : fJ6_putCharsAt_0 x0 x1 x2 x3 x4 x5 G = some (r, G1)) : zRuns yJ6_putCharsAt (ws_ yJ6_putCharsAt cJ6_putCharsAt 7 (some Jvm.ClassFile.FieldType.int)) [vR x0, vI x1, vI x2, vI x3, vI x4, vI x5] (.inl (some (vI r)), G, G1, 4) :=
  zentry (M := mJ6_putCharsAt) (plainFor_of_name (by decide +kernel)) ⟨rfl, rfl, rfl, rfl⟩ (Nat.le_of_ble_eq_true rfl) (wfJ6_putCharsAt_0 (Nat.le_refl _) x0 x1 x2 x3 x4 x5 G h ⟨rfl, rfl⟩)
theorem fpJ3_79_J4 : zFP RJ3 79 21 3 (.int) false := ⟨(RJ4, TJ4, 4, tyJ4), rfl, by decide, in_J4, tyJ4_ok, nmJ4, rfl, rfl, (by decide), "java/lang/AbstractStringBuilder", Or.inl rfl, q234⟩
theorem msJ3_100_J4 : (Cond.methodLink RJ3 100 ⟨"java/lang/AbstractStringBuilder", "ensureCapacityInternal", "(I)V"⟩ ∈ lw_all ∧ Cond.sameMethod "java/lang/AbstractStringBuilder" "java/lang/AbstractStringBuilder" "ensureCapacityInternal" "(I)V" ∈ lw_all ∧ Cond.instanceMethod yJ3_ensureCapacityInternal ∈ lw_all ∧ Cond.initialized "java/lang/AbstractStringBuilder" ∈ lw_all ∧ Cond.code yJ3_ensureCapacityInternal cJ3_ensureCapacityInternal 3 none ∈ lw_all) ∧ (∀ (D : zD) (U : State), zTb D U → (Cond.selects "java/lang/StringBuilder" ⟨"java/lang/AbstractStringBuilder", "ensureCapacityInternal", "(I)V"⟩ yJ3_ensureCapacityInternal).before #[] U = true) ∧ yJ3_ensureCapacityInternal = ⟨"java/lang/AbstractStringBuilder", "ensureCapacityInternal", "(I)V"⟩ ∧ ("java/lang/AbstractStringBuilder" ≠ "java/lang/invoke/MethodHandle" ∧ "java/lang/AbstractStringBuilder" ≠ "java/lang/invoke/VarHandle" ∧ (parseMethodDescriptor "(I)V").map (fun d => d.parameters.length) = some 1) ∧ 3 ≤ 45 := ⟨⟨q2010, q3280, q2012, q127, q2013⟩, fun D U h => h.2.2.2.2.2.2.2.2, rfl, (by decide +kernel), (by decide)⟩
theorem msJ3_226 : zSS RJ3 226 yJ6_putCharsAt cJ6_putCharsAt 7 (some Jvm.ClassFile.FieldType.int) 6 := ⟨lw_S q2064 q2065 q130 q2066, (by decide +kernel), (by decide)⟩
theorem msJ3_83_J4 : zSU RJ3 83 "java/lang/StringBuilder" "java/lang/AbstractStringBuilder" ⟨"java/lang/AbstractStringBuilder", "isLatin1", "()Z"⟩ yJ3_isLatin1 cJ3_isLatin1 1 (some Jvm.ClassFile.FieldType.boolean) 0 := ⟨lw_U q943 q945 q946 q944 q127 q947, rfl, (by decide +kernel), (by decide)⟩
abbrev mJ3_appendNull : zM := (cJ3_appendNull, RJ3, 3, (some (Jvm.ClassFile.FieldType.object "java/lang/AbstractStringBuilder")), "appendNull", [], "()Ljava/lang/AbstractStringBuilder;")
def fJ3_appendNull_76 (t : Nat) (x1 : Int32)  (G : GS) : Option ((Option Nat) × GS) :=
  (zpI G 22 t 3 x1).bind fun G1 => some ((some t), G1)
theorem wfJ3_appendNull_76 {F : zF} (hd : 5 ≤ F.2.2.2) (t : Nat) (x1 : Int32)  (G : GS) {a : (Option Nat) × GS} (h : fJ3_appendNull_76 t x1  G = some a) (hk : zKR F a) : J mJ3_appendNull F G 76 [(0, vR (some t)), (1, vI x1)] [] := by
  unfold fJ3_appendNull_76 at h
  refine j_aload_n (j := 0) dJ3_appendNull_76 rfl rfl ?_
  refine j_iload_n (j := 1) dJ3_appendNull_77 rfl rfl ?_
  replace h := zbE h
  obtain ⟨G1, e2, h⟩ := h
  refine j_putI fpJ3_79_J4 (Or.inl rfl) rfl dJ3_appendNull_78 e2 ?_
  refine j_aload_n (j := 0) dJ3_appendNull_81 rfl rfl ?_
  obtain rfl := Option.some.inj h
  exact j_aret hk.1 hk.2 rfl (Or.inl ⟨_, rfl⟩) dJ3_appendNull_82
def fJ3_appendNull_0 (t : Nat)  (G : GS) : Option ((Option Nat) × GS) :=
  (zgI G 22 t 3).bind fun v1 => zk [22] G t <| (fJ3_ensureCapacityInternal_0 t (v1 + 4) G).bind fun G5 => (zgI G5 22 t 3).bind fun v6 => (zgR G5 22 t 0).bind fun r8 => zk [22] G5 t <| (fJ3_isLatin1_0 t G5).bind fun v12 => if v12 = 0 then (zb2 (fJ6_putCharsAt_0 r8 v6 110 117 108 108 G5) fun v15 G16 => fJ3_appendNull_76 t v15 G16) else (r8.bind fun a17 => (zsB G5 53 a17 v6 110).bind fun G19 => (zsB G19 53 a17 (v6 + 1) 117).bind fun G21 => (zsB G21 53 a17 ((v6 + 1) + 1) 108).bind fun G23 => (zsB G23 53 a17 (((v6 + 1) + 1) + 1) 108).bind fun G25 => fJ3_appendNull_76 t ((((v6 + 1) + 1) + 1) + 1) G25)
theorem wfJ3_appendNull_0 {F : zF} (hd : 5 ≤ F.2.2.2) (t : Nat)  (G : GS) {a : (Option Nat) × GS} (h : fJ3_appendNull_0 t  G = some a) (hk : zKR F a) : J mJ3_appendNull F G 0 [(0, vR (some t))] [] := by
  unfold fJ3_appendNull_0 at h
  refine j_aload_n (j := 0) dJ3_appendNull_0 rfl rfl ?_
  refine j_aload_n (j := 0) dJ3_appendNull_1 rfl rfl ?_
  replace h := zbE h
  obtain ⟨v1, e2, h⟩ := h
  refine j_getI fgJ3_79 (fun _ _ _ => rfl) dJ3_appendNull_2 e2 ?_
  refine j_iconst (v := 4) dJ3_appendNull_5 (by decide) ?_
  refine j_iadd dJ3_appendNull_6 ?_
  replace h := zkE h
  obtain ⟨e3, h⟩ := h
  replace h := zbE h
  obtain ⟨G5, e4, h⟩ := h
  refine j_cont (zrP (As := [vI (v1 + 4)]) msJ3_100_J4 (yJ3_ensureCapacityInternal_ok e4) (Nat.le_trans (Nat.le_of_ble_eq_true rfl) hd) (zk_22 _ e3) rfl rfl (Nat.le_of_ble_eq_true rfl) dJ3_appendNull_7) ?_
  refine j_aload_n (j := 0) dJ3_appendNull_10 rfl rfl ?_
  replace h := zbE h
  obtain ⟨v6, e7, h⟩ := h
  refine j_getI fgJ3_79 (fun _ _ _ => rfl) dJ3_appendNull_11 e7 ?_
  refine j_istore_n (lv' := [(1, vI v6), (0, vR (some t))]) dJ3_appendNull_14 rfl (Nat.le_of_ble_eq_true rfl) rfl ?_
  refine j_aload_n (j := 1) dJ3_appendNull_15 rfl rfl ?_
  replace h := zbE h
  obtain ⟨r8, e9, h⟩ := h
  refine j_getR fgJ3_15 (fun _ _ _ => rfl) dJ3_appendNull_16 e9 ?_
  refine j_astore_n (lv' := [(2, vR r8), (1, vI v6), (0, vR (some t))]) dJ3_appendNull_19 rfl (Nat.le_of_ble_eq_true rfl) rfl ?_
  refine j_aload_n (j := 2) dJ3_appendNull_20 rfl rfl ?_
  replace h := zkE h
  obtain ⟨e10, h⟩ := h
  replace h := zbE h
  obtain ⟨v12, e11, h⟩ := h
  refine j_cont (zrU (As := []) msJ3_83_J4 (yJ3_isLatin1_ok e11) (Nat.le_trans (Nat.le_of_ble_eq_true rfl) hd) (zk_22 _ e10) rfl rfl (Nat.le_of_ble_eq_true rfl) dJ3_appendNull_21) ?_
  refine j_if_eq (tgt := 62) dJ3_appendNull_24 (by decide) (fun c13 => ?_) (fun c13 => ?_)
  · rw [if_pos c13] at h
    refine j_aload_n (j := 0) dJ3_appendNull_62 rfl rfl ?_
    refine j_iload_n (j := 1) dJ3_appendNull_63 rfl rfl ?_
    refine j_bipush (v := 110) dJ3_appendNull_64 (by decide) ?_
    refine j_bipush (v := 117) dJ3_appendNull_66 (by decide) ?_
    refine j_bipush (v := 108) dJ3_appendNull_68 (by decide) ?_
    refine j_bipush (v := 108) dJ3_appendNull_70 (by decide) ?_
    replace h := zb2E h
    obtain ⟨v15, G16, e14, h⟩ := h
    refine j_cont (zrS (As := [vR r8, vI v6, vI 110, vI 117, vI 108, vI 108]) msJ3_226 (yJ6_putCharsAt_ok e14) (Nat.le_trans (Nat.le_of_ble_eq_true rfl) hd) rfl rfl (Nat.le_of_ble_eq_true rfl) dJ3_appendNull_72) ?_
    refine j_istore_n (lv' := [(1, vI v15), (2, vR r8), (0, vR (some t))]) dJ3_appendNull_75 rfl (Nat.le_of_ble_eq_true rfl) rfl ?_
    exact J.sub (zall [2, 0] rfl) (wfJ3_appendNull_76 hd t v15  G16 h hk)
  · rw [if_neg c13] at h
    refine j_aload_n (j := 0) dJ3_appendNull_27 rfl rfl ?_
    refine j_iload_n (j := 1) dJ3_appendNull_28 rfl rfl ?_
    refine j_iinc (j := 1) (v := (v6 + 1)) (lv' := [(1, vI (v6 + 1)), (2, vR r8), (0, vR (some t))]) dJ3_appendNull_29 rfl rfl (Nat.le_of_ble_eq_true rfl) rfl ?_
    refine j_bipush (v := 110) dJ3_appendNull_32 (by decide) ?_
    replace h := zbE h
    obtain ⟨a17, e18, h⟩ := h
    subst e18
    replace h := zbE h
    obtain ⟨G19, e20, h⟩ := h
    refine j_bast e20 dJ3_appendNull_34 ?_
    refine j_aload_n (j := 1) dJ3_appendNull_35 rfl rfl ?_
    refine j_iload_n (j := 0) dJ3_appendNull_36 rfl rfl ?_
    refine j_iinc (j := 0) (v := ((v6 + 1) + 1)) (lv' := [(1, vI ((v6 + 1) + 1)), (2, vR (some a17)), (0, vR (some t))]) dJ3_appendNull_37 rfl rfl (Nat.le_of_ble_eq_true rfl) rfl ?_
    refine j_bipush (v := 117) dJ3_appendNull_40 (by decide) ?_
    replace h := zbE h
    obtain ⟨G21, e22, h⟩ := h
    refine j_bast e22 dJ3_appendNull_42 ?_
    refine j_aload_n (j := 1) dJ3_appendNull_43 rfl rfl ?_
    refine j_iload_n (j := 0) dJ3_appendNull_44 rfl rfl ?_
    refine j_iinc (j := 0) (v := (((v6 + 1) + 1) + 1)) (lv' := [(1, vI (((v6 + 1) + 1) + 1)), (2, vR (some a17)), (0, vR (some t))]) dJ3_appendNull_45 rfl rfl (Nat.le_of_ble_eq_true rfl) rfl ?_
    refine j_bipush (v := 108) dJ3_appendNull_48 (by decide) ?_
    replace h := zbE h
    obtain ⟨G23, e24, h⟩ := h
    refine j_bast e24 dJ3_appendNull_50 ?_
    refine j_aload_n (j := 1) dJ3_appendNull_51 rfl rfl ?_
    refine j_iload_n (j := 0) dJ3_appendNull_52 rfl rfl ?_
    refine j_iinc (j := 0) (v := ((((v6 + 1) + 1) + 1) + 1)) (lv' := [(1, vI ((((v6 + 1) + 1) + 1) + 1)), (2, vR (some a17)), (0, vR (some t))]) dJ3_appendNull_53 rfl rfl (Nat.le_of_ble_eq_true rfl) rfl ?_
    refine j_bipush (v := 108) dJ3_appendNull_56 (by decide) ?_
    replace h := zbE h
    obtain ⟨G25, e26, h⟩ := h
    refine j_bast e26 dJ3_appendNull_58 ?_
    refine j_goto (tgt := 76) dJ3_appendNull_59 (by decide) ?_
    exact J.sub (zall [2, 0] rfl) (wfJ3_appendNull_76 hd t ((((v6 + 1) + 1) + 1) + 1)  G25 h hk)
theorem yJ3_appendNull_ok {t : Nat} {G : GS} {r : Option Nat} {G1 : GS} (h : fJ3_appendNull_0 t G = some (r, G1)) : zRuns yJ3_appendNull (ws_ yJ3_appendNull cJ3_appendNull 3 (some (Jvm.ClassFile.FieldType.object "java/lang/AbstractStringBuilder"))) [vR (some t)] (.inl (some (vR r)), G, G1, 5) :=
  zentry (M := mJ3_appendNull) (plainFor_of_name (by decide +kernel)) ⟨rfl, rfl, rfl, rfl⟩ (Nat.le_of_ble_eq_true rfl) (wfJ3_appendNull_0 (Nat.le_refl _) t G h ⟨rfl, rfl⟩)
abbrev mJ17_checkFromIndexSize : zM := (cJ17_checkFromIndexSize, RJ17, 4, (some Jvm.ClassFile.FieldType.int), "checkFromIndexSize", [], "(IIILjava/util/function/BiFunction;)I")
def fJ17_checkFromIndexSize_15 (x0 : Int32) (x1 : Int32) (x2 : Int32) (x3 : Option Nat)  (G : GS) : Option (Int32) :=
  none
theorem wfJ17_checkFromIndexSize_15 {F : zF} (hd : 1 ≤ F.2.2.2) (x0 : Int32) (x1 : Int32) (x2 : Int32) (x3 : Option Nat)  (G : GS) {a : Int32} (h : fJ17_checkFromIndexSize_15 x0 x1 x2 x3  G = some a) (hk : zKPI F G a) : J mJ17_checkFromIndexSize F G 15 [(0, vI x0), (1, vI x1), (2, vI x2), (3, vR x3)] [] := by
  unfold fJ17_checkFromIndexSize_15 at h
  refine j_aload_n (j := 3) dJ17_checkFromIndexSize_15 rfl rfl ?_
  refine j_iload_n (j := 0) dJ17_checkFromIndexSize_16 rfl rfl ?_
  refine j_iload_n (j := 1) dJ17_checkFromIndexSize_17 rfl rfl ?_
  refine j_iload_n (j := 2) dJ17_checkFromIndexSize_18 rfl rfl ?_
  cases h
def fJ17_checkFromIndexSize_0 (x0 : Int32) (x1 : Int32) (x2 : Int32) (x3 : Option Nat)  (G : GS) : Option (Int32) :=
  if ((x2 ||| x0) ||| x1) < 0 then (fJ17_checkFromIndexSize_15 x0 x1 x2 x3 G) else (if x1 ≤ (x2 - x0) then (some x0) else (fJ17_checkFromIndexSize_15 x0 x1 x2 x3 G))
theorem wfJ17_checkFromIndexSize_0 {F : zF} (hd : 1 ≤ F.2.2.2) (x0 : Int32) (x1 : Int32) (x2 : Int32) (x3 : Option Nat)  (G : GS) {a : Int32} (h : fJ17_checkFromIndexSize_0 x0 x1 x2 x3  G = some a) (hk : zKPI F G a) : J mJ17_checkFromIndexSize F G 0 [(0, vI x0), (1, vI x1), (2, vI x2), (3, vR x3)] [] := by
  unfold fJ17_checkFromIndexSize_0 at h
  refine j_iload_n (j := 2) dJ17_checkFromIndexSize_0 rfl rfl ?_
  refine j_iload_n (j := 0) dJ17_checkFromIndexSize_1 rfl rfl ?_
  refine j_ior dJ17_checkFromIndexSize_2 ?_
  refine j_iload_n (j := 1) dJ17_checkFromIndexSize_3 rfl rfl ?_
  refine j_ior dJ17_checkFromIndexSize_4 ?_
  refine j_if_lt (tgt := 15) dJ17_checkFromIndexSize_5 (by decide) (fun c1 => ?_) (fun c1 => ?_)
  · rw [if_pos c1] at h
    exact J.sub (zall [0, 1, 2, 3] rfl) (wfJ17_checkFromIndexSize_15 hd x0 x1 x2 x3  G h hk)
  · rw [if_neg c1] at h
    refine j_iload_n (j := 1) dJ17_checkFromIndexSize_8 rfl rfl ?_
    refine j_iload_n (j := 2) dJ17_checkFromIndexSize_9 rfl rfl ?_
    refine j_iload_n (j := 0) dJ17_checkFromIndexSize_10 rfl rfl ?_
    refine j_isub dJ17_checkFromIndexSize_11 ?_
    refine j_icmp_le (tgt := 23) dJ17_checkFromIndexSize_12 (by decide) (fun c2 => ?_) (fun c2 => ?_)
    · rw [if_pos c2] at h
      refine j_iload_n (j := 0) dJ17_checkFromIndexSize_23 rfl rfl ?_
      obtain rfl := Option.some.inj h
      exact j_iret hk.1 hk.2 rfl dJ17_checkFromIndexSize_24
    · rw [if_neg c2] at h
      exact J.sub (zall [0, 1, 2, 3] rfl) (wfJ17_checkFromIndexSize_15 hd x0 x1 x2 x3  G h hk)
theorem yJ17_checkFromIndexSize_ok {x0 : Int32} {x1 : Int32} {x2 : Int32} {x3 : Option Nat} {G : GS} {r : Int32} (h : fJ17_checkFromIndexSize_0 x0 x1 x2 x3 G = some r) : zRuns yJ17_checkFromIndexSize (ws_ yJ17_checkFromIndexSize cJ17_checkFromIndexSize 4 (some Jvm.ClassFile.FieldType.int)) [vI x0, vI x1, vI x2, vR x3] (.inl (some (vI r)), G, G, 1) :=
  zentry (M := mJ17_checkFromIndexSize) (plainFor_of_name (by decide +kernel)) ⟨rfl, rfl, rfl, rfl⟩ (Nat.le_of_ble_eq_true rfl) (wfJ17_checkFromIndexSize_0 (Nat.le_refl _) x0 x1 x2 x3 G h ⟨rfl, rfl⟩)
theorem msJ5_1065 : zSS RJ5 1065 yJ17_checkFromIndexSize cJ17_checkFromIndexSize 4 (some Jvm.ClassFile.FieldType.int) 4 := ⟨lw_S q2096 q2097 q144 q2098, (by decide +kernel), (by decide)⟩
abbrev mJ5_checkBoundsOffCount : zM := (cJ5_checkBoundsOffCount, RJ5, 3, (some Jvm.ClassFile.FieldType.int), "checkBoundsOffCount", [], "(III)I")
def fJ5_checkBoundsOffCount_0 (x0 : Int32) (x1 : Int32) (x2 : Int32)  (G : GS) : Option (Int32) :=
  (fJ17_checkFromIndexSize_0 x0 x1 x2 (some (gS G 4)) G).bind fun v2 => some v2
theorem wfJ5_checkBoundsOffCount_0 {F : zF} (hd : 2 ≤ F.2.2.2) (x0 : Int32) (x1 : Int32) (x2 : Int32)  (G : GS) {a : Int32} (h : fJ5_checkBoundsOffCount_0 x0 x1 x2  G = some a) (hk : zKPI F G a) : J mJ5_checkBoundsOffCount F G 0 [(0, vI x0), (1, vI x1), (2, vI x2)] [] := by
  unfold fJ5_checkBoundsOffCount_0 at h
  refine j_iload_n (j := 0) dJ5_checkBoundsOffCount_0 rfl rfl ?_
  refine j_iload_n (j := 1) dJ5_checkBoundsOffCount_1 rfl rfl ?_
  refine j_iload_n (j := 2) dJ5_checkBoundsOffCount_2 rfl rfl ?_
  refine j_gets (i := 4) (x := vR (some (gS G 4))) rfl rfl q958 dJ5_checkBoundsOffCount_3 ?_
  replace h := zbE h
  obtain ⟨v2, e1, h⟩ := h
  refine j_cont (zrS (As := [vI x0, vI x1, vI x2, vR (some (gS G 4))]) msJ5_1065 (yJ17_checkFromIndexSize_ok e1) (Nat.le_trans (Nat.le_of_ble_eq_true rfl) hd) rfl rfl (Nat.le_of_ble_eq_true rfl) dJ5_checkBoundsOffCount_6) ?_
  obtain rfl := Option.some.inj h
  exact j_iret hk.1 hk.2 rfl dJ5_checkBoundsOffCount_9
theorem yJ5_checkBoundsOffCount_ok {x0 : Int32} {x1 : Int32} {x2 : Int32} {G : GS} {r : Int32} (h : fJ5_checkBoundsOffCount_0 x0 x1 x2 G = some r) : zRuns yJ5_checkBoundsOffCount (ws_ yJ5_checkBoundsOffCount cJ5_checkBoundsOffCount 3 (some Jvm.ClassFile.FieldType.int)) [vI x0, vI x1, vI x2] (.inl (some (vI r)), G, G, 2) :=
  zentry (M := mJ5_checkBoundsOffCount) (plainFor_of_name (by decide +kernel)) ⟨rfl, rfl, rfl, rfl⟩ (Nat.le_of_ble_eq_true rfl) (wfJ5_checkBoundsOffCount_0 (Nat.le_refl _) x0 x1 x2 G h ⟨rfl, rfl⟩)
theorem msJ6_419 : zSS RJ6 419 yJ5_checkBoundsOffCount cJ5_checkBoundsOffCount 3 (some Jvm.ClassFile.FieldType.int) 3 := ⟨lw_S q2093 q2094 q129 q2095, (by decide +kernel), (by decide)⟩
abbrev mJ6_checkBoundsOffCount : zM := (cJ6_checkBoundsOffCount, RJ6, 3, none, "checkBoundsOffCount", [], "(II[B)V")
def fJ6_checkBoundsOffCount_0 (x0 : Int32) (x1 : Int32) (x2 : Option Nat)  (G : GS) : Option (GS) :=
  (fJ6_length_0 x2 G).bind fun v2 => (fJ5_checkBoundsOffCount_0 x0 x1 v2 G).bind fun v4 => some G
theorem wfJ6_checkBoundsOffCount_0 {F : zF} (hd : 3 ≤ F.2.2.2) (x0 : Int32) (x1 : Int32) (x2 : Option Nat)  (G : GS) {a : GS} (h : fJ6_checkBoundsOffCount_0 x0 x1 x2  G = some a) (hk : zKV F a) : J mJ6_checkBoundsOffCount F G 0 [(0, vI x0), (1, vI x1), (2, vR x2)] [] := by
  unfold fJ6_checkBoundsOffCount_0 at h
  refine j_iload_n (j := 0) dJ6_checkBoundsOffCount_0 rfl rfl ?_
  refine j_iload_n (j := 1) dJ6_checkBoundsOffCount_1 rfl rfl ?_
  refine j_aload_n (j := 2) dJ6_checkBoundsOffCount_2 rfl rfl ?_
  replace h := zbE h
  obtain ⟨v2, e1, h⟩ := h
  refine j_cont (zrS (As := [vR x2]) msJ6_48 (yJ6_length_ok e1) (Nat.le_trans (Nat.le_of_ble_eq_true rfl) hd) rfl rfl (Nat.le_of_ble_eq_true rfl) dJ6_checkBoundsOffCount_3) ?_
  replace h := zbE h
  obtain ⟨v4, e3, h⟩ := h
  refine j_cont (zrS (As := [vI x0, vI x1, vI v2]) msJ6_419 (yJ5_checkBoundsOffCount_ok e3) (Nat.le_trans (Nat.le_of_ble_eq_true rfl) hd) rfl rfl (Nat.le_of_ble_eq_true rfl) dJ6_checkBoundsOffCount_6) ?_
  refine j_pop dJ6_checkBoundsOffCount_9 rfl ?_
  obtain rfl := Option.some.inj h
  exact j_vret hk.1 hk.2 rfl dJ6_checkBoundsOffCount_10
theorem yJ6_checkBoundsOffCount_ok {x0 : Int32} {x1 : Int32} {x2 : Option Nat} {G : GS} {G1 : GS} (h : fJ6_checkBoundsOffCount_0 x0 x1 x2 G = some G1) : zRuns yJ6_checkBoundsOffCount (ws_ yJ6_checkBoundsOffCount cJ6_checkBoundsOffCount 3 none) [vI x0, vI x1, vR x2] (.inl none, G, G1, 3) :=
  zentry (M := mJ6_checkBoundsOffCount) (plainFor_of_name (by decide +kernel)) ⟨rfl, rfl, rfl, rfl⟩ (Nat.le_of_ble_eq_true rfl) (wfJ6_checkBoundsOffCount_0 (Nat.le_refl _) x0 x1 x2 G h ⟨rfl, rfl⟩)
theorem msJ6_173 : zSS RJ6 173 yJ6_checkBoundsOffCount cJ6_checkBoundsOffCount 3 none 3 := ⟨lw_S q2090 q2091 q130 q2092, (by decide +kernel), (by decide)⟩
abbrev mJ6_inflate : zM := (cJ6_inflate, RJ6, 6, none, "inflate", [], "([BI[BII)V")
def fbJ6_inflate_10 (x0 : Option Nat) (x1 : Int32) (x2 : Option Nat) (x3 : Int32) (x4 : Int32) (x5 : Int32)  (G : GS) : Option ((Int32 × Int32 × Int32 × GS) ⊕ (GS)) :=
  if x4 ≤ x5 then (zo (some G)) else (x0.bind fun a2 => (zaI G 53 a2 x1).bind fun v4 => (fJ6_putChar_0 x2 x3 (v4 &&& 255) G).bind fun G7 => some (.inl ((x1 + 1), (x3 + 1), (x5 + 1), G7)))
def flJ6_inflate_10 (x0 : Option Nat) (x1 : Int32) (x2 : Option Nat) (x3 : Int32) (x4 : Int32) (x5 : Int32) (G : GS) : Option (GS) := zloop (fun s : Int32 × Int32 × Int32 × GS => fbJ6_inflate_10 x0 s.1 x2 s.2.1 x4 s.2.2.1 s.2.2.2) (x1, x3, x5, G)
theorem wfbJ6_inflate_10 {F : zF} (hd : 4 ≤ F.2.2.2) (x0 : Option Nat) (x1 : Int32) (x2 : Option Nat) (x3 : Int32) (x4 : Int32) (x5 : Int32) (G : GS) {a : (Int32 × Int32 × Int32 × GS) ⊕ (GS)} (h : fbJ6_inflate_10 x0 x1 x2 x3 x4 x5 G = some a) (hk : (zcase (fun s : Int32 × Int32 × Int32 × GS => J mJ6_inflate F s.2.2.2 10 [(0, vR x0), (1, vI s.1), (2, vR x2), (3, vI s.2.1), (4, vI x4), (5, vI s.2.2.1)] []) (zKV F)) a) : J mJ6_inflate F G 10 [(0, vR x0), (1, vI x1), (2, vR x2), (3, vI x3), (4, vI x4), (5, vI x5)] [] := by
  unfold fbJ6_inflate_10 at h
  refine j_iload (j := 5) dJ6_inflate_10 rfl ?_
  refine j_iload (j := 4) dJ6_inflate_12 rfl ?_
  refine j_icmp_ge (tgt := 41) dJ6_inflate_14 (by decide) (fun c1 => ?_) (fun c1 => ?_)
  · rw [if_pos c1] at h
    replace h := zoE h
    obtain ⟨a, h, rfl⟩ := h
    replace hk := hk
    obtain rfl := Option.some.inj h
    exact j_vret hk.1 hk.2 rfl dJ6_inflate_41
  · rw [if_neg c1] at h
    refine j_aload_n (j := 2) dJ6_inflate_17 rfl rfl ?_
    refine j_iload_n (j := 3) dJ6_inflate_18 rfl rfl ?_
    refine j_iinc (j := 3) (v := (x3 + 1)) (lv' := [(3, vI (x3 + 1)), (0, vR x0), (1, vI x1), (2, vR x2), (4, vI x4), (5, vI x5)]) dJ6_inflate_19 rfl rfl (Nat.le_of_ble_eq_true rfl) rfl ?_
    refine j_aload_n (j := 1) dJ6_inflate_22 rfl rfl ?_
    refine j_iload_n (j := 2) dJ6_inflate_23 rfl rfl ?_
    refine j_iinc (j := 2) (v := (x1 + 1)) (lv' := [(1, vI (x1 + 1)), (3, vI (x3 + 1)), (0, vR x0), (2, vR x2), (4, vI x4), (5, vI x5)]) dJ6_inflate_24 rfl rfl (Nat.le_of_ble_eq_true rfl) rfl ?_
    replace h := zbE h
    obtain ⟨a2, e3, h⟩ := h
    subst e3
    replace h := zbE h
    obtain ⟨v4, e5, h⟩ := h
    refine j_bald rfl e5 dJ6_inflate_27 ?_
    refine j_sipush (v := 255) dJ6_inflate_28 (by decide) ?_
    refine j_iand dJ6_inflate_31 ?_
    replace h := zbE h
    obtain ⟨G7, e6, h⟩ := h
    refine j_cont (zrS (As := [vR x2, vI x3, vI (v4 &&& 255)]) msJ6_111 (yJ6_putChar_ok e6) (Nat.le_trans (Nat.le_of_ble_eq_true rfl) hd) rfl rfl (Nat.le_of_ble_eq_true rfl) dJ6_inflate_32) ?_
    refine j_iinc (j := 5) (v := (x5 + 1)) (lv' := [(5, vI (x5 + 1)), (1, vI (x1 + 1)), (3, vI (x3 + 1)), (0, vR (some a2)), (2, vR x2), (4, vI x4)]) dJ6_inflate_35 rfl rfl (Nat.le_of_ble_eq_true rfl) rfl ?_
    refine j_goto (tgt := 10) dJ6_inflate_38 (by decide) ?_
    obtain rfl := Option.some.inj h
    exact J.sub (zall [3, 1, 4, 2, 5, 0] rfl) hk
theorem wflJ6_inflate_10 {F : zF} (hd : 4 ≤ F.2.2.2) (x0 : Option Nat) (x1 : Int32) (x2 : Option Nat) (x3 : Int32) (x4 : Int32) (x5 : Int32) (G : GS) {a : GS} (h : flJ6_inflate_10 x0 x1 x2 x3 x4 x5 G = some a) (hk : zKV F a) : J mJ6_inflate F G 10 [(0, vR x0), (1, vI x1), (2, vR x2), (3, vI x3), (4, vI x4), (5, vI x5)] [] := by
  unfold flJ6_inflate_10 at h
  exact zloop_walk (P := (fun s : Int32 × Int32 × Int32 × GS => J mJ6_inflate F s.2.2.2 10 [(0, vR x0), (1, vI s.1), (2, vR x2), (3, vI s.2.1), (4, vI x4), (5, vI s.2.2.1)] [])) (fun s b e hk => wfbJ6_inflate_10 hd x0 s.1 x2 s.2.1 x4 s.2.2.1 s.2.2.2 e hk) (x1, x3, x5, G) _ h hk
def fJ6_inflate_0 (x0 : Option Nat) (x1 : Int32) (x2 : Option Nat) (x3 : Int32) (x4 : Int32)  (G : GS) : Option (GS) :=
  (fJ6_checkBoundsOffCount_0 x3 x4 x2 G).bind fun G2 => flJ6_inflate_10 x0 x1 x2 x3 x4 0 G2
theorem wfJ6_inflate_0 {F : zF} (hd : 4 ≤ F.2.2.2) (x0 : Option Nat) (x1 : Int32) (x2 : Option Nat) (x3 : Int32) (x4 : Int32)  (G : GS) {a : GS} (h : fJ6_inflate_0 x0 x1 x2 x3 x4  G = some a) (hk : zKV F a) : J mJ6_inflate F G 0 [(0, vR x0), (1, vI x1), (2, vR x2), (3, vI x3), (4, vI x4)] [] := by
  unfold fJ6_inflate_0 at h
  refine j_iload_n (j := 3) dJ6_inflate_0 rfl rfl ?_
  refine j_iload (j := 4) dJ6_inflate_1 rfl ?_
  refine j_aload_n (j := 2) dJ6_inflate_3 rfl rfl ?_
  replace h := zbE h
  obtain ⟨G2, e1, h⟩ := h
  refine j_cont (zrS (As := [vI x3, vI x4, vR x2]) msJ6_173 (yJ6_checkBoundsOffCount_ok e1) (Nat.le_trans (Nat.le_of_ble_eq_true rfl) hd) rfl rfl (Nat.le_of_ble_eq_true rfl) dJ6_inflate_4) ?_
  refine j_iconst (v := 0) dJ6_inflate_7 (by decide) ?_
  refine j_istore (lv' := [(5, vI 0), (0, vR x0), (1, vI x1), (2, vR x2), (3, vI x3), (4, vI x4)]) dJ6_inflate_8 (Nat.le_of_ble_eq_true rfl) rfl ?_
  exact J.sub (zall [1, 2, 3, 4, 5, 0] rfl) (wflJ6_inflate_10 hd x0 x1 x2 x3 x4 0  G2 h hk)
theorem yJ6_inflate_ok {x0 : Option Nat} {x1 : Int32} {x2 : Option Nat} {x3 : Int32} {x4 : Int32} {G : GS} {G1 : GS} (h : fJ6_inflate_0 x0 x1 x2 x3 x4 G = some G1) : zRuns yJ6_inflate (ws_ yJ6_inflate cJ6_inflate 6 none) [vR x0, vI x1, vR x2, vI x3, vI x4] (.inl none, G, G1, 4) :=
  zentry (M := mJ6_inflate) (plainFor_of_name (by decide +kernel)) ⟨rfl, rfl, rfl, rfl⟩ (Nat.le_of_ble_eq_true rfl) (wfJ6_inflate_0 (Nat.le_refl _) x0 x1 x2 x3 x4 G h ⟨rfl, rfl⟩)
theorem msJ29_240 : zSS RJ29 240 yJ6_inflate cJ6_inflate 6 none 5 := ⟨lw_S q2087 q2088 q130 q2089, (by decide +kernel), (by decide)⟩
abbrev mJ29_inflate : zM := (cJ29_inflate, RJ29, 5, none, "inflate", [], "([BI[BII)V")
def fJ29_inflate_0 (x0 : Option Nat) (x1 : Int32) (x2 : Option Nat) (x3 : Int32) (x4 : Int32)  (G : GS) : Option (GS) :=
  (fJ6_inflate_0 x0 x1 x2 x3 x4 G).bind fun G2 => some G2
theorem wfJ29_inflate_0 {F : zF} (hd : 5 ≤ F.2.2.2) (x0 : Option Nat) (x1 : Int32) (x2 : Option Nat) (x3 : Int32) (x4 : Int32)  (G : GS) {a : GS} (h : fJ29_inflate_0 x0 x1 x2 x3 x4  G = some a) (hk : zKV F a) : J mJ29_inflate F G 0 [(0, vR x0), (1, vI x1), (2, vR x2), (3, vI x3), (4, vI x4)] [] := by
  unfold fJ29_inflate_0 at h
  refine j_aload_n (j := 0) dJ29_inflate_0 rfl rfl ?_
  refine j_iload_n (j := 1) dJ29_inflate_1 rfl rfl ?_
  refine j_aload_n (j := 2) dJ29_inflate_2 rfl rfl ?_
  refine j_iload_n (j := 3) dJ29_inflate_3 rfl rfl ?_
  refine j_iload (j := 4) dJ29_inflate_4 rfl ?_
  replace h := zbE h
  obtain ⟨G2, e1, h⟩ := h
  refine j_cont (zrS (As := [vR x0, vI x1, vR x2, vI x3, vI x4]) msJ29_240 (yJ6_inflate_ok e1) (Nat.le_trans (Nat.le_of_ble_eq_true rfl) hd) rfl rfl (Nat.le_of_ble_eq_true rfl) dJ29_inflate_6) ?_
  obtain rfl := Option.some.inj h
  exact j_vret hk.1 hk.2 rfl dJ29_inflate_9
theorem yJ29_inflate_ok {x0 : Option Nat} {x1 : Int32} {x2 : Option Nat} {x3 : Int32} {x4 : Int32} {G : GS} {G1 : GS} (h : fJ29_inflate_0 x0 x1 x2 x3 x4 G = some G1) : zRuns yJ29_inflate (ws_ yJ29_inflate cJ29_inflate 5 none) [vR x0, vI x1, vR x2, vI x3, vI x4] (.inl none, G, G1, 5) :=
  zentry (M := mJ29_inflate) (plainFor_of_name (by decide +kernel)) ⟨rfl, rfl, rfl, rfl⟩ (Nat.le_of_ble_eq_true rfl) (wfJ29_inflate_0 (Nat.le_refl _) x0 x1 x2 x3 x4 G h ⟨rfl, rfl⟩)
theorem msJ3_125 : zSS RJ3 125 yJ29_inflate cJ29_inflate 5 none 5 := ⟨lw_S q2084 q2085 q160 q2086, (by decide +kernel), (by decide)⟩
abbrev mJ3_inflate : zM := (cJ3_inflate, RJ3, 2, none, "inflate", [], "()V")
def fJ3_inflate_0 (t : Nat)  (G : GS) : Option (GS) :=
  zk [22] G t <| (fJ3_isLatin1_0 t G).bind fun v3 => if v3 = 0 then (some G) else ((zgR G 22 t 0).bind fun r5 => r5.bind fun a7 => (zln G a7).bind fun v9 => zb2 (fJ6_newBytesFor_0 v9 G) fun r12 G13 => (zgR G13 22 t 0).bind fun r14 => (zgI G13 22 t 3).bind fun v16 => (fJ29_inflate_0 r14 0 r12 0 v16 G13).bind fun G19 => (zpR G19 22 t 0 r12).bind fun G20 => (zpB G20 22 t 1 1).bind fun G22 => some G22)
theorem wfJ3_inflate_0 {F : zF} (hd : 6 ≤ F.2.2.2) (t : Nat)  (G : GS) {a : GS} (h : fJ3_inflate_0 t  G = some a) (hk : zKV F a) : J mJ3_inflate F G 0 [(0, vR (some t))] [] := by
  unfold fJ3_inflate_0 at h
  refine j_aload_n (j := 0) dJ3_inflate_0 rfl rfl ?_
  replace h := zkE h
  obtain ⟨e1, h⟩ := h
  replace h := zbE h
  obtain ⟨v3, e2, h⟩ := h
  refine j_cont (zrU (As := []) msJ3_83_J4 (yJ3_isLatin1_ok e2) (Nat.le_trans (Nat.le_of_ble_eq_true rfl) hd) (zk_22 _ e1) rfl rfl (Nat.le_of_ble_eq_true rfl) dJ3_inflate_1) ?_
  refine j_if_ne (tgt := 8) dJ3_inflate_4 (by decide) (fun c4 => ?_) (fun c4 => ?_)
  · rw [if_pos c4] at h
    obtain rfl := Option.some.inj h
    exact j_vret hk.1 hk.2 rfl dJ3_inflate_7
  · rw [if_neg c4] at h
    refine j_aload_n (j := 0) dJ3_inflate_8 rfl rfl ?_
    replace h := zbE h
    obtain ⟨r5, e6, h⟩ := h
    refine j_getR fgJ3_15 (fun _ _ _ => rfl) dJ3_inflate_9 e6 ?_
    replace h := zbE h
    obtain ⟨a7, e8, h⟩ := h
    subst e8
    replace h := zbE h
    obtain ⟨v9, e10, h⟩ := h
    refine j_alen e10 dJ3_inflate_12 ?_
    replace h := zb2E h
    obtain ⟨r12, G13, e11, h⟩ := h
    refine j_cont (zrS (As := [vI v9]) msJ3_26 (yJ6_newBytesFor_ok e11) (Nat.le_trans (Nat.le_of_ble_eq_true rfl) hd) rfl rfl (Nat.le_of_ble_eq_true rfl) dJ3_inflate_13) ?_
    refine j_astore_n (lv' := [(1, vR r12), (0, vR (some t))]) dJ3_inflate_16 rfl (Nat.le_of_ble_eq_true rfl) rfl ?_
    refine j_aload_n (j := 1) dJ3_inflate_17 rfl rfl ?_
    replace h := zbE h
    obtain ⟨r14, e15, h⟩ := h
    refine j_getR fgJ3_15 (fun _ _ _ => rfl) dJ3_inflate_18 e15 ?_
    refine j_iconst (v := 0) dJ3_inflate_21 (by decide) ?_
    refine j_aload_n (j := 0) dJ3_inflate_22 rfl rfl ?_
    refine j_iconst (v := 0) dJ3_inflate_23 (by decide) ?_
    refine j_aload_n (j := 1) dJ3_inflate_24 rfl rfl ?_
    replace h := zbE h
    obtain ⟨v16, e17, h⟩ := h
    refine j_getI fgJ3_79 (fun _ _ _ => rfl) dJ3_inflate_25 e17 ?_
    replace h := zbE h
    obtain ⟨G19, e18, h⟩ := h
    refine j_cont (zrS (As := [vR r14, vI 0, vR r12, vI 0, vI v16]) msJ3_125 (yJ29_inflate_ok e18) (Nat.le_trans (Nat.le_of_ble_eq_true rfl) hd) rfl rfl (Nat.le_of_ble_eq_true rfl) dJ3_inflate_28) ?_
    refine j_aload_n (j := 1) dJ3_inflate_31 rfl rfl ?_
    refine j_aload_n (j := 0) dJ3_inflate_32 rfl rfl ?_
    replace h := zbE h
    obtain ⟨G20, e21, h⟩ := h
    refine j_putR fpJ3_15_J4 (Or.inl rfl) (Or.inr ⟨_, rfl⟩) dJ3_inflate_33 e21 ?_
    refine j_aload_n (j := 1) dJ3_inflate_36 rfl rfl ?_
    refine j_iconst (v := 1) dJ3_inflate_37 (by decide) ?_
    replace h := zbE h
    obtain ⟨G22, e23, h⟩ := h
    refine j_putB fpJ3_22_J4 (Or.inl rfl) rfl dJ3_inflate_38 e23 ?_
    obtain rfl := Option.some.inj h
    exact j_vret hk.1 hk.2 rfl dJ3_inflate_41
theorem yJ3_inflate_ok {t : Nat} {G : GS} {G1 : GS} (h : fJ3_inflate_0 t G = some G1) : zRuns yJ3_inflate (ws_ yJ3_inflate cJ3_inflate 2 none) [vR (some t)] (.inl none, G, G1, 6) :=
  zentry (M := mJ3_inflate) (plainFor_of_name (by decide +kernel)) ⟨rfl, rfl, rfl, rfl⟩ (Nat.le_of_ble_eq_true rfl) (wfJ3_inflate_0 (Nat.le_refl _) t G h ⟨rfl, rfl⟩)
abbrev mJ3_inflateIfNeededFor : zM := (cJ3_inflateIfNeededFor, RJ3, 2, none, "inflateIfNeededFor", [], "(Ljava/lang/String;)V")
def fJ3_inflateIfNeededFor_0 (t : Nat) (x1 : Option Nat)  (G : GS) : Option (GS) :=
  if (1 : Int32) = 0 then (some G) else ((zgI G 22 t 1).bind fun v2 => none)
theorem wfJ3_inflateIfNeededFor_0 {F : zF} (hd : 7 ≤ F.2.2.2) (t : Nat) (x1 : Option Nat)  (G : GS) {a : GS} (h : fJ3_inflateIfNeededFor_0 t x1  G = some a) (hk : zKV F a) : J mJ3_inflateIfNeededFor F G 0 [(0, vR (some t)), (1, vR x1)] [] := by
  unfold fJ3_inflateIfNeededFor_0 at h
  refine j_gets (i := 6) (x := vI 1) rfl rfl q221 dJ3_inflateIfNeededFor_0 ?_
  refine j_if_eq (tgt := 21) dJ3_inflateIfNeededFor_3 (by decide) (fun c1 => ?_) (fun c1 => ?_)
  · rw [if_pos c1] at h
    obtain rfl := Option.some.inj h
    exact j_vret hk.1 hk.2 rfl dJ3_inflateIfNeededFor_21
  · rw [if_neg c1] at h
    refine j_aload_n (j := 0) dJ3_inflateIfNeededFor_6 rfl rfl ?_
    replace h := zbE h
    obtain ⟨v2, e3, h⟩ := h
    refine j_getI fgJ3_22 (fun _ _ _ => rfl) dJ3_inflateIfNeededFor_7 e3 ?_
    refine j_aload_n (j := 1) dJ3_inflateIfNeededFor_10 rfl rfl ?_
    cases h
theorem yJ3_inflateIfNeededFor_ok {t : Nat} {x1 : Option Nat} {G : GS} {G1 : GS} (h : fJ3_inflateIfNeededFor_0 t x1 G = some G1) : zRuns yJ3_inflateIfNeededFor (ws_ yJ3_inflateIfNeededFor cJ3_inflateIfNeededFor 2 none) [vR (some t), vR x1] (.inl none, G, G1, 7) :=
  zentry (M := mJ3_inflateIfNeededFor) (plainFor_of_name (by decide +kernel)) ⟨rfl, rfl, rfl, rfl⟩ (Nat.le_of_ble_eq_true rfl) (wfJ3_inflateIfNeededFor_0 (Nat.le_refl _) t x1 G h ⟨rfl, rfl⟩)
abbrev mJ5_getBytes : zM := (cJ5_getBytes, RJ5, 4, none, "getBytes", [], "([BIB)V")
def fJ5_getBytes_0 (t : Nat) (x1 : Option Nat) (x2 : Int32) (x3 : Int32)  (G : GS) : Option (GS) :=
  none
theorem wfJ5_getBytes_0 {F : zF} (hd : 6 ≤ F.2.2.2) (t : Nat) (x1 : Option Nat) (x2 : Int32) (x3 : Int32)  (G : GS) {a : GS} (h : fJ5_getBytes_0 t x1 x2 x3  G = some a) (hk : zKV F a) : J mJ5_getBytes F G 0 [(0, vR (some t)), (1, vR x1), (2, vI x2), (3, vI x3)] [] := by
  unfold fJ5_getBytes_0 at h
  refine j_aload_n (j := 0) dJ5_getBytes_0 rfl rfl ?_
  cases h
theorem yJ5_getBytes_ok {t : Nat} {x1 : Option Nat} {x2 : Int32} {x3 : Int32} {G : GS} {G1 : GS} (h : fJ5_getBytes_0 t x1 x2 x3 G = some G1) : zRuns yJ5_getBytes (ws_ yJ5_getBytes cJ5_getBytes 4 none) [vR (some t), vR x1, vI x2, vI x3] (.inl none, G, G1, 6) :=
  zentry (M := mJ5_getBytes) (plainFor_of_name (by decide +kernel)) ⟨rfl, rfl, rfl, rfl⟩ (Nat.le_of_ble_eq_true rfl) (wfJ5_getBytes_0 (Nat.le_refl _) t x1 x2 x3 G h ⟨rfl, rfl⟩)
abbrev mJ3_putStringAt : zM := (cJ3_putStringAt, RJ3, 3, none, "putStringAt", [], "(ILjava/lang/String;)V")
def fJ3_putStringAt_0 (t : Nat) (x1 : Int32) (x2 : Option Nat)  (G : GS) : Option (GS) :=
  none
theorem wfJ3_putStringAt_0 {F : zF} (hd : 8 ≤ F.2.2.2) (t : Nat) (x1 : Int32) (x2 : Option Nat)  (G : GS) {a : GS} (h : fJ3_putStringAt_0 t x1 x2  G = some a) (hk : zKV F a) : J mJ3_putStringAt F G 0 [(0, vR (some t)), (1, vI x1), (2, vR x2)] [] := by
  unfold fJ3_putStringAt_0 at h
  refine j_aload_n (j := 0) dJ3_putStringAt_0 rfl rfl ?_
  refine j_aload_n (j := 2) dJ3_putStringAt_1 rfl rfl ?_
  cases h
theorem yJ3_putStringAt_ok {t : Nat} {x1 : Int32} {x2 : Option Nat} {G : GS} {G1 : GS} (h : fJ3_putStringAt_0 t x1 x2 G = some G1) : zRuns yJ3_putStringAt (ws_ yJ3_putStringAt cJ3_putStringAt 3 none) [vR (some t), vI x1, vR x2] (.inl none, G, G1, 8) :=
  zentry (M := mJ3_putStringAt) (plainFor_of_name (by decide +kernel)) ⟨rfl, rfl, rfl, rfl⟩ (Nat.le_of_ble_eq_true rfl) (wfJ3_putStringAt_0 (Nat.le_refl _) t x1 x2 G h ⟨rfl, rfl⟩)
abbrev mJ3_append_2 : zM := (cJ3_append_2, RJ3, 3, (some (Jvm.ClassFile.FieldType.object "java/lang/AbstractStringBuilder")), "append", [], "(Ljava/lang/String;)Ljava/lang/AbstractStringBuilder;")
def fJ3_append_2_0 (t : Nat) (x1 : Option Nat)  (G : GS) : Option ((Option Nat) × GS) :=
  zopt x1 none (fun a1 => none)
theorem wfJ3_append_2_0 {F : zF} (hd : 9 ≤ F.2.2.2) (t : Nat) (x1 : Option Nat)  (G : GS) {a : (Option Nat) × GS} (h : fJ3_append_2_0 t x1  G = some a) (hk : zKR F a) : J mJ3_append_2 F G 0 [(0, vR (some t)), (1, vR x1)] [] := by
  unfold fJ3_append_2_0 at h
  refine j_aload_n (j := 1) dJ3_append_2_0 rfl rfl ?_
  rcases x1 with _ | a1
  · replace h := zopt_n h
    refine j_ifnonnull0 dJ3_append_2_1 ?_
    refine j_aload_n (j := 0) dJ3_append_2_4 rfl rfl ?_
    cases h
  · replace h := zopt_s h
    refine j_ifnonnull1 (tgt := 9) dJ3_append_2_1 (by decide) ?_
    refine j_aload_n (j := 1) dJ3_append_2_9 rfl rfl ?_
    cases h
theorem yJ3_append_2_ok {t : Nat} {x1 : Option Nat} {G : GS} {r : Option Nat} {G1 : GS} (h : fJ3_append_2_0 t x1 G = some (r, G1)) : zRuns yJ3_append_2 (ws_ yJ3_append_2 cJ3_append_2 3 (some (Jvm.ClassFile.FieldType.object "java/lang/AbstractStringBuilder"))) [vR (some t), vR x1] (.inl (some (vR r)), G, G1, 9) :=
  zentry (M := mJ3_append_2) (plainFor_of_name (by decide +kernel)) ⟨rfl, rfl, rfl, rfl⟩ (Nat.le_of_ble_eq_true rfl) (wfJ3_append_2_0 (Nat.le_refl _) t x1 G h ⟨rfl, rfl⟩)
theorem msJ4_29 : zSP RJ4 29 yJ3_append_2 cJ3_append_2 3 (some (Jvm.ClassFile.FieldType.object "java/lang/AbstractStringBuilder")) 1 := ⟨lw_SP q2057 q3282 q243 q2058 q127 q2059, (by decide +kernel), (by decide)⟩
abbrev mJ4_append_2 : zM := (cJ4_append_2, RJ4, 2, (some (Jvm.ClassFile.FieldType.object "java/lang/StringBuilder")), "append", [], "(Ljava/lang/String;)Ljava/lang/StringBuilder;")
def fJ4_append_2_0 (t : Nat) (x1 : Option Nat)  (G : GS) : Option ((Option Nat) × GS) :=
  zk [22] G t <| zb2 (fJ3_append_2_0 t x1 G) fun r3 G4 => some ((some t), G4)
theorem wfJ4_append_2_0 {F : zF} (hd : 10 ≤ F.2.2.2) (t : Nat) (x1 : Option Nat)  (G : GS) {a : (Option Nat) × GS} (h : fJ4_append_2_0 t x1  G = some a) (hk : zKR F a) : J mJ4_append_2 F G 0 [(0, vR (some t)), (1, vR x1)] [] := by
  unfold fJ4_append_2_0 at h
  refine j_aload_n (j := 0) dJ4_append_2_0 rfl rfl ?_
  refine j_aload_n (j := 1) dJ4_append_2_1 rfl rfl ?_
  replace h := zkE h
  obtain ⟨e1, h⟩ := h
  replace h := zb2E h
  obtain ⟨r3, G4, e2, h⟩ := h
  refine j_cont (zrSP (As := [vR x1]) msJ4_29 ⟨21, _, rfl, rfl⟩ (yJ3_append_2_ok e2) (Nat.le_trans (Nat.le_of_ble_eq_true rfl) hd) (zk_22 _ e1) rfl rfl (Nat.le_of_ble_eq_true rfl) dJ4_append_2_2) ?_
  refine j_pop dJ4_append_2_5 rfl ?_
  refine j_aload_n (j := 0) dJ4_append_2_6 rfl rfl ?_
  obtain rfl := Option.some.inj h
  exact j_aret hk.1 hk.2 rfl (Or.inl ⟨_, rfl⟩) dJ4_append_2_7
theorem yJ4_append_2_ok {t : Nat} {x1 : Option Nat} {G : GS} {r : Option Nat} {G1 : GS} (h : fJ4_append_2_0 t x1 G = some (r, G1)) : zRuns yJ4_append_2 (ws_ yJ4_append_2 cJ4_append_2 2 (some (Jvm.ClassFile.FieldType.object "java/lang/StringBuilder"))) [vR (some t), vR x1] (.inl (some (vR r)), G, G1, 10) :=
  zentry (M := mJ4_append_2) (plainFor_of_name (by decide +kernel)) ⟨rfl, rfl, rfl, rfl⟩ (Nat.le_of_ble_eq_true rfl) (wfJ4_append_2_0 (Nat.le_refl _) t x1 G h ⟨rfl, rfl⟩)
abbrev mJ26_stringSize : zM := (cJ26_stringSize, RJ26, 4, (some Jvm.ClassFile.FieldType.int), "stringSize", [], "(I)I")
def fJ26_stringSize_42 (x1 : Int32)  (G : GS) : Option (Int32) :=
  some (10 + x1)
theorem wfJ26_stringSize_42 {F : zF} (hd : 1 ≤ F.2.2.2) (x1 : Int32)  (G : GS) {a : Int32} (h : fJ26_stringSize_42 x1  G = some a) (hk : zKPI F G a) : J mJ26_stringSize F G 42 [(1, vI x1)] [] := by
  unfold fJ26_stringSize_42 at h
  refine j_bipush (v := 10) dJ26_stringSize_42 (by decide) ?_
  refine j_iload_n (j := 0) dJ26_stringSize_44 rfl rfl ?_
  refine j_iadd dJ26_stringSize_45 ?_
  obtain rfl := Option.some.inj h
  exact j_iret hk.1 hk.2 rfl dJ26_stringSize_46
def fJ26_stringSize_27 (x1 : Int32) (x3 : Int32)  (G : GS) : Option (Int32) :=
  some (x3 + x1)
theorem wfJ26_stringSize_27 {F : zF} (hd : 1 ≤ F.2.2.2) (x1 : Int32) (x3 : Int32)  (G : GS) {a : Int32} (h : fJ26_stringSize_27 x1 x3  G = some a) (hk : zKPI F G a) : J mJ26_stringSize F G 27 [(1, vI x1), (3, vI x3)] [] := by
  unfold fJ26_stringSize_27 at h
  refine j_iload_n (j := 1) dJ26_stringSize_27 rfl rfl ?_
  refine j_iload_n (j := 0) dJ26_stringSize_28 rfl rfl ?_
  refine j_iadd dJ26_stringSize_29 ?_
  obtain rfl := Option.some.inj h
  exact j_iret hk.1 hk.2 rfl dJ26_stringSize_30
def fbJ26_stringSize_16 (x0 : Int32) (x1 : Int32) (x2 : Int32) (x3 : Int32)  (G : GS) : Option ((Int32 × Int32) ⊕ (Int32)) :=
  if 10 ≤ x3 then (zo (fJ26_stringSize_42 x1 G)) else (if x0 ≤ x2 then (some (.inl ((10 * x2), (x3 + 1)))) else (zo (fJ26_stringSize_27 x1 x3 G)))
def flJ26_stringSize_16 (x0 : Int32) (x1 : Int32) (x2 : Int32) (x3 : Int32) (G : GS) : Option (Int32) := zloop (fun s : Int32 × Int32 => fbJ26_stringSize_16 x0 x1 s.1 s.2 G) (x2, x3)
theorem wfbJ26_stringSize_16 {F : zF} (hd : 1 ≤ F.2.2.2) (x0 : Int32) (x1 : Int32) (x2 : Int32) (x3 : Int32) (G : GS) {a : (Int32 × Int32) ⊕ (Int32)} (h : fbJ26_stringSize_16 x0 x1 x2 x3 G = some a) (hk : (zcase (fun s : Int32 × Int32 => J mJ26_stringSize F G 16 [(0, vI x0), (1, vI x1), (2, vI s.1), (3, vI s.2)] []) (zKPI F G)) a) : J mJ26_stringSize F G 16 [(0, vI x0), (1, vI x1), (2, vI x2), (3, vI x3)] [] := by
  unfold fbJ26_stringSize_16 at h
  refine j_iload_n (j := 3) dJ26_stringSize_16 rfl rfl ?_
  refine j_bipush (v := 10) dJ26_stringSize_17 (by decide) ?_
  refine j_icmp_ge (tgt := 42) dJ26_stringSize_19 (by decide) (fun c1 => ?_) (fun c1 => ?_)
  · rw [if_pos c1] at h
    replace h := zoE h
    obtain ⟨a, h, rfl⟩ := h
    replace hk := hk
    exact J.sub (zall [1] rfl) (wfJ26_stringSize_42 hd x1  G h hk)
  · rw [if_neg c1] at h
    refine j_iload_n (j := 0) dJ26_stringSize_22 rfl rfl ?_
    refine j_iload_n (j := 2) dJ26_stringSize_23 rfl rfl ?_
    refine j_icmp_le (tgt := 31) dJ26_stringSize_24 (by decide) (fun c2 => ?_) (fun c2 => ?_)
    · rw [if_pos c2] at h
      refine j_bipush (v := 10) dJ26_stringSize_31 (by decide) ?_
      refine j_iload_n (j := 2) dJ26_stringSize_33 rfl rfl ?_
      refine j_imul dJ26_stringSize_34 ?_
      refine j_istore_n (lv' := [(2, vI (10 * x2)), (0, vI x0), (1, vI x1), (3, vI x3)]) dJ26_stringSize_35 rfl (Nat.le_of_ble_eq_true rfl) rfl ?_
      refine j_iinc (j := 3) (v := (x3 + 1)) (lv' := [(3, vI (x3 + 1)), (2, vI (10 * x2)), (0, vI x0), (1, vI x1)]) dJ26_stringSize_36 rfl rfl (Nat.le_of_ble_eq_true rfl) rfl ?_
      refine j_goto (tgt := 16) dJ26_stringSize_39 (by decide) ?_
      obtain rfl := Option.some.inj h
      exact J.sub (zall [2, 3, 1, 0] rfl) hk
    · rw [if_neg c2] at h
      replace h := zoE h
      obtain ⟨a, h, rfl⟩ := h
      replace hk := hk
      exact J.sub (zall [1, 3] rfl) (wfJ26_stringSize_27 hd x1 x3  G h hk)
theorem wflJ26_stringSize_16 {F : zF} (hd : 1 ≤ F.2.2.2) (x0 : Int32) (x1 : Int32) (x2 : Int32) (x3 : Int32) (G : GS) {a : Int32} (h : flJ26_stringSize_16 x0 x1 x2 x3 G = some a) (hk : zKPI F G a) : J mJ26_stringSize F G 16 [(0, vI x0), (1, vI x1), (2, vI x2), (3, vI x3)] [] := by
  unfold flJ26_stringSize_16 at h
  exact zloop_walk (P := (fun s : Int32 × Int32 => J mJ26_stringSize F G 16 [(0, vI x0), (1, vI x1), (2, vI s.1), (3, vI s.2)] [])) (fun s b e hk => wfbJ26_stringSize_16 hd x0 x1 s.1 s.2 G e hk) (x2, x3) _ h hk
def fJ26_stringSize_11 (x0 : Int32) (x1 : Int32)  (G : GS) : Option (Int32) :=
  flJ26_stringSize_16 x0 x1 (-10) 1 G
theorem wfJ26_stringSize_11 {F : zF} (hd : 1 ≤ F.2.2.2) (x0 : Int32) (x1 : Int32)  (G : GS) {a : Int32} (h : fJ26_stringSize_11 x0 x1  G = some a) (hk : zKPI F G a) : J mJ26_stringSize F G 11 [(0, vI x0), (1, vI x1)] [] := by
  unfold fJ26_stringSize_11 at h
  refine j_bipush (v := (-10)) dJ26_stringSize_11 (by decide) ?_
  refine j_istore_n (lv' := [(2, vI (-10)), (0, vI x0), (1, vI x1)]) dJ26_stringSize_13 rfl (Nat.le_of_ble_eq_true rfl) rfl ?_
  refine j_iconst (v := 1) dJ26_stringSize_14 (by decide) ?_
  refine j_istore_n (lv' := [(3, vI 1), (2, vI (-10)), (0, vI x0), (1, vI x1)]) dJ26_stringSize_15 rfl (Nat.le_of_ble_eq_true rfl) rfl ?_
  exact J.sub (zall [2, 3, 1, 0] rfl) (wflJ26_stringSize_16 hd x0 x1 (-10) 1  G h hk)
def fJ26_stringSize_0 (x0 : Int32)  (G : GS) : Option (Int32) :=
  if x0 < 0 then (fJ26_stringSize_11 x0 1 G) else (fJ26_stringSize_11 (-x0) 0 G)
theorem wfJ26_stringSize_0 {F : zF} (hd : 1 ≤ F.2.2.2) (x0 : Int32)  (G : GS) {a : Int32} (h : fJ26_stringSize_0 x0  G = some a) (hk : zKPI F G a) : J mJ26_stringSize F G 0 [(0, vI x0)] [] := by
  unfold fJ26_stringSize_0 at h
  refine j_iconst (v := 1) dJ26_stringSize_0 (by decide) ?_
  refine j_istore_n (lv' := [(1, vI 1), (0, vI x0)]) dJ26_stringSize_1 rfl (Nat.le_of_ble_eq_true rfl) rfl ?_
  refine j_iload_n (j := 1) dJ26_stringSize_2 rfl rfl ?_
  refine j_if_lt (tgt := 11) dJ26_stringSize_3 (by decide) (fun c1 => ?_) (fun c1 => ?_)
  · rw [if_pos c1] at h
    exact J.sub (zall [1, 0] rfl) (wfJ26_stringSize_11 hd x0 1  G h hk)
  · rw [if_neg c1] at h
    refine j_iconst (v := 0) dJ26_stringSize_6 (by decide) ?_
    refine j_istore_n (lv' := [(1, vI 0), (0, vI x0)]) dJ26_stringSize_7 rfl (Nat.le_of_ble_eq_true rfl) rfl ?_
    refine j_iload_n (j := 1) dJ26_stringSize_8 rfl rfl ?_
    refine j_ineg dJ26_stringSize_9 ?_
    refine j_istore_n (lv' := [(0, vI (-x0)), (1, vI 0)]) dJ26_stringSize_10 rfl (Nat.le_of_ble_eq_true rfl) rfl ?_
    exact J.sub (zall [0, 1] rfl) (wfJ26_stringSize_11 hd (-x0) 0  G h hk)
theorem yJ26_stringSize_ok {x0 : Int32} {G : GS} {r : Int32} (h : fJ26_stringSize_0 x0 G = some r) : zRuns yJ26_stringSize (ws_ yJ26_stringSize cJ26_stringSize 4 (some Jvm.ClassFile.FieldType.int)) [vI x0] (.inl (some (vI r)), G, G, 1) :=
  zentry (M := mJ26_stringSize) (plainFor_of_name (by decide +kernel)) ⟨rfl, rfl, rfl, rfl⟩ (Nat.le_of_ble_eq_true rfl) (wfJ26_stringSize_0 (Nat.le_refl _) x0 G h ⟨rfl, rfl⟩)
abbrev mJ26_getChars : zM := (cJ26_getChars, RJ26, 7, (some Jvm.ClassFile.FieldType.int), "getChars", [], "(II[B)I")
def fJ26_getChars_72 (x0 : Int32) (x2 : Option Nat) (x5 : Int32) (x6 : Int32)  (G : GS) : Option ((Int32) × GS) :=
  none
theorem wfJ26_getChars_72 {F : zF} (hd : 1 ≤ F.2.2.2) (x0 : Int32) (x2 : Option Nat) (x5 : Int32) (x6 : Int32)  (G : GS) {a : (Int32) × GS} (h : fJ26_getChars_72 x0 x2 x5 x6  G = some a) (hk : zKI F a) : J mJ26_getChars F G 72 [(0, vI x0), (2, vR x2), (5, vI x5), (6, vI x6)] [] := by
  unfold fJ26_getChars_72 at h
  refine j_aload_n (j := 1) dJ26_getChars_72 rfl rfl ?_
  refine j_iinc (j := 2) (v := (x5 + (-1))) (lv' := [(5, vI (x5 + (-1))), (0, vI x0), (2, vR x2), (6, vI x6)]) dJ26_getChars_73 rfl rfl (Nat.le_of_ble_eq_true rfl) rfl ?_
  refine j_iload (j := 0) dJ26_getChars_76 rfl ?_
  cases h
def fbJ26_getChars_22 (x0 : Int32) (x2 : Option Nat) (x5 : Int32) (x6 : Int32)  (G : GS) : Option ((Int32 × Int32 × GS) ⊕ ((Int32) × GS)) :=
  if (-100) < x0 then (zo (fJ26_getChars_72 x0 x2 x5 x6 G)) else (zcond (¬ (100 : Int32) = 0) (none))
def flJ26_getChars_22 (x0 : Int32) (x2 : Option Nat) (x5 : Int32) (x6 : Int32) (G : GS) : Option ((Int32) × GS) := zloop (fun s : Int32 × Int32 × GS => fbJ26_getChars_22 s.1 x2 s.2.1 x6 s.2.2) (x0, x5, G)
theorem wfbJ26_getChars_22 {F : zF} (hd : 1 ≤ F.2.2.2) (x0 : Int32) (x2 : Option Nat) (x5 : Int32) (x6 : Int32) (G : GS) {a : (Int32 × Int32 × GS) ⊕ ((Int32) × GS)} (h : fbJ26_getChars_22 x0 x2 x5 x6 G = some a) (hk : (zcase (fun s : Int32 × Int32 × GS => J mJ26_getChars F s.2.2 22 [(0, vI s.1), (2, vR x2), (5, vI s.2.1), (6, vI x6)] []) (zKI F)) a) : J mJ26_getChars F G 22 [(0, vI x0), (2, vR x2), (5, vI x5), (6, vI x6)] [] := by
  unfold fbJ26_getChars_22 at h
  refine j_iload_n (j := 0) dJ26_getChars_22 rfl rfl ?_
  refine j_bipush (v := (-100)) dJ26_getChars_23 (by decide) ?_
  refine j_icmp_gt (tgt := 72) dJ26_getChars_25 (by decide) (fun c1 => ?_) (fun c1 => ?_)
  · rw [if_pos c1] at h
    replace h := zoE h
    obtain ⟨a, h, rfl⟩ := h
    replace hk := hk
    exact J.sub (zall [0, 1, 2, 3] rfl) (wfJ26_getChars_72 hd x0 x2 x5 x6  G h hk)
  · rw [if_neg c1] at h
    refine j_iload_n (j := 0) dJ26_getChars_28 rfl rfl ?_
    refine j_bipush (v := 100) dJ26_getChars_29 (by decide) ?_
    replace h := zcondE h
    obtain ⟨e2, h⟩ := h
    refine j_idiv dJ26_getChars_31 e2 ?_
    refine j_istore_n (lv' := [(3, vI (x0 / (100 : Int32))), (0, vI x0), (2, vR x2), (5, vI x5), (6, vI x6)]) dJ26_getChars_32 rfl (Nat.le_of_ble_eq_true rfl) rfl ?_
    refine j_iload_n (j := 0) dJ26_getChars_33 rfl rfl ?_
    refine j_bipush (v := 100) dJ26_getChars_34 (by decide) ?_
    refine j_imul dJ26_getChars_36 ?_
    refine j_iload_n (j := 1) dJ26_getChars_37 rfl rfl ?_
    refine j_isub dJ26_getChars_38 ?_
    refine j_istore (lv' := [(4, vI (((x0 / (100 : Int32)) * 100) - x0)), (3, vI (x0 / (100 : Int32))), (0, vI x0), (2, vR x2), (5, vI x5), (6, vI x6)]) dJ26_getChars_39 (Nat.le_of_ble_eq_true rfl) rfl ?_
    refine j_iload_n (j := 1) dJ26_getChars_41 rfl rfl ?_
    refine j_istore_n (lv' := [(0, vI (x0 / (100 : Int32))), (4, vI (((x0 / (100 : Int32)) * 100) - x0)), (3, vI (x0 / (100 : Int32))), (2, vR x2), (5, vI x5), (6, vI x6)]) dJ26_getChars_42 rfl (Nat.le_of_ble_eq_true rfl) rfl ?_
    refine j_aload_n (j := 3) dJ26_getChars_43 rfl rfl ?_
    refine j_iinc (j := 4) (v := (x5 + (-1))) (lv' := [(5, vI (x5 + (-1))), (0, vI (x0 / (100 : Int32))), (4, vI (((x0 / (100 : Int32)) * 100) - x0)), (3, vI (x0 / (100 : Int32))), (2, vR x2), (6, vI x6)]) dJ26_getChars_44 rfl rfl (Nat.le_of_ble_eq_true rfl) rfl ?_
    refine j_iload (j := 0) dJ26_getChars_47 rfl ?_
    cases h
theorem wflJ26_getChars_22 {F : zF} (hd : 1 ≤ F.2.2.2) (x0 : Int32) (x2 : Option Nat) (x5 : Int32) (x6 : Int32) (G : GS) {a : (Int32) × GS} (h : flJ26_getChars_22 x0 x2 x5 x6 G = some a) (hk : zKI F a) : J mJ26_getChars F G 22 [(0, vI x0), (2, vR x2), (5, vI x5), (6, vI x6)] [] := by
  unfold flJ26_getChars_22 at h
  exact zloop_walk (P := (fun s : Int32 × Int32 × GS => J mJ26_getChars F s.2.2 22 [(0, vI s.1), (2, vR x2), (5, vI s.2.1), (6, vI x6)] [])) (fun s b e hk => wfbJ26_getChars_22 hd s.1 x2 s.2.1 x6 s.2.2 e hk) (x0, x5, G) _ h hk
def fJ26_getChars_12 (x0 : Int32) (x2 : Option Nat) (x5 : Int32) (s0 : Int32) (G : GS) : Option ((Int32) × GS) :=
  if s0 = 0 then (flJ26_getChars_22 (-x0) x2 x5 s0 G) else (flJ26_getChars_22 x0 x2 x5 s0 G)
theorem wfJ26_getChars_12 {F : zF} (hd : 1 ≤ F.2.2.2) (x0 : Int32) (x2 : Option Nat) (x5 : Int32) (s0 : Int32) (G : GS) {a : (Int32) × GS} (h : fJ26_getChars_12 x0 x2 x5 s0 G = some a) (hk : zKI F a) : J mJ26_getChars F G 12 [(0, vI x0), (2, vR x2), (5, vI x5)] [vI s0] := by
  unfold fJ26_getChars_12 at h
  refine j_istore (lv' := [(6, vI s0), (0, vI x0), (2, vR x2), (5, vI x5)]) dJ26_getChars_12 (Nat.le_of_ble_eq_true rfl) rfl ?_
  refine j_iload (j := 0) dJ26_getChars_14 rfl ?_
  refine j_if_ne (tgt := 22) dJ26_getChars_16 (by decide) (fun c1 => ?_) (fun c1 => ?_)
  · rw [if_pos c1] at h
    refine j_iload_n (j := 1) dJ26_getChars_19 rfl rfl ?_
    refine j_ineg dJ26_getChars_20 ?_
    refine j_istore_n (lv' := [(0, vI (-x0)), (6, vI s0), (2, vR x2), (5, vI x5)]) dJ26_getChars_21 rfl (Nat.le_of_ble_eq_true rfl) rfl ?_
    exact J.sub (zall [0, 2, 3, 1] rfl) (wflJ26_getChars_22 hd (-x0) x2 x5 s0  G h hk)
  · rw [if_neg c1] at h
    exact J.sub (zall [1, 2, 3, 0] rfl) (wflJ26_getChars_22 hd x0 x2 x5 s0  G h hk)
def fJ26_getChars_0 (x0 : Int32) (x1 : Int32) (x2 : Option Nat)  (G : GS) : Option ((Int32) × GS) :=
  if 0 ≤ x0 then (fJ26_getChars_12 x0 x2 x1 0 G) else (fJ26_getChars_12 x0 x2 x1 1 G)
theorem wfJ26_getChars_0 {F : zF} (hd : 1 ≤ F.2.2.2) (x0 : Int32) (x1 : Int32) (x2 : Option Nat)  (G : GS) {a : (Int32) × GS} (h : fJ26_getChars_0 x0 x1 x2  G = some a) (hk : zKI F a) : J mJ26_getChars F G 0 [(0, vI x0), (1, vI x1), (2, vR x2)] [] := by
  unfold fJ26_getChars_0 at h
  refine j_iload_n (j := 1) dJ26_getChars_0 rfl rfl ?_
  refine j_istore (lv' := [(5, vI x1), (0, vI x0), (1, vI x1), (2, vR x2)]) dJ26_getChars_1 (Nat.le_of_ble_eq_true rfl) rfl ?_
  refine j_iload_n (j := 1) dJ26_getChars_3 rfl rfl ?_
  refine j_if_ge (tgt := 11) dJ26_getChars_4 (by decide) (fun c1 => ?_) (fun c1 => ?_)
  · rw [if_pos c1] at h
    refine j_iconst (v := 0) dJ26_getChars_11 (by decide) ?_
    exact J.sub (zall [1, 3, 0] rfl) (wfJ26_getChars_12 hd x0 x2 x1 0 G h hk)
  · rw [if_neg c1] at h
    refine j_iconst (v := 1) dJ26_getChars_7 (by decide) ?_
    refine j_goto (tgt := 12) dJ26_getChars_8 (by decide) ?_
    exact J.sub (zall [1, 3, 0] rfl) (wfJ26_getChars_12 hd x0 x2 x1 1 G h hk)
theorem yJ26_getChars_ok {x0 : Int32} {x1 : Int32} {x2 : Option Nat} {G : GS} {r : Int32} {G1 : GS} (h : fJ26_getChars_0 x0 x1 x2 G = some (r, G1)) : zRuns yJ26_getChars (ws_ yJ26_getChars cJ26_getChars 7 (some Jvm.ClassFile.FieldType.int)) [vI x0, vI x1, vR x2] (.inl (some (vI r)), G, G1, 1) :=
  zentry (M := mJ26_getChars) (plainFor_of_name (by decide +kernel)) ⟨rfl, rfl, rfl, rfl⟩ (Nat.le_of_ble_eq_true rfl) (wfJ26_getChars_0 (Nat.le_refl _) x0 x1 x2 G h ⟨rfl, rfl⟩)
abbrev mJ6_getChars_2 : zM := (cJ6_getChars_2, RJ6, 7, (some Jvm.ClassFile.FieldType.int), "getChars", [], "(II[B)I")
def fJ6_getChars_2_76 (x0 : Int32) (x2 : Option Nat) (x5 : Int32) (x6 : Int32)  (G : GS) : Option ((Int32) × GS) :=
  none
theorem wfJ6_getChars_2_76 {F : zF} (hd : 3 ≤ F.2.2.2) (x0 : Int32) (x2 : Option Nat) (x5 : Int32) (x6 : Int32)  (G : GS) {a : (Int32) × GS} (h : fJ6_getChars_2_76 x0 x2 x5 x6  G = some a) (hk : zKI F a) : J mJ6_getChars_2 F G 76 [(0, vI x0), (2, vR x2), (5, vI x5), (6, vI x6)] [] := by
  unfold fJ6_getChars_2_76 at h
  refine j_aload_n (j := 1) dJ6_getChars_2_76 rfl rfl ?_
  refine j_iinc (j := 2) (v := (x5 + (-1))) (lv' := [(5, vI (x5 + (-1))), (0, vI x0), (2, vR x2), (6, vI x6)]) dJ6_getChars_2_77 rfl rfl (Nat.le_of_ble_eq_true rfl) rfl ?_
  refine j_iload (j := 0) dJ6_getChars_2_80 rfl ?_
  cases h
def fbJ6_getChars_2_22 (x0 : Int32) (x2 : Option Nat) (x5 : Int32) (x6 : Int32)  (G : GS) : Option ((Int32 × Int32 × GS) ⊕ ((Int32) × GS)) :=
  if (-100) < x0 then (zo (fJ6_getChars_2_76 x0 x2 x5 x6 G)) else (zcond (¬ (100 : Int32) = 0) (none))
def flJ6_getChars_2_22 (x0 : Int32) (x2 : Option Nat) (x5 : Int32) (x6 : Int32) (G : GS) : Option ((Int32) × GS) := zloop (fun s : Int32 × Int32 × GS => fbJ6_getChars_2_22 s.1 x2 s.2.1 x6 s.2.2) (x0, x5, G)
theorem wfbJ6_getChars_2_22 {F : zF} (hd : 3 ≤ F.2.2.2) (x0 : Int32) (x2 : Option Nat) (x5 : Int32) (x6 : Int32) (G : GS) {a : (Int32 × Int32 × GS) ⊕ ((Int32) × GS)} (h : fbJ6_getChars_2_22 x0 x2 x5 x6 G = some a) (hk : (zcase (fun s : Int32 × Int32 × GS => J mJ6_getChars_2 F s.2.2 22 [(0, vI s.1), (2, vR x2), (5, vI s.2.1), (6, vI x6)] []) (zKI F)) a) : J mJ6_getChars_2 F G 22 [(0, vI x0), (2, vR x2), (5, vI x5), (6, vI x6)] [] := by
  unfold fbJ6_getChars_2_22 at h
  refine j_iload_n (j := 0) dJ6_getChars_2_22 rfl rfl ?_
  refine j_bipush (v := (-100)) dJ6_getChars_2_23 (by decide) ?_
  refine j_icmp_gt (tgt := 76) dJ6_getChars_2_25 (by decide) (fun c1 => ?_) (fun c1 => ?_)
  · rw [if_pos c1] at h
    replace h := zoE h
    obtain ⟨a, h, rfl⟩ := h
    replace hk := hk
    exact J.sub (zall [0, 1, 2, 3] rfl) (wfJ6_getChars_2_76 hd x0 x2 x5 x6  G h hk)
  · rw [if_neg c1] at h
    refine j_iload_n (j := 0) dJ6_getChars_2_28 rfl rfl ?_
    refine j_bipush (v := 100) dJ6_getChars_2_29 (by decide) ?_
    replace h := zcondE h
    obtain ⟨e2, h⟩ := h
    refine j_idiv dJ6_getChars_2_31 e2 ?_
    refine j_istore_n (lv' := [(3, vI (x0 / (100 : Int32))), (0, vI x0), (2, vR x2), (5, vI x5), (6, vI x6)]) dJ6_getChars_2_32 rfl (Nat.le_of_ble_eq_true rfl) rfl ?_
    refine j_iload_n (j := 0) dJ6_getChars_2_33 rfl rfl ?_
    refine j_bipush (v := 100) dJ6_getChars_2_34 (by decide) ?_
    refine j_imul dJ6_getChars_2_36 ?_
    refine j_iload_n (j := 1) dJ6_getChars_2_37 rfl rfl ?_
    refine j_isub dJ6_getChars_2_38 ?_
    refine j_istore (lv' := [(4, vI (((x0 / (100 : Int32)) * 100) - x0)), (3, vI (x0 / (100 : Int32))), (0, vI x0), (2, vR x2), (5, vI x5), (6, vI x6)]) dJ6_getChars_2_39 (Nat.le_of_ble_eq_true rfl) rfl ?_
    refine j_iload_n (j := 1) dJ6_getChars_2_41 rfl rfl ?_
    refine j_istore_n (lv' := [(0, vI (x0 / (100 : Int32))), (4, vI (((x0 / (100 : Int32)) * 100) - x0)), (3, vI (x0 / (100 : Int32))), (2, vR x2), (5, vI x5), (6, vI x6)]) dJ6_getChars_2_42 rfl (Nat.le_of_ble_eq_true rfl) rfl ?_
    refine j_aload_n (j := 3) dJ6_getChars_2_43 rfl rfl ?_
    refine j_iinc (j := 4) (v := (x5 + (-1))) (lv' := [(5, vI (x5 + (-1))), (0, vI (x0 / (100 : Int32))), (4, vI (((x0 / (100 : Int32)) * 100) - x0)), (3, vI (x0 / (100 : Int32))), (2, vR x2), (6, vI x6)]) dJ6_getChars_2_44 rfl rfl (Nat.le_of_ble_eq_true rfl) rfl ?_
    refine j_iload (j := 0) dJ6_getChars_2_47 rfl ?_
    cases h
theorem wflJ6_getChars_2_22 {F : zF} (hd : 3 ≤ F.2.2.2) (x0 : Int32) (x2 : Option Nat) (x5 : Int32) (x6 : Int32) (G : GS) {a : (Int32) × GS} (h : flJ6_getChars_2_22 x0 x2 x5 x6 G = some a) (hk : zKI F a) : J mJ6_getChars_2 F G 22 [(0, vI x0), (2, vR x2), (5, vI x5), (6, vI x6)] [] := by
  unfold flJ6_getChars_2_22 at h
  exact zloop_walk (P := (fun s : Int32 × Int32 × GS => J mJ6_getChars_2 F s.2.2 22 [(0, vI s.1), (2, vR x2), (5, vI s.2.1), (6, vI x6)] [])) (fun s b e hk => wfbJ6_getChars_2_22 hd s.1 x2 s.2.1 x6 s.2.2 e hk) (x0, x5, G) _ h hk
def fJ6_getChars_2_12 (x0 : Int32) (x2 : Option Nat) (x5 : Int32) (s0 : Int32) (G : GS) : Option ((Int32) × GS) :=
  if s0 = 0 then (flJ6_getChars_2_22 (-x0) x2 x5 s0 G) else (flJ6_getChars_2_22 x0 x2 x5 s0 G)
theorem wfJ6_getChars_2_12 {F : zF} (hd : 3 ≤ F.2.2.2) (x0 : Int32) (x2 : Option Nat) (x5 : Int32) (s0 : Int32) (G : GS) {a : (Int32) × GS} (h : fJ6_getChars_2_12 x0 x2 x5 s0 G = some a) (hk : zKI F a) : J mJ6_getChars_2 F G 12 [(0, vI x0), (2, vR x2), (5, vI x5)] [vI s0] := by
  unfold fJ6_getChars_2_12 at h
  refine j_istore (lv' := [(6, vI s0), (0, vI x0), (2, vR x2), (5, vI x5)]) dJ6_getChars_2_12 (Nat.le_of_ble_eq_true rfl) rfl ?_
  refine j_iload (j := 0) dJ6_getChars_2_14 rfl ?_
  refine j_if_ne (tgt := 22) dJ6_getChars_2_16 (by decide) (fun c1 => ?_) (fun c1 => ?_)
  · rw [if_pos c1] at h
    refine j_iload_n (j := 1) dJ6_getChars_2_19 rfl rfl ?_
    refine j_ineg dJ6_getChars_2_20 ?_
    refine j_istore_n (lv' := [(0, vI (-x0)), (6, vI s0), (2, vR x2), (5, vI x5)]) dJ6_getChars_2_21 rfl (Nat.le_of_ble_eq_true rfl) rfl ?_
    exact J.sub (zall [0, 2, 3, 1] rfl) (wflJ6_getChars_2_22 hd (-x0) x2 x5 s0  G h hk)
  · rw [if_neg c1] at h
    exact J.sub (zall [1, 2, 3, 0] rfl) (wflJ6_getChars_2_22 hd x0 x2 x5 s0  G h hk)
def fJ6_getChars_2_0 (x0 : Int32) (x1 : Int32) (x2 : Option Nat)  (G : GS) : Option ((Int32) × GS) :=
  if 0 ≤ x0 then (fJ6_getChars_2_12 x0 x2 x1 0 G) else (fJ6_getChars_2_12 x0 x2 x1 1 G)
theorem wfJ6_getChars_2_0 {F : zF} (hd : 3 ≤ F.2.2.2) (x0 : Int32) (x1 : Int32) (x2 : Option Nat)  (G : GS) {a : (Int32) × GS} (h : fJ6_getChars_2_0 x0 x1 x2  G = some a) (hk : zKI F a) : J mJ6_getChars_2 F G 0 [(0, vI x0), (1, vI x1), (2, vR x2)] [] := by
  unfold fJ6_getChars_2_0 at h
  refine j_iload_n (j := 1) dJ6_getChars_2_0 rfl rfl ?_
  refine j_istore (lv' := [(5, vI x1), (0, vI x0), (1, vI x1), (2, vR x2)]) dJ6_getChars_2_1 (Nat.le_of_ble_eq_true rfl) rfl ?_
  refine j_iload_n (j := 1) dJ6_getChars_2_3 rfl rfl ?_
  refine j_if_ge (tgt := 11) dJ6_getChars_2_4 (by decide) (fun c1 => ?_) (fun c1 => ?_)
  · rw [if_pos c1] at h
    refine j_iconst (v := 0) dJ6_getChars_2_11 (by decide) ?_
    exact J.sub (zall [1, 3, 0] rfl) (wfJ6_getChars_2_12 hd x0 x2 x1 0 G h hk)
  · rw [if_neg c1] at h
    refine j_iconst (v := 1) dJ6_getChars_2_7 (by decide) ?_
    refine j_goto (tgt := 12) dJ6_getChars_2_8 (by decide) ?_
    exact J.sub (zall [1, 3, 0] rfl) (wfJ6_getChars_2_12 hd x0 x2 x1 1 G h hk)
theorem yJ6_getChars_2_ok {x0 : Int32} {x1 : Int32} {x2 : Option Nat} {G : GS} {r : Int32} {G1 : GS} (h : fJ6_getChars_2_0 x0 x1 x2 G = some (r, G1)) : zRuns yJ6_getChars_2 (ws_ yJ6_getChars_2 cJ6_getChars_2 7 (some Jvm.ClassFile.FieldType.int)) [vI x0, vI x1, vR x2] (.inl (some (vI r)), G, G1, 3) :=
  zentry (M := mJ6_getChars_2) (plainFor_of_name (by decide +kernel)) ⟨rfl, rfl, rfl, rfl⟩ (Nat.le_of_ble_eq_true rfl) (wfJ6_getChars_2_0 (Nat.le_refl _) x0 x1 x2 G h ⟨rfl, rfl⟩)
theorem msJ6_393 : zSS RJ6 393 yJ6_getChars_2 cJ6_getChars_2 7 (some Jvm.ClassFile.FieldType.int) 3 := ⟨lw_S q2044 q2045 q130 q2046, (by decide +kernel), (by decide)⟩
abbrev mJ6_getChars : zM := (cJ6_getChars, RJ6, 5, (some Jvm.ClassFile.FieldType.int), "getChars", [], "(III[B)I")
def fJ6_getChars_0 (x0 : Int32) (x1 : Int32) (x2 : Int32) (x3 : Option Nat)  (G : GS) : Option ((Int32) × GS) :=
  (fJ6_checkBoundsBeginEnd_0 x1 x2 x3 G).bind fun G2 => zb2 (fJ6_getChars_2_0 x0 x2 x3 G2) fun v4 G5 => none
theorem wfJ6_getChars_0 {F : zF} (hd : 4 ≤ F.2.2.2) (x0 : Int32) (x1 : Int32) (x2 : Int32) (x3 : Option Nat)  (G : GS) {a : (Int32) × GS} (h : fJ6_getChars_0 x0 x1 x2 x3  G = some a) (hk : zKI F a) : J mJ6_getChars F G 0 [(0, vI x0), (1, vI x1), (2, vI x2), (3, vR x3)] [] := by
  unfold fJ6_getChars_0 at h
  refine j_iload_n (j := 1) dJ6_getChars_0 rfl rfl ?_
  refine j_iload_n (j := 2) dJ6_getChars_1 rfl rfl ?_
  refine j_aload_n (j := 3) dJ6_getChars_2 rfl rfl ?_
  replace h := zbE h
  obtain ⟨G2, e1, h⟩ := h
  refine j_cont (zrS (As := [vI x1, vI x2, vR x3]) msJ6_96 (yJ6_checkBoundsBeginEnd_ok e1) (Nat.le_trans (Nat.le_of_ble_eq_true rfl) hd) rfl rfl (Nat.le_of_ble_eq_true rfl) dJ6_getChars_3) ?_
  refine j_iload_n (j := 0) dJ6_getChars_6 rfl rfl ?_
  refine j_iload_n (j := 2) dJ6_getChars_7 rfl rfl ?_
  refine j_aload_n (j := 3) dJ6_getChars_8 rfl rfl ?_
  replace h := zb2E h
  obtain ⟨v4, G5, e3, h⟩ := h
  refine j_cont (zrS (As := [vI x0, vI x2, vR x3]) msJ6_393 (yJ6_getChars_2_ok e3) (Nat.le_trans (Nat.le_of_ble_eq_true rfl) hd) rfl rfl (Nat.le_of_ble_eq_true rfl) dJ6_getChars_9) ?_
  refine j_istore (lv' := [(4, vI v4), (0, vI x0), (1, vI x1), (2, vI x2), (3, vR x3)]) dJ6_getChars_12 (Nat.le_of_ble_eq_true rfl) rfl ?_
  cases h
theorem yJ6_getChars_ok {x0 : Int32} {x1 : Int32} {x2 : Int32} {x3 : Option Nat} {G : GS} {r : Int32} {G1 : GS} (h : fJ6_getChars_0 x0 x1 x2 x3 G = some (r, G1)) : zRuns yJ6_getChars (ws_ yJ6_getChars cJ6_getChars 5 (some Jvm.ClassFile.FieldType.int)) [vI x0, vI x1, vI x2, vR x3] (.inl (some (vI r)), G, G1, 4) :=
  zentry (M := mJ6_getChars) (plainFor_of_name (by decide +kernel)) ⟨rfl, rfl, rfl, rfl⟩ (Nat.le_of_ble_eq_true rfl) (wfJ6_getChars_0 (Nat.le_refl _) x0 x1 x2 x3 G h ⟨rfl, rfl⟩)
theorem msJ3_245 : zSS RJ3 245 yJ26_stringSize cJ26_stringSize 4 (some Jvm.ClassFile.FieldType.int) 1 := ⟨lw_S q2007 q2008 q156 q2009, (by decide +kernel), (by decide)⟩
theorem msJ3_248 : zSS RJ3 248 yJ26_getChars cJ26_getChars 7 (some Jvm.ClassFile.FieldType.int) 3 := ⟨lw_S q2028 q2029 q156 q2030, (by decide +kernel), (by decide)⟩
theorem msJ3_251 : zSS RJ3 251 yJ6_getChars cJ6_getChars 5 (some Jvm.ClassFile.FieldType.int) 4 := ⟨lw_S q2035 q2036 q130 q2037, (by decide +kernel), (by decide)⟩
abbrev mJ3_append : zM := (cJ3_append, RJ3, 4, (some (Jvm.ClassFile.FieldType.object "java/lang/AbstractStringBuilder")), "append", [], "(I)Ljava/lang/AbstractStringBuilder;")
def fJ3_append_48 (t : Nat) (x3 : Int32)  (G : GS) : Option ((Option Nat) × GS) :=
  (zpI G 22 t 3 x3).bind fun G1 => some ((some t), G1)
theorem wfJ3_append_48 {F : zF} (hd : 5 ≤ F.2.2.2) (t : Nat) (x3 : Int32)  (G : GS) {a : (Option Nat) × GS} (h : fJ3_append_48 t x3  G = some a) (hk : zKR F a) : J mJ3_append F G 48 [(0, vR (some t)), (3, vI x3)] [] := by
  unfold fJ3_append_48 at h
  refine j_aload_n (j := 0) dJ3_append_48 rfl rfl ?_
  refine j_iload_n (j := 1) dJ3_append_49 rfl rfl ?_
  replace h := zbE h
  obtain ⟨G1, e2, h⟩ := h
  refine j_putI fpJ3_79_J4 (Or.inl rfl) rfl dJ3_append_50 e2 ?_
  refine j_aload_n (j := 0) dJ3_append_53 rfl rfl ?_
  obtain rfl := Option.some.inj h
  exact j_aret hk.1 hk.2 rfl (Or.inl ⟨_, rfl⟩) dJ3_append_54
def fJ3_append_0 (t : Nat) (x1 : Int32)  (G : GS) : Option ((Option Nat) × GS) :=
  (zgI G 22 t 3).bind fun v1 => (fJ26_stringSize_0 x1 G).bind fun v4 => zk [22] G t <| (fJ3_ensureCapacityInternal_0 t (v1 + v4) G).bind fun G7 => zk [22] G7 t <| (fJ3_isLatin1_0 t G7).bind fun v10 => if v10 = 0 then ((zgR G7 22 t 0).bind fun r12 => zb2 (fJ6_getChars_0 x1 v1 (v1 + v4) r12 G7) fun v15 G16 => fJ3_append_48 t (v1 + v4) G16) else ((zgR G7 22 t 0).bind fun r17 => zb2 (fJ26_getChars_0 x1 (v1 + v4) r17 G7) fun v20 G21 => fJ3_append_48 t (v1 + v4) G21)
theorem wfJ3_append_0 {F : zF} (hd : 5 ≤ F.2.2.2) (t : Nat) (x1 : Int32)  (G : GS) {a : (Option Nat) × GS} (h : fJ3_append_0 t x1  G = some a) (hk : zKR F a) : J mJ3_append F G 0 [(0, vR (some t)), (1, vI x1)] [] := by
  unfold fJ3_append_0 at h
  refine j_aload_n (j := 0) dJ3_append_0 rfl rfl ?_
  replace h := zbE h
  obtain ⟨v1, e2, h⟩ := h
  refine j_getI fgJ3_79 (fun _ _ _ => rfl) dJ3_append_1 e2 ?_
  refine j_istore_n (lv' := [(2, vI v1), (0, vR (some t)), (1, vI x1)]) dJ3_append_4 rfl (Nat.le_of_ble_eq_true rfl) rfl ?_
  refine j_iload_n (j := 0) dJ3_append_5 rfl rfl ?_
  refine j_iload_n (j := 2) dJ3_append_6 rfl rfl ?_
  replace h := zbE h
  obtain ⟨v4, e3, h⟩ := h
  refine j_cont (zrS (As := [vI x1]) msJ3_245 (yJ26_stringSize_ok e3) (Nat.le_trans (Nat.le_of_ble_eq_true rfl) hd) rfl rfl (Nat.le_of_ble_eq_true rfl) dJ3_append_7) ?_
  refine j_iadd dJ3_append_10 ?_
  refine j_istore_n (lv' := [(3, vI (v1 + v4)), (2, vI v1), (0, vR (some t)), (1, vI x1)]) dJ3_append_11 rfl (Nat.le_of_ble_eq_true rfl) rfl ?_
  refine j_aload_n (j := 2) dJ3_append_12 rfl rfl ?_
  refine j_iload_n (j := 0) dJ3_append_13 rfl rfl ?_
  replace h := zkE h
  obtain ⟨e5, h⟩ := h
  replace h := zbE h
  obtain ⟨G7, e6, h⟩ := h
  refine j_cont (zrP (As := [vI (v1 + v4)]) msJ3_100_J4 (yJ3_ensureCapacityInternal_ok e6) (Nat.le_trans (Nat.le_of_ble_eq_true rfl) hd) (zk_22 _ e5) rfl rfl (Nat.le_of_ble_eq_true rfl) dJ3_append_14) ?_
  refine j_aload_n (j := 2) dJ3_append_17 rfl rfl ?_
  replace h := zkE h
  obtain ⟨e8, h⟩ := h
  replace h := zbE h
  obtain ⟨v10, e9, h⟩ := h
  refine j_cont (zrU (As := []) msJ3_83_J4 (yJ3_isLatin1_ok e9) (Nat.le_trans (Nat.le_of_ble_eq_true rfl) hd) (zk_22 _ e8) rfl rfl (Nat.le_of_ble_eq_true rfl) dJ3_append_18) ?_
  refine j_if_eq (tgt := 37) dJ3_append_21 (by decide) (fun c11 => ?_) (fun c11 => ?_)
  · rw [if_pos c11] at h
    refine j_iload_n (j := 3) dJ3_append_37 rfl rfl ?_
    refine j_iload_n (j := 1) dJ3_append_38 rfl rfl ?_
    refine j_iload_n (j := 0) dJ3_append_39 rfl rfl ?_
    refine j_aload_n (j := 2) dJ3_append_40 rfl rfl ?_
    replace h := zbE h
    obtain ⟨r12, e13, h⟩ := h
    refine j_getR fgJ3_15 (fun _ _ _ => rfl) dJ3_append_41 e13 ?_
    replace h := zb2E h
    obtain ⟨v15, G16, e14, h⟩ := h
    refine j_cont (zrS (As := [vI x1, vI v1, vI (v1 + v4), vR r12]) msJ3_251 (yJ6_getChars_ok e14) (Nat.le_trans (Nat.le_of_ble_eq_true rfl) hd) rfl rfl (Nat.le_of_ble_eq_true rfl) dJ3_append_44) ?_
    refine j_pop dJ3_append_47 rfl ?_
    exact J.sub (zall [2, 0] rfl) (wfJ3_append_48 hd t (v1 + v4)  G16 h hk)
  · rw [if_neg c11] at h
    refine j_iload_n (j := 3) dJ3_append_24 rfl rfl ?_
    refine j_iload_n (j := 0) dJ3_append_25 rfl rfl ?_
    refine j_aload_n (j := 2) dJ3_append_26 rfl rfl ?_
    replace h := zbE h
    obtain ⟨r17, e18, h⟩ := h
    refine j_getR fgJ3_15 (fun _ _ _ => rfl) dJ3_append_27 e18 ?_
    replace h := zb2E h
    obtain ⟨v20, G21, e19, h⟩ := h
    refine j_cont (zrS (As := [vI x1, vI (v1 + v4), vR r17]) msJ3_248 (yJ26_getChars_ok e19) (Nat.le_trans (Nat.le_of_ble_eq_true rfl) hd) rfl rfl (Nat.le_of_ble_eq_true rfl) dJ3_append_30) ?_
    refine j_pop dJ3_append_33 rfl ?_
    refine j_goto (tgt := 48) dJ3_append_34 (by decide) ?_
    exact J.sub (zall [2, 0] rfl) (wfJ3_append_48 hd t (v1 + v4)  G21 h hk)
theorem yJ3_append_ok {t : Nat} {x1 : Int32} {G : GS} {r : Option Nat} {G1 : GS} (h : fJ3_append_0 t x1 G = some (r, G1)) : zRuns yJ3_append (ws_ yJ3_append cJ3_append 4 (some (Jvm.ClassFile.FieldType.object "java/lang/AbstractStringBuilder"))) [vR (some t), vI x1] (.inl (some (vR r)), G, G1, 5) :=
  zentry (M := mJ3_append) (plainFor_of_name (by decide +kernel)) ⟨rfl, rfl, rfl, rfl⟩ (Nat.le_of_ble_eq_true rfl) (wfJ3_append_0 (Nat.le_refl _) t x1 G h ⟨rfl, rfl⟩)
theorem msJ4_53 : zSP RJ4 53 yJ3_append cJ3_append 4 (some (Jvm.ClassFile.FieldType.object "java/lang/AbstractStringBuilder")) 1 := ⟨lw_SP q2004 q3279 q243 q2005 q127 q2006, (by decide +kernel), (by decide)⟩
abbrev mJ4_append : zM := (cJ4_append, RJ4, 2, (some (Jvm.ClassFile.FieldType.object "java/lang/StringBuilder")), "append", [], "(I)Ljava/lang/StringBuilder;")
def fJ4_append_0 (t : Nat) (x1 : Int32)  (G : GS) : Option ((Option Nat) × GS) :=
  zk [22] G t <| zb2 (fJ3_append_0 t x1 G) fun r3 G4 => some ((some t), G4)
theorem wfJ4_append_0 {F : zF} (hd : 6 ≤ F.2.2.2) (t : Nat) (x1 : Int32)  (G : GS) {a : (Option Nat) × GS} (h : fJ4_append_0 t x1  G = some a) (hk : zKR F a) : J mJ4_append F G 0 [(0, vR (some t)), (1, vI x1)] [] := by
  unfold fJ4_append_0 at h
  refine j_aload_n (j := 0) dJ4_append_0 rfl rfl ?_
  refine j_iload_n (j := 1) dJ4_append_1 rfl rfl ?_
  replace h := zkE h
  obtain ⟨e1, h⟩ := h
  replace h := zb2E h
  obtain ⟨r3, G4, e2, h⟩ := h
  refine j_cont (zrSP (As := [vI x1]) msJ4_53 ⟨21, _, rfl, rfl⟩ (yJ3_append_ok e2) (Nat.le_trans (Nat.le_of_ble_eq_true rfl) hd) (zk_22 _ e1) rfl rfl (Nat.le_of_ble_eq_true rfl) dJ4_append_2) ?_
  refine j_pop dJ4_append_5 rfl ?_
  refine j_aload_n (j := 0) dJ4_append_6 rfl rfl ?_
  obtain rfl := Option.some.inj h
  exact j_aret hk.1 hk.2 rfl (Or.inl ⟨_, rfl⟩) dJ4_append_7
theorem yJ4_append_ok {t : Nat} {x1 : Int32} {G : GS} {r : Option Nat} {G1 : GS} (h : fJ4_append_0 t x1 G = some (r, G1)) : zRuns yJ4_append (ws_ yJ4_append cJ4_append 2 (some (Jvm.ClassFile.FieldType.object "java/lang/StringBuilder"))) [vR (some t), vI x1] (.inl (some (vR r)), G, G1, 6) :=
  zentry (M := mJ4_append) (plainFor_of_name (by decide +kernel)) ⟨rfl, rfl, rfl, rfl⟩ (Nat.le_of_ble_eq_true rfl) (wfJ4_append_0 (Nat.le_refl _) t x1 G h ⟨rfl, rfl⟩)
abbrev mJ3_getValue : zM := (cJ3_getValue, RJ3, 1, (some (Jvm.ClassFile.FieldType.array Jvm.ClassFile.FieldType.byte)), "getValue", [], "()[B")
def fJ3_getValue_0 (t : Nat)  (G : GS) : Option (Option Nat) :=
  (zgR G 22 t 0).bind fun r1 => some r1
theorem wfJ3_getValue_0 {F : zF} (hd : 1 ≤ F.2.2.2) (t : Nat)  (G : GS) {a : Option Nat} (h : fJ3_getValue_0 t  G = some a) (hk : zKPR F G a) : J mJ3_getValue F G 0 [(0, vR (some t))] [] := by
  unfold fJ3_getValue_0 at h
  refine j_aload_n (j := 0) dJ3_getValue_0 rfl rfl ?_
  replace h := zbE h
  obtain ⟨r1, e2, h⟩ := h
  refine j_getR fgJ3_15 (fun _ _ _ => rfl) dJ3_getValue_1 e2 ?_
  obtain rfl := Option.some.inj h
  exact j_aret hk.1 hk.2 rfl (Or.inr ⟨_, rfl⟩) dJ3_getValue_4
theorem yJ3_getValue_ok {t : Nat} {G : GS} {r : Option Nat} (h : fJ3_getValue_0 t G = some r) : zRuns yJ3_getValue (ws_ yJ3_getValue cJ3_getValue 1 (some (Jvm.ClassFile.FieldType.array Jvm.ClassFile.FieldType.byte))) [vR (some t)] (.inl (some (vR r)), G, G, 1) :=
  zentry (M := mJ3_getValue) (plainFor_of_name (by decide +kernel)) ⟨rfl, rfl, rfl, rfl⟩ (Nat.le_of_ble_eq_true rfl) (wfJ3_getValue_0 (Nat.le_refl _) t G h ⟨rfl, rfl⟩)
abbrev mJ15_checkLength : zM := (cJ15_checkLength, RJ15, 2, none, "checkLength", [], "(II)V")
def fJ15_checkLength_0 (x0 : Int32) (x1 : Int32)  (G : GS) : Option (GS) :=
  if x0 ≤ x1 then (some G) else none
theorem wfJ15_checkLength_0 {F : zF} (hd : 11 ≤ F.2.2.2) (x0 : Int32) (x1 : Int32)  (G : GS) {a : GS} (h : fJ15_checkLength_0 x0 x1  G = some a) (hk : zKV F a) : J mJ15_checkLength F G 0 [(0, vI x0), (1, vI x1)] [] := by
  unfold fJ15_checkLength_0 at h
  refine j_iload_n (j := 1) dJ15_checkLength_0 rfl rfl ?_
  refine j_iload_n (j := 0) dJ15_checkLength_1 rfl rfl ?_
  refine j_icmp_ge (tgt := 37) dJ15_checkLength_2 (by decide) (fun c1 => ?_) (fun c1 => ?_)
  · rw [if_pos c1] at h
    obtain rfl := Option.some.inj h
    exact j_vret hk.1 hk.2 rfl dJ15_checkLength_37
  · rw [if_neg c1] at h
    cases h
theorem yJ15_checkLength_ok {x0 : Int32} {x1 : Int32} {G : GS} {G1 : GS} (h : fJ15_checkLength_0 x0 x1 G = some G1) : zRuns yJ15_checkLength (ws_ yJ15_checkLength cJ15_checkLength 2 none) [vI x0, vI x1] (.inl none, G, G1, 11) :=
  zentry (M := mJ15_checkLength) (plainFor_of_name (by decide +kernel)) ⟨rfl, rfl, rfl, rfl⟩ (Nat.le_of_ble_eq_true rfl) (wfJ15_checkLength_0 (Nat.le_refl _) x0 x1 G h ⟨rfl, rfl⟩)
theorem msJ15_343 : zSS RJ15 343 yJ15_checkLength cJ15_checkLength 2 none 2 := ⟨lw_S q2130 q2131 q141 q2132, (by decide +kernel), (by decide)⟩
abbrev mJ15_copyOfRangeByte : zM := (cJ15_copyOfRangeByte, RJ15, 5, (some (Jvm.ClassFile.FieldType.array Jvm.ClassFile.FieldType.byte)), "copyOfRangeByte", [], "([BII)[B")
def fJ15_copyOfRangeByte_0 (x0 : Option Nat) (x1 : Int32) (x2 : Int32)  (G : GS) : Option ((Option Nat) × GS) :=
  (fJ15_checkLength_0 x1 x2 G).bind fun G2 => (zna G2 53 (x2 - x1)).bind fun G3 => x0.bind fun a5 => (zln G3 a5).bind fun v7 => (fJ14_min_0 (v7 - x1) (x2 - x1) G3).bind fun v10 => none
theorem wfJ15_copyOfRangeByte_0 {F : zF} (hd : 12 ≤ F.2.2.2) (x0 : Option Nat) (x1 : Int32) (x2 : Int32)  (G : GS) {a : (Option Nat) × GS} (h : fJ15_copyOfRangeByte_0 x0 x1 x2  G = some a) (hk : zKR F a) : J mJ15_copyOfRangeByte F G 0 [(0, vR x0), (1, vI x1), (2, vI x2)] [] := by
  unfold fJ15_copyOfRangeByte_0 at h
  refine j_iload_n (j := 1) dJ15_copyOfRangeByte_0 rfl rfl ?_
  refine j_iload_n (j := 2) dJ15_copyOfRangeByte_1 rfl rfl ?_
  replace h := zbE h
  obtain ⟨G2, e1, h⟩ := h
  refine j_cont (zrS (As := [vI x1, vI x2]) msJ15_343 (yJ15_checkLength_ok e1) (Nat.le_trans (Nat.le_of_ble_eq_true rfl) hd) rfl rfl (Nat.le_of_ble_eq_true rfl) dJ15_copyOfRangeByte_2) ?_
  refine j_iload_n (j := 2) dJ15_copyOfRangeByte_5 rfl rfl ?_
  refine j_iload_n (j := 1) dJ15_copyOfRangeByte_6 rfl rfl ?_
  refine j_isub dJ15_copyOfRangeByte_7 ?_
  refine j_istore_n (lv' := [(3, vI (x2 - x1)), (0, vR x0), (1, vI x1), (2, vI x2)]) dJ15_copyOfRangeByte_8 rfl (Nat.le_of_ble_eq_true rfl) rfl ?_
  refine j_iload_n (j := 0) dJ15_copyOfRangeByte_9 rfl rfl ?_
  replace h := zbE h
  obtain ⟨G3, e4, h⟩ := h
  refine j_newa (t := 3) (ty := .byte) rfl rfl q244 (fun _ _ _ e1 e2 e3 => by simp only [zfv, e1, e2, e3] <;> rfl) (by decide) (fun _ _ h => h) e4 dJ15_copyOfRangeByte_10 ?_
  refine j_astore (lv' := [(4, vR (some (gz G2))), (3, vI (x2 - x1)), (0, vR x0), (1, vI x1), (2, vI x2)]) dJ15_copyOfRangeByte_12 (Nat.le_of_ble_eq_true rfl) rfl ?_
  refine j_aload_n (j := 2) dJ15_copyOfRangeByte_14 rfl rfl ?_
  refine j_iload_n (j := 3) dJ15_copyOfRangeByte_15 rfl rfl ?_
  refine j_aload (j := 0) dJ15_copyOfRangeByte_16 rfl ?_
  refine j_iconst (v := 0) dJ15_copyOfRangeByte_18 (by decide) ?_
  refine j_aload_n (j := 2) dJ15_copyOfRangeByte_19 rfl rfl ?_
  replace h := zbE h
  obtain ⟨a5, e6, h⟩ := h
  subst e6
  replace h := zbE h
  obtain ⟨v7, e8, h⟩ := h
  refine j_alen e8 dJ15_copyOfRangeByte_20 ?_
  refine j_iload_n (j := 3) dJ15_copyOfRangeByte_21 rfl rfl ?_
  refine j_isub dJ15_copyOfRangeByte_22 ?_
  refine j_iload_n (j := 1) dJ15_copyOfRangeByte_23 rfl rfl ?_
  replace h := zbE h
  obtain ⟨v10, e9, h⟩ := h
  refine j_cont (zrS (As := [vI (v7 - x1), vI (x2 - x1)]) msJ15_304 (yJ14_min_ok e9) (Nat.le_trans (Nat.le_of_ble_eq_true rfl) hd) rfl rfl (Nat.le_of_ble_eq_true rfl) dJ15_copyOfRangeByte_24) ?_
  cases h
theorem yJ15_copyOfRangeByte_ok {x0 : Option Nat} {x1 : Int32} {x2 : Int32} {G : GS} {r : Option Nat} {G1 : GS} (h : fJ15_copyOfRangeByte_0 x0 x1 x2 G = some (r, G1)) : zRuns yJ15_copyOfRangeByte (ws_ yJ15_copyOfRangeByte cJ15_copyOfRangeByte 5 (some (Jvm.ClassFile.FieldType.array Jvm.ClassFile.FieldType.byte))) [vR x0, vI x1, vI x2] (.inl (some (vR r)), G, G1, 12) :=
  zentry (M := mJ15_copyOfRangeByte) (plainFor_of_name (by decide +kernel)) ⟨rfl, rfl, rfl, rfl⟩ (Nat.le_of_ble_eq_true rfl) (wfJ15_copyOfRangeByte_0 (Nat.le_refl _) x0 x1 x2 G h ⟨rfl, rfl⟩)
theorem msJ15_339 : zSS RJ15 339 yJ15_copyOfRangeByte cJ15_copyOfRangeByte 5 (some (Jvm.ClassFile.FieldType.array Jvm.ClassFile.FieldType.byte)) 3 := ⟨lw_S q2127 q2128 q141 q2129, (by decide +kernel), (by decide)⟩
abbrev mJ15_copyOfRange_2 : zM := (cJ15_copyOfRange_2, RJ15, 3, (some (Jvm.ClassFile.FieldType.array Jvm.ClassFile.FieldType.byte)), "copyOfRange", [], "([BII)[B")
def fJ15_copyOfRange_2_10 (x0 : Option Nat) (x1 : Int32) (x2 : Int32)  (G : GS) : Option ((Option Nat) × GS) :=
  zb2 (fJ15_copyOfRangeByte_0 x0 x1 x2 G) fun r2 G3 => some (r2, G3)
theorem wfJ15_copyOfRange_2_10 {F : zF} (hd : 13 ≤ F.2.2.2) (x0 : Option Nat) (x1 : Int32) (x2 : Int32)  (G : GS) {a : (Option Nat) × GS} (h : fJ15_copyOfRange_2_10 x0 x1 x2  G = some a) (hk : zKR F a) : J mJ15_copyOfRange_2 F G 10 [(0, vR x0), (1, vI x1), (2, vI x2)] [] := by
  unfold fJ15_copyOfRange_2_10 at h
  refine j_aload_n (j := 0) dJ15_copyOfRange_2_10 rfl rfl ?_
  refine j_iload_n (j := 1) dJ15_copyOfRange_2_11 rfl rfl ?_
  refine j_iload_n (j := 2) dJ15_copyOfRange_2_12 rfl rfl ?_
  replace h := zb2E h
  obtain ⟨r2, G3, e1, h⟩ := h
  refine j_cont (zrS (As := [vR x0, vI x1, vI x2]) msJ15_339 (yJ15_copyOfRangeByte_ok e1) (Nat.le_trans (Nat.le_of_ble_eq_true rfl) hd) rfl rfl (Nat.le_of_ble_eq_true rfl) dJ15_copyOfRange_2_13) ?_
  obtain rfl := Option.some.inj h
  exact j_aret hk.1 hk.2 rfl (Or.inr ⟨_, rfl⟩) dJ15_copyOfRange_2_16
def fJ15_copyOfRange_2_0 (x0 : Option Nat) (x1 : Int32) (x2 : Int32)  (G : GS) : Option ((Option Nat) × GS) :=
  if x1 = 0 then (x0.bind fun a2 => (zln G a2).bind fun v4 => if x2 = v4 then none else (fJ15_copyOfRange_2_10 (some a2) x1 x2 G)) else (fJ15_copyOfRange_2_10 x0 x1 x2 G)
theorem wfJ15_copyOfRange_2_0 {F : zF} (hd : 13 ≤ F.2.2.2) (x0 : Option Nat) (x1 : Int32) (x2 : Int32)  (G : GS) {a : (Option Nat) × GS} (h : fJ15_copyOfRange_2_0 x0 x1 x2  G = some a) (hk : zKR F a) : J mJ15_copyOfRange_2 F G 0 [(0, vR x0), (1, vI x1), (2, vI x2)] [] := by
  unfold fJ15_copyOfRange_2_0 at h
  refine j_iload_n (j := 1) dJ15_copyOfRange_2_0 rfl rfl ?_
  refine j_if_ne (tgt := 10) dJ15_copyOfRange_2_1 (by decide) (fun c1 => ?_) (fun c1 => ?_)
  · rw [if_pos c1] at h
    refine j_iload_n (j := 2) dJ15_copyOfRange_2_4 rfl rfl ?_
    refine j_aload_n (j := 0) dJ15_copyOfRange_2_5 rfl rfl ?_
    replace h := zbE h
    obtain ⟨a2, e3, h⟩ := h
    subst e3
    replace h := zbE h
    obtain ⟨v4, e5, h⟩ := h
    refine j_alen e5 dJ15_copyOfRange_2_6 ?_
    refine j_icmp_eq (tgt := 17) dJ15_copyOfRange_2_7 (by decide) (fun c6 => ?_) (fun c6 => ?_)
    · rw [if_pos c6] at h
      refine j_aload_n (j := 0) dJ15_copyOfRange_2_17 rfl rfl ?_
      cases h
    · rw [if_neg c6] at h
      exact J.sub (zall [0, 1, 2] rfl) (wfJ15_copyOfRange_2_10 hd (some a2) x1 x2  G h hk)
  · rw [if_neg c1] at h
    exact J.sub (zall [0, 1, 2] rfl) (wfJ15_copyOfRange_2_10 hd x0 x1 x2  G h hk)
theorem yJ15_copyOfRange_2_ok {x0 : Option Nat} {x1 : Int32} {x2 : Int32} {G : GS} {r : Option Nat} {G1 : GS} (h : fJ15_copyOfRange_2_0 x0 x1 x2 G = some (r, G1)) : zRuns yJ15_copyOfRange_2 (ws_ yJ15_copyOfRange_2 cJ15_copyOfRange_2 3 (some (Jvm.ClassFile.FieldType.array Jvm.ClassFile.FieldType.byte))) [vR x0, vI x1, vI x2] (.inl (some (vR r)), G, G1, 13) :=
  zentry (M := mJ15_copyOfRange_2) (plainFor_of_name (by decide +kernel)) ⟨rfl, rfl, rfl, rfl⟩ (Nat.le_of_ble_eq_true rfl) (wfJ15_copyOfRange_2_0 (Nat.le_refl _) x0 x1 x2 G h ⟨rfl, rfl⟩)
theorem msJ6_71 : zSS RJ6 71 yJ6_getChar cJ6_getChar 2 (some Jvm.ClassFile.FieldType.char) 2 := ⟨lw_S q905 q906 q130 q907, (by decide +kernel), (by decide)⟩
abbrev mJ6_compress_2 : zM := (cJ6_compress_2, RJ6, 7, (some Jvm.ClassFile.FieldType.int), "compress", [], "([BI[BII)I")
def fbJ6_compress_2_10 (x0 : Option Nat) (x1 : Int32) (x2 : Option Nat) (x3 : Int32) (x4 : Int32) (x5 : Int32)  (G : GS) : Option ((Int32 × Int32 × Int32 × GS) ⊕ ((Int32) × GS)) :=
  if x4 ≤ x5 then (zo (some (x4, G))) else (zb2 (fJ6_getChar_0 x0 x1 G) fun v3 G4 => if v3 ≤ 255 then (x2.bind fun a6 => (zsB G4 53 a6 x3 v3.toInt8.toInt32).bind fun G8 => some (.inl ((x1 + 1), (x3 + 1), (x5 + 1), G8))) else (zo (some (x5, G4))))
def flJ6_compress_2_10 (x0 : Option Nat) (x1 : Int32) (x2 : Option Nat) (x3 : Int32) (x4 : Int32) (x5 : Int32) (G : GS) : Option ((Int32) × GS) := zloop (fun s : Int32 × Int32 × Int32 × GS => fbJ6_compress_2_10 x0 s.1 x2 s.2.1 x4 s.2.2.1 s.2.2.2) (x1, x3, x5, G)
theorem wfbJ6_compress_2_10 {F : zF} (hd : 4 ≤ F.2.2.2) (x0 : Option Nat) (x1 : Int32) (x2 : Option Nat) (x3 : Int32) (x4 : Int32) (x5 : Int32) (G : GS) {a : (Int32 × Int32 × Int32 × GS) ⊕ ((Int32) × GS)} (h : fbJ6_compress_2_10 x0 x1 x2 x3 x4 x5 G = some a) (hk : (zcase (fun s : Int32 × Int32 × Int32 × GS => J mJ6_compress_2 F s.2.2.2 10 [(0, vR x0), (1, vI s.1), (2, vR x2), (3, vI s.2.1), (4, vI x4), (5, vI s.2.2.1)] []) (zKI F)) a) : J mJ6_compress_2 F G 10 [(0, vR x0), (1, vI x1), (2, vR x2), (3, vI x3), (4, vI x4), (5, vI x5)] [] := by
  unfold fbJ6_compress_2_10 at h
  refine j_iload (j := 5) dJ6_compress_2_10 rfl ?_
  refine j_iload (j := 4) dJ6_compress_2_12 rfl ?_
  refine j_icmp_ge (tgt := 53) dJ6_compress_2_14 (by decide) (fun c1 => ?_) (fun c1 => ?_)
  · rw [if_pos c1] at h
    replace h := zoE h
    obtain ⟨a, h, rfl⟩ := h
    replace hk := hk
    refine j_iload (j := 4) dJ6_compress_2_53 rfl ?_
    obtain rfl := Option.some.inj h
    exact j_iret hk.1 hk.2 rfl dJ6_compress_2_55
  · rw [if_neg c1] at h
    refine j_aload_n (j := 0) dJ6_compress_2_17 rfl rfl ?_
    refine j_iload_n (j := 1) dJ6_compress_2_18 rfl rfl ?_
    replace h := zb2E h
    obtain ⟨v3, G4, e2, h⟩ := h
    refine j_cont (zrS (As := [vR x0, vI x1]) msJ6_71 (yJ6_getChar_ok e2) (Nat.le_trans (Nat.le_of_ble_eq_true rfl) hd) rfl rfl (Nat.le_of_ble_eq_true rfl) dJ6_compress_2_19) ?_
    refine j_istore (lv' := [(6, vI v3), (0, vR x0), (1, vI x1), (2, vR x2), (3, vI x3), (4, vI x4), (5, vI x5)]) dJ6_compress_2_22 (Nat.le_of_ble_eq_true rfl) rfl ?_
    refine j_iload (j := 0) dJ6_compress_2_24 rfl ?_
    refine j_sipush (v := 255) dJ6_compress_2_26 (by decide) ?_
    refine j_icmp_le (tgt := 35) dJ6_compress_2_29 (by decide) (fun c5 => ?_) (fun c5 => ?_)
    · rw [if_pos c5] at h
      refine j_aload_n (j := 3) dJ6_compress_2_35 rfl rfl ?_
      refine j_iload_n (j := 4) dJ6_compress_2_36 rfl rfl ?_
      refine j_iload (j := 0) dJ6_compress_2_37 rfl ?_
      refine j_i2b dJ6_compress_2_39 ?_
      replace h := zbE h
      obtain ⟨a6, e7, h⟩ := h
      subst e7
      replace h := zbE h
      obtain ⟨G8, e9, h⟩ := h
      refine j_bast e9 dJ6_compress_2_40 ?_
      refine j_iinc (j := 2) (v := (x1 + 1)) (lv' := [(1, vI (x1 + 1)), (6, vI v3), (0, vR x0), (2, vR (some a6)), (3, vI x3), (4, vI x4), (5, vI x5)]) dJ6_compress_2_41 rfl rfl (Nat.le_of_ble_eq_true rfl) rfl ?_
      refine j_iinc (j := 4) (v := (x3 + 1)) (lv' := [(3, vI (x3 + 1)), (1, vI (x1 + 1)), (6, vI v3), (0, vR x0), (2, vR (some a6)), (4, vI x4), (5, vI x5)]) dJ6_compress_2_44 rfl rfl (Nat.le_of_ble_eq_true rfl) rfl ?_
      refine j_iinc (j := 6) (v := (x5 + 1)) (lv' := [(5, vI (x5 + 1)), (3, vI (x3 + 1)), (1, vI (x1 + 1)), (6, vI v3), (0, vR x0), (2, vR (some a6)), (4, vI x4)]) dJ6_compress_2_47 rfl rfl (Nat.le_of_ble_eq_true rfl) rfl ?_
      refine j_goto (tgt := 10) dJ6_compress_2_50 (by decide) ?_
      obtain rfl := Option.some.inj h
      exact J.sub (zall [4, 2, 5, 1, 6, 0] rfl) hk
    · rw [if_neg c5] at h
      replace h := zoE h
      obtain ⟨a, h, rfl⟩ := h
      replace hk := hk
      refine j_iload (j := 6) dJ6_compress_2_32 rfl ?_
      obtain rfl := Option.some.inj h
      exact j_iret hk.1 hk.2 rfl dJ6_compress_2_34
theorem wflJ6_compress_2_10 {F : zF} (hd : 4 ≤ F.2.2.2) (x0 : Option Nat) (x1 : Int32) (x2 : Option Nat) (x3 : Int32) (x4 : Int32) (x5 : Int32) (G : GS) {a : (Int32) × GS} (h : flJ6_compress_2_10 x0 x1 x2 x3 x4 x5 G = some a) (hk : zKI F a) : J mJ6_compress_2 F G 10 [(0, vR x0), (1, vI x1), (2, vR x2), (3, vI x3), (4, vI x4), (5, vI x5)] [] := by
  unfold flJ6_compress_2_10 at h
  exact zloop_walk (P := (fun s : Int32 × Int32 × Int32 × GS => J mJ6_compress_2 F s.2.2.2 10 [(0, vR x0), (1, vI s.1), (2, vR x2), (3, vI s.2.1), (4, vI x4), (5, vI s.2.2.1)] [])) (fun s b e hk => wfbJ6_compress_2_10 hd x0 s.1 x2 s.2.1 x4 s.2.2.1 s.2.2.2 e hk) (x1, x3, x5, G) _ h hk
def fJ6_compress_2_0 (x0 : Option Nat) (x1 : Int32) (x2 : Option Nat) (x3 : Int32) (x4 : Int32)  (G : GS) : Option ((Int32) × GS) :=
  (fJ6_checkBoundsOffCount_0 x1 x4 x0 G).bind fun G2 => flJ6_compress_2_10 x0 x1 x2 x3 x4 0 G2
theorem wfJ6_compress_2_0 {F : zF} (hd : 4 ≤ F.2.2.2) (x0 : Option Nat) (x1 : Int32) (x2 : Option Nat) (x3 : Int32) (x4 : Int32)  (G : GS) {a : (Int32) × GS} (h : fJ6_compress_2_0 x0 x1 x2 x3 x4  G = some a) (hk : zKI F a) : J mJ6_compress_2 F G 0 [(0, vR x0), (1, vI x1), (2, vR x2), (3, vI x3), (4, vI x4)] [] := by
  unfold fJ6_compress_2_0 at h
  refine j_iload_n (j := 1) dJ6_compress_2_0 rfl rfl ?_
  refine j_iload (j := 4) dJ6_compress_2_1 rfl ?_
  refine j_aload_n (j := 0) dJ6_compress_2_3 rfl rfl ?_
  replace h := zbE h
  obtain ⟨G2, e1, h⟩ := h
  refine j_cont (zrS (As := [vI x1, vI x4, vR x0]) msJ6_173 (yJ6_checkBoundsOffCount_ok e1) (Nat.le_trans (Nat.le_of_ble_eq_true rfl) hd) rfl rfl (Nat.le_of_ble_eq_true rfl) dJ6_compress_2_4) ?_
  refine j_iconst (v := 0) dJ6_compress_2_7 (by decide) ?_
  refine j_istore (lv' := [(5, vI 0), (0, vR x0), (1, vI x1), (2, vR x2), (3, vI x3), (4, vI x4)]) dJ6_compress_2_8 (Nat.le_of_ble_eq_true rfl) rfl ?_
  exact J.sub (zall [1, 2, 3, 4, 5, 0] rfl) (wflJ6_compress_2_10 hd x0 x1 x2 x3 x4 0  G2 h hk)
theorem yJ6_compress_2_ok {x0 : Option Nat} {x1 : Int32} {x2 : Option Nat} {x3 : Int32} {x4 : Int32} {G : GS} {r : Int32} {G1 : GS} (h : fJ6_compress_2_0 x0 x1 x2 x3 x4 G = some (r, G1)) : zRuns yJ6_compress_2 (ws_ yJ6_compress_2 cJ6_compress_2 7 (some Jvm.ClassFile.FieldType.int)) [vR x0, vI x1, vR x2, vI x3, vI x4] (.inl (some (vI r)), G, G1, 4) :=
  zentry (M := mJ6_compress_2) (plainFor_of_name (by decide +kernel)) ⟨rfl, rfl, rfl, rfl⟩ (Nat.le_of_ble_eq_true rfl) (wfJ6_compress_2_0 (Nat.le_refl _) x0 x1 x2 x3 x4 G h ⟨rfl, rfl⟩)
end
