/-! printed: functions and walks -/
set_option maxRecDepth 100000
noncomputable section
theorem msJ6_123 : zSS RJ6 123 yJ6_compress_2 cJ6_compress_2 7 (some Jvm.ClassFile.FieldType.int) 5 := ⟨lw_S q2140 q2141 q130 q2142, (by decide +kernel), (by decide)⟩
theorem msJ6_126 : zSS RJ6 126 yJ15_copyOfRange_2 cJ15_copyOfRange_2 3 (some (Jvm.ClassFile.FieldType.array Jvm.ClassFile.FieldType.byte)) 3 := ⟨lw_S q2143 q2125 q141 q2126, (by decide +kernel), (by decide)⟩
abbrev mJ6_compress : zM := (cJ6_compress, RJ6, 6, (some (Jvm.ClassFile.FieldType.array Jvm.ClassFile.FieldType.byte)), "compress", [], "([BII)[B")
def fJ6_compress_0 (x0 : Option Nat) (x1 : Int32) (x2 : Int32)  (G : GS) : Option ((Option Nat) × GS) :=
  (zna G 53 x2).bind fun G1 => zb2 (fJ6_compress_2_0 x0 x1 (some (gz G)) 0 x2 G1) fun v4 G5 => if v4 = x2 then (some ((some (gz G)), G5)) else (zb2 (fJ6_newBytesLength_0 (x1 + x2) G5) fun v8 G9 => zb2 (fJ15_copyOfRange_2_0 x0 (x1 <<< ((1 : Int32) &&& 31)) v8 G9) fun r11 G12 => zb2 (fJ6_getChar_0 r11 v4 G12) fun v14 G15 => if 255 < v14 then (some (r11, G15)) else (zb2 (fJ6_compress_2_0 r11 0 (some (gz G)) 0 x2 G15) fun v18 G19 => if v18 = x2 then (some ((some (gz G)), G19)) else (some (r11, G19))))
theorem wfJ6_compress_0 {F : zF} (hd : 14 ≤ F.2.2.2) (x0 : Option Nat) (x1 : Int32) (x2 : Int32)  (G : GS) {a : (Option Nat) × GS} (h : fJ6_compress_0 x0 x1 x2  G = some a) (hk : zKR F a) : J mJ6_compress F G 0 [(0, vR x0), (1, vI x1), (2, vI x2)] [] := by
  unfold fJ6_compress_0 at h
  refine j_iload_n (j := 2) dJ6_compress_0 rfl rfl ?_
  replace h := zbE h
  obtain ⟨G1, e2, h⟩ := h
  refine j_newa (t := 3) (ty := .byte) rfl rfl q244 (fun _ _ _ e1 e2 e3 => by simp only [zfv, e1, e2, e3] <;> rfl) (by decide) (fun _ _ h => h) e2 dJ6_compress_1 ?_
  refine j_astore_n (lv' := [(3, vR (some (gz G))), (0, vR x0), (1, vI x1), (2, vI x2)]) dJ6_compress_3 rfl (Nat.le_of_ble_eq_true rfl) rfl ?_
  refine j_aload_n (j := 1) dJ6_compress_4 rfl rfl ?_
  refine j_iload_n (j := 2) dJ6_compress_5 rfl rfl ?_
  refine j_aload_n (j := 0) dJ6_compress_6 rfl rfl ?_
  refine j_iconst (v := 0) dJ6_compress_7 (by decide) ?_
  refine j_iload_n (j := 3) dJ6_compress_8 rfl rfl ?_
  replace h := zb2E h
  obtain ⟨v4, G5, e3, h⟩ := h
  refine j_cont (zrS (As := [vR x0, vI x1, vR (some (gz G)), vI 0, vI x2]) msJ6_123 (yJ6_compress_2_ok e3) (Nat.le_trans (Nat.le_of_ble_eq_true rfl) hd) rfl rfl (Nat.le_of_ble_eq_true rfl) dJ6_compress_9) ?_
  refine j_istore (lv' := [(4, vI v4), (3, vR (some (gz G))), (0, vR x0), (1, vI x1), (2, vI x2)]) dJ6_compress_12 (Nat.le_of_ble_eq_true rfl) rfl ?_
  refine j_iload (j := 0) dJ6_compress_14 rfl ?_
  refine j_iload_n (j := 4) dJ6_compress_16 rfl rfl ?_
  refine j_icmp_eq (tgt := 64) dJ6_compress_17 (by decide) (fun c6 => ?_) (fun c6 => ?_)
  · rw [if_pos c6] at h
    refine j_aload_n (j := 1) dJ6_compress_64 rfl rfl ?_
    obtain rfl := Option.some.inj h
    exact j_aret hk.1 hk.2 rfl (Or.inr ⟨_, rfl⟩) dJ6_compress_65
  · rw [if_neg c6] at h
    refine j_aload_n (j := 2) dJ6_compress_20 rfl rfl ?_
    refine j_iload_n (j := 3) dJ6_compress_21 rfl rfl ?_
    refine j_iconst (v := 1) dJ6_compress_22 (by decide) ?_
    refine j_ishl dJ6_compress_23 ?_
    refine j_iload_n (j := 3) dJ6_compress_24 rfl rfl ?_
    refine j_iload_n (j := 4) dJ6_compress_25 rfl rfl ?_
    refine j_iadd dJ6_compress_26 ?_
    replace h := zb2E h
    obtain ⟨v8, G9, e7, h⟩ := h
    refine j_cont (zrS (As := [vI (x1 + x2)]) msJ6_11 (yJ6_newBytesLength_ok e7) (Nat.le_trans (Nat.le_of_ble_eq_true rfl) hd) rfl rfl (Nat.le_of_ble_eq_true rfl) dJ6_compress_27) ?_
    replace h := zb2E h
    obtain ⟨r11, G12, e10, h⟩ := h
    refine j_cont (zrS (As := [vR x0, vI (x1 <<< ((1 : Int32) &&& 31)), vI v8]) msJ6_126 (yJ15_copyOfRange_2_ok e10) (Nat.le_trans (Nat.le_of_ble_eq_true rfl) hd) rfl rfl (Nat.le_of_ble_eq_true rfl) dJ6_compress_30) ?_
    refine j_astore (lv' := [(5, vR r11), (4, vI v4), (3, vR (some (gz G))), (0, vR x0), (1, vI x1), (2, vI x2)]) dJ6_compress_33 (Nat.le_of_ble_eq_true rfl) rfl ?_
    refine j_aload (j := 0) dJ6_compress_35 rfl ?_
    refine j_iload (j := 1) dJ6_compress_37 rfl ?_
    replace h := zb2E h
    obtain ⟨v14, G15, e13, h⟩ := h
    refine j_cont (zrS (As := [vR r11, vI v4]) msJ6_71 (yJ6_getChar_ok e13) (Nat.le_trans (Nat.le_of_ble_eq_true rfl) hd) rfl rfl (Nat.le_of_ble_eq_true rfl) dJ6_compress_39) ?_
    refine j_sipush (v := 255) dJ6_compress_42 (by decide) ?_
    refine j_icmp_gt (tgt := 61) dJ6_compress_45 (by decide) (fun c16 => ?_) (fun c16 => ?_)
    · rw [if_pos c16] at h
      refine j_aload (j := 0) dJ6_compress_61 rfl ?_
      obtain rfl := Option.some.inj h
      exact j_aret hk.1 hk.2 rfl (Or.inr ⟨_, rfl⟩) dJ6_compress_63
    · rw [if_neg c16] at h
      refine j_aload (j := 0) dJ6_compress_48 rfl ?_
      refine j_iconst (v := 0) dJ6_compress_50 (by decide) ?_
      refine j_aload_n (j := 2) dJ6_compress_51 rfl rfl ?_
      refine j_iconst (v := 0) dJ6_compress_52 (by decide) ?_
      refine j_iload_n (j := 5) dJ6_compress_53 rfl rfl ?_
      replace h := zb2E h
      obtain ⟨v18, G19, e17, h⟩ := h
      refine j_cont (zrS (As := [vR r11, vI 0, vR (some (gz G)), vI 0, vI x2]) msJ6_123 (yJ6_compress_2_ok e17) (Nat.le_trans (Nat.le_of_ble_eq_true rfl) hd) rfl rfl (Nat.le_of_ble_eq_true rfl) dJ6_compress_54) ?_
      refine j_iload_n (j := 5) dJ6_compress_57 rfl rfl ?_
      refine j_icmp_eq (tgt := 64) dJ6_compress_58 (by decide) (fun c20 => ?_) (fun c20 => ?_)
      · rw [if_pos c20] at h
        refine j_aload_n (j := 2) dJ6_compress_64 rfl rfl ?_
        obtain rfl := Option.some.inj h
        exact j_aret hk.1 hk.2 rfl (Or.inr ⟨_, rfl⟩) dJ6_compress_65
      · rw [if_neg c20] at h
        refine j_aload (j := 0) dJ6_compress_61 rfl ?_
        obtain rfl := Option.some.inj h
        exact j_aret hk.1 hk.2 rfl (Or.inr ⟨_, rfl⟩) dJ6_compress_63
theorem yJ6_compress_ok {x0 : Option Nat} {x1 : Int32} {x2 : Int32} {G : GS} {r : Option Nat} {G1 : GS} (h : fJ6_compress_0 x0 x1 x2 G = some (r, G1)) : zRuns yJ6_compress (ws_ yJ6_compress cJ6_compress 6 (some (Jvm.ClassFile.FieldType.array Jvm.ClassFile.FieldType.byte))) [vR x0, vI x1, vI x2] (.inl (some (vR r)), G, G1, 14) :=
  zentry (M := mJ6_compress) (plainFor_of_name (by decide +kernel)) ⟨rfl, rfl, rfl, rfl⟩ (Nat.le_of_ble_eq_true rfl) (wfJ6_compress_0 (Nat.le_refl _) x0 x1 x2 G h ⟨rfl, rfl⟩)
abbrev mJ6_coderFromArrayLen : zM := (cJ6_coderFromArrayLen, RJ6, 2, (some Jvm.ClassFile.FieldType.byte), "coderFromArrayLen", [], "([BI)B")
def fJ6_coderFromArrayLen_0 (x0 : Option Nat) (x1 : Int32)  (G : GS) : Option (Int32) :=
  x0.bind fun a1 => (zln G a1).bind fun v3 => zcond (zby ((((x1 - v3).toUInt32 >>> ((31 : Int32).toUInt32 &&& Int32.toUInt32 31)).toInt32).toInt8.toInt32)) (some ((((x1 - v3).toUInt32 >>> ((31 : Int32).toUInt32 &&& Int32.toUInt32 31)).toInt32).toInt8.toInt32))
theorem wfJ6_coderFromArrayLen_0 {F : zF} (hd : 1 ≤ F.2.2.2) (x0 : Option Nat) (x1 : Int32)  (G : GS) {a : Int32} (h : fJ6_coderFromArrayLen_0 x0 x1  G = some a) (hk : zKPI F G a) : J mJ6_coderFromArrayLen F G 0 [(0, vR x0), (1, vI x1)] [] := by
  unfold fJ6_coderFromArrayLen_0 at h
  refine j_iload_n (j := 1) dJ6_coderFromArrayLen_0 rfl rfl ?_
  refine j_aload_n (j := 0) dJ6_coderFromArrayLen_1 rfl rfl ?_
  replace h := zbE h
  obtain ⟨a1, e2, h⟩ := h
  subst e2
  replace h := zbE h
  obtain ⟨v3, e4, h⟩ := h
  refine j_alen e4 dJ6_coderFromArrayLen_2 ?_
  refine j_isub dJ6_coderFromArrayLen_3 ?_
  refine j_bipush (v := 31) dJ6_coderFromArrayLen_4 (by decide) ?_
  refine j_iushr dJ6_coderFromArrayLen_6 ?_
  refine j_i2b dJ6_coderFromArrayLen_7 ?_
  replace h := zcondE h
  obtain ⟨e5, h⟩ := h
  obtain rfl := Option.some.inj h
  exact j_zret hk.1 hk.2 rfl (zby_n e5) dJ6_coderFromArrayLen_8
theorem yJ6_coderFromArrayLen_ok {x0 : Option Nat} {x1 : Int32} {G : GS} {r : Int32} (h : fJ6_coderFromArrayLen_0 x0 x1 G = some r) : zRuns yJ6_coderFromArrayLen (ws_ yJ6_coderFromArrayLen cJ6_coderFromArrayLen 2 (some Jvm.ClassFile.FieldType.byte)) [vR x0, vI x1] (.inl (some (vI r)), G, G, 1) :=
  zentry (M := mJ6_coderFromArrayLen) (plainFor_of_name (by decide +kernel)) ⟨rfl, rfl, rfl, rfl⟩ (Nat.le_of_ble_eq_true rfl) (wfJ6_coderFromArrayLen_0 (Nat.le_refl _) x0 x1 G h ⟨rfl, rfl⟩)
theorem msJ5_552_J4 : zSU RJ5 552 "java/lang/StringBuilder" "java/lang/AbstractStringBuilder" ⟨"java/lang/AbstractStringBuilder", "getValue", "()[B"⟩ yJ3_getValue cJ3_getValue 1 (some (Jvm.ClassFile.FieldType.array Jvm.ClassFile.FieldType.byte)) 0 := ⟨lw_U q2117 q2119 q2120 q2118 q127 q2121, rfl, (by decide +kernel), (by decide)⟩
abbrev mJ5_init_2 : zM := (cJ5_init_2, RJ5, 5, none, "<init>", [], "(Ljava/lang/AbstractStringBuilder;Ljava/lang/Void;)V")
def fJ5_init_2_0 (t : Nat) (x1 : Option Nat) (x2 : Option Nat)  (G : GS) : Option (GS) :=
  x1.bind fun a1 => zk [22] G a1 <| (fJ3_getValue_0 a1 G).bind fun r5 => none
theorem wfJ5_init_2_0 {F : zF} (hd : 15 ≤ F.2.2.2) (t : Nat) (x1 : Option Nat) (x2 : Option Nat)  (G : GS) {a : GS} (h : fJ5_init_2_0 t x1 x2  G = some a) (hk : zKV F a) : J mJ5_init_2 F G 0 [(0, vR (some t)), (1, vR x1), (2, vR x2)] [] := by
  unfold fJ5_init_2_0 at h
  refine j_aload_n (j := 0) dJ5_init_2_0 rfl rfl ?_
  refine j_objinit q2116 q181 q182 (Nat.le_trans (Nat.le_of_ble_eq_true rfl) hd) (Nat.le_of_ble_eq_true rfl) dJ5_init_2_1 ?_
  refine j_aload_n (j := 1) dJ5_init_2_4 rfl rfl ?_
  replace h := zbE h
  obtain ⟨a1, e2, h⟩ := h
  subst e2
  replace h := zkE h
  obtain ⟨e3, h⟩ := h
  replace h := zbE h
  obtain ⟨r5, e4, h⟩ := h
  refine j_cont (zrU (As := []) msJ5_552_J4 (yJ3_getValue_ok e4) (Nat.le_trans (Nat.le_of_ble_eq_true rfl) hd) (zk_22 _ e3) rfl rfl (Nat.le_of_ble_eq_true rfl) dJ5_init_2_5) ?_
  refine j_astore_n (lv' := [(3, vR r5), (0, vR (some t)), (1, vR (some a1)), (2, vR x2)]) dJ5_init_2_8 rfl (Nat.le_of_ble_eq_true rfl) rfl ?_
  refine j_aload_n (j := 2) dJ5_init_2_9 rfl rfl ?_
  cases h
theorem yJ5_init_2_ok {t : Nat} {x1 : Option Nat} {x2 : Option Nat} {G : GS} {G1 : GS} (h : fJ5_init_2_0 t x1 x2 G = some G1) : zRuns yJ5_init_2 (ws_ yJ5_init_2 cJ5_init_2 5 none) [vR (some t), vR x1, vR x2] (.inl none, G, G1, 15) :=
  zentry (M := mJ5_init_2) (plainFor_of_name (by decide +kernel)) ⟨rfl, rfl, rfl, rfl⟩ (Nat.le_of_ble_eq_true rfl) (wfJ5_init_2_0 (Nat.le_refl _) t x1 x2 G h ⟨rfl, rfl⟩)
theorem msJ5_489 : zSI RJ5 489 yJ5_init_2 cJ5_init_2 5 2 := ⟨q2115, q129, q2113, q2114, rfl, (by decide +kernel), (by decide)⟩
abbrev mJ5_init : zM := (cJ5_init, RJ5, 2, none, "<init>", [], "(Ljava/lang/StringBuilder;)V")
def fJ5_init_0 (t : Nat) (x1 : Option Nat)  (G : GS) : Option (GS) :=
  (fJ5_init_2_0 t x1 none G).bind fun G2 => some G2
theorem wfJ5_init_0 {F : zF} (hd : 16 ≤ F.2.2.2) (t : Nat) (x1 : Option Nat)  (G : GS) {a : GS} (h : fJ5_init_0 t x1  G = some a) (hk : zKV F a) : J mJ5_init F G 0 [(0, vR (some t)), (1, vR x1)] [] := by
  unfold fJ5_init_0 at h
  refine j_aload_n (j := 0) dJ5_init_0 rfl rfl ?_
  refine j_aload_n (j := 1) dJ5_init_1 rfl rfl ?_
  refine j_null dJ5_init_2 ?_
  replace h := zbE h
  obtain ⟨G2, e1, h⟩ := h
  refine j_cont (zrI (As := [vR x1, vR none]) msJ5_489 (yJ5_init_2_ok e1) (Nat.le_trans (Nat.le_of_ble_eq_true rfl) hd) rfl rfl (Nat.le_of_ble_eq_true rfl) dJ5_init_3) ?_
  obtain rfl := Option.some.inj h
  exact j_vret hk.1 hk.2 rfl dJ5_init_6
theorem yJ5_init_ok {t : Nat} {x1 : Option Nat} {G : GS} {G1 : GS} (h : fJ5_init_0 t x1 G = some G1) : zRuns yJ5_init (ws_ yJ5_init cJ5_init 2 none) [vR (some t), vR x1] (.inl none, G, G1, 16) :=
  zentry (M := mJ5_init) (plainFor_of_name (by decide +kernel)) ⟨rfl, rfl, rfl, rfl⟩ (Nat.le_of_ble_eq_true rfl) (wfJ5_init_0 (Nat.le_refl _) t x1 G h ⟨rfl, rfl⟩)
abbrev mJ4_toString : zM := (cJ4_toString, RJ4, 1, (some (Jvm.ClassFile.FieldType.object "java/lang/String")), "toString", [], "()Ljava/lang/String;")
def fJ4_toString_0 (t : Nat)  (G : GS) : Option ((Option Nat) × GS) :=
  none
theorem wfJ4_toString_0 {F : zF} (hd : 17 ≤ F.2.2.2) (t : Nat)  (G : GS) {a : (Option Nat) × GS} (h : fJ4_toString_0 t  G = some a) (hk : zKR F a) : J mJ4_toString F G 0 [(0, vR (some t))] [] := by
  unfold fJ4_toString_0 at h
  cases h
theorem yJ4_toString_ok {t : Nat} {G : GS} {r : Option Nat} {G1 : GS} (h : fJ4_toString_0 t G = some (r, G1)) : zRuns yJ4_toString (ws_ yJ4_toString cJ4_toString 1 (some (Jvm.ClassFile.FieldType.object "java/lang/String"))) [vR (some t)] (.inl (some (vR r)), G, G1, 17) :=
  zentry (M := mJ4_toString) (plainFor_of_name (by decide +kernel)) ⟨rfl, rfl, rfl, rfl⟩ (Nat.le_of_ble_eq_true rfl) (wfJ4_toString_0 (Nat.le_refl _) t G h ⟨rfl, rfl⟩)
theorem msJ2_22 : zSI RJ2 22 yJ4_init cJ4_init 1 0 := ⟨q216, q128, q2273, q215, rfl, (by decide +kernel), (by decide)⟩
abbrev mJ2_outOfBoundsMsg : zM := (cJ2_outOfBoundsMsg, RJ2, 2, (some (Jvm.ClassFile.FieldType.object "java/lang/String")), "outOfBoundsMsg", [], "(I)Ljava/lang/String;")
def fJ2_outOfBoundsMsg_0 (t : Nat) (x1 : Int32)  (G : GS) : Option ((Option Nat) × GS) :=
  zl (al G 22 0 4) fun G1 => (fJ4_init_0 (gz G) G1).bind fun G4 => none
theorem wfJ2_outOfBoundsMsg_0 {F : zF} (hd : 18 ≤ F.2.2.2) (t : Nat) (x1 : Int32)  (G : GS) {a : (Option Nat) × GS} (h : fJ2_outOfBoundsMsg_0 t x1  G = some a) (hk : zKR F a) : J mJ2_outOfBoundsMsg F G 0 [(0, vR (some t)), (1, vI x1)] [] := by
  unfold fJ2_outOfBoundsMsg_0 at h
  replace h := zlE h
  obtain ⟨G1, e2, h⟩ := h
  refine j_new (c := 21) (n := 4) (r := (RJ4, TJ4, 4, tyJ4)) rfl rfl in_J4 tyJ4_ok nwJ4 q2272 q213 q128 dJ2_outOfBoundsMsg_0 ?_
  rw [show al G (21 + 1) 0 4 = G1 from e2.symm]
  refine j_dup dJ2_outOfBoundsMsg_3 rfl ?_
  replace h := zbE h
  obtain ⟨G4, e3, h⟩ := h
  refine j_cont (zrI (As := []) msJ2_22 (yJ4_init_ok e3) (Nat.le_trans (Nat.le_of_ble_eq_true rfl) hd) rfl rfl (Nat.le_of_ble_eq_true rfl) dJ2_outOfBoundsMsg_4) ?_
  cases h
theorem yJ2_outOfBoundsMsg_ok {t : Nat} {x1 : Int32} {G : GS} {r : Option Nat} {G1 : GS} (h : fJ2_outOfBoundsMsg_0 t x1 G = some (r, G1)) : zRuns yJ2_outOfBoundsMsg (ws_ yJ2_outOfBoundsMsg cJ2_outOfBoundsMsg 2 (some (Jvm.ClassFile.FieldType.object "java/lang/String"))) [vR (some t), vI x1] (.inl (some (vR r)), G, G1, 18) :=
  zentry (M := mJ2_outOfBoundsMsg) (plainFor_of_name (by decide +kernel)) ⟨rfl, rfl, rfl, rfl⟩ (Nat.le_of_ble_eq_true rfl) (wfJ2_outOfBoundsMsg_0 (Nat.le_refl _) t x1 G h ⟨rfl, rfl⟩)
abbrev mJ2_rangeCheckForAdd : zM := (cJ2_rangeCheckForAdd, RJ2, 2, none, "rangeCheckForAdd", [], "(I)V")
def fJ2_rangeCheckForAdd_12 (t : Nat) (x1 : Int32)  (G : GS) : Option (GS) :=
  none
theorem wfJ2_rangeCheckForAdd_12 {F : zF} (hd : 19 ≤ F.2.2.2) (t : Nat) (x1 : Int32)  (G : GS) {a : GS} (h : fJ2_rangeCheckForAdd_12 t x1  G = some a) (hk : zKV F a) : J mJ2_rangeCheckForAdd F G 12 [(0, vR (some t)), (1, vI x1)] [] := by
  unfold fJ2_rangeCheckForAdd_12 at h
  cases h
def fJ2_rangeCheckForAdd_0 (t : Nat) (x1 : Int32)  (G : GS) : Option (GS) :=
  (zgI G 12 t 2).bind fun v1 => if v1 < x1 then (fJ2_rangeCheckForAdd_12 t x1 G) else (if 0 ≤ x1 then (some G) else (fJ2_rangeCheckForAdd_12 t x1 G))
theorem wfJ2_rangeCheckForAdd_0 {F : zF} (hd : 19 ≤ F.2.2.2) (t : Nat) (x1 : Int32)  (G : GS) {a : GS} (h : fJ2_rangeCheckForAdd_0 t x1  G = some a) (hk : zKV F a) : J mJ2_rangeCheckForAdd F G 0 [(0, vR (some t)), (1, vI x1)] [] := by
  unfold fJ2_rangeCheckForAdd_0 at h
  refine j_iload_n (j := 1) dJ2_rangeCheckForAdd_0 rfl rfl ?_
  refine j_aload_n (j := 0) dJ2_rangeCheckForAdd_1 rfl rfl ?_
  replace h := zbE h
  obtain ⟨v1, e2, h⟩ := h
  refine j_getI fgJ2_48 (fun _ _ _ => rfl) dJ2_rangeCheckForAdd_2 e2 ?_
  refine j_icmp_gt (tgt := 12) dJ2_rangeCheckForAdd_5 (by decide) (fun c3 => ?_) (fun c3 => ?_)
  · rw [if_pos c3] at h
    exact J.sub (zall [0, 1] rfl) (wfJ2_rangeCheckForAdd_12 hd t x1  G h hk)
  · rw [if_neg c3] at h
    refine j_iload_n (j := 1) dJ2_rangeCheckForAdd_8 rfl rfl ?_
    refine j_if_ge (tgt := 25) dJ2_rangeCheckForAdd_9 (by decide) (fun c4 => ?_) (fun c4 => ?_)
    · rw [if_pos c4] at h
      obtain rfl := Option.some.inj h
      exact j_vret hk.1 hk.2 rfl dJ2_rangeCheckForAdd_25
    · rw [if_neg c4] at h
      exact J.sub (zall [0, 1] rfl) (wfJ2_rangeCheckForAdd_12 hd t x1  G h hk)
theorem yJ2_rangeCheckForAdd_ok {t : Nat} {x1 : Int32} {G : GS} {G1 : GS} (h : fJ2_rangeCheckForAdd_0 t x1 G = some G1) : zRuns yJ2_rangeCheckForAdd (ws_ yJ2_rangeCheckForAdd cJ2_rangeCheckForAdd 2 none) [vR (some t), vI x1] (.inl none, G, G1, 19) :=
  zentry (M := mJ2_rangeCheckForAdd) (plainFor_of_name (by decide +kernel)) ⟨rfl, rfl, rfl, rfl⟩ (Nat.le_of_ble_eq_true rfl) (wfJ2_rangeCheckForAdd_0 (Nat.le_refl _) t x1 G h ⟨rfl, rfl⟩)
theorem msJ2_135 : zSV RJ2 135 RJ2 yJ2_rangeCheckForAdd cJ2_rangeCheckForAdd 2 none 1 := ⟨lw_V q2263 q2265 qs42 q126 q2266, (by decide +kernel), (by decide)⟩
abbrev mJ2_add_3 : zM := (cJ2_add_3, RJ2, 5, none, "add", [], "(ILjava/lang/Object;)V")
def fJ2_add_3_38 (t : Nat) (x1 : Int32) (x2 : Option Nat) (x3 : Int32) (x4 : Option Nat)  (G : GS) : Option (GS) :=
  x4.bind fun a1 => (zcpR G a1 x1 a1 (x1 + 1) (x3 - x1)).bind fun G3 => (zsR G3 54 a1 x1 x2 [3, 6, 10, 21, 61]).bind fun G5 => (zpI G5 12 t 2 (x3 + 1)).bind fun G7 => some G7
theorem wfJ2_add_3_38 {F : zF} (hd : 20 ≤ F.2.2.2) (t : Nat) (x1 : Int32) (x2 : Option Nat) (x3 : Int32) (x4 : Option Nat)  (G : GS) {a : GS} (h : fJ2_add_3_38 t x1 x2 x3 x4  G = some a) (hk : zKV F a) : J mJ2_add_3 F G 38 [(0, vR (some t)), (1, vI x1), (2, vR x2), (3, vI x3), (4, vR x4)] [] := by
  unfold fJ2_add_3_38 at h
  refine j_aload (j := 4) dJ2_add_3_38 rfl ?_
  refine j_iload_n (j := 1) dJ2_add_3_40 rfl rfl ?_
  refine j_aload (j := 4) dJ2_add_3_41 rfl ?_
  refine j_iload_n (j := 1) dJ2_add_3_43 rfl rfl ?_
  refine j_iconst (v := 1) dJ2_add_3_44 (by decide) ?_
  refine j_iadd dJ2_add_3_45 ?_
  refine j_iload_n (j := 3) dJ2_add_3_46 rfl rfl ?_
  refine j_iload_n (j := 1) dJ2_add_3_47 rfl rfl ?_
  refine j_isub dJ2_add_3_48 ?_
  replace h := zbE h
  obtain ⟨a1, e2, h⟩ := h
  subst e2
  replace h := zbE h
  obtain ⟨G3, e4, h⟩ := h
  refine j_cpR e4 q1842 q816 q815 q142 (Nat.le_trans (Nat.le_of_ble_eq_true rfl) hd) (Nat.le_of_ble_eq_true rfl) dJ2_add_3_49 ?_
  refine j_aload (j := 4) dJ2_add_3_52 rfl ?_
  refine j_iload_n (j := 1) dJ2_add_3_54 rfl rfl ?_
  refine j_aload_n (j := 2) dJ2_add_3_55 rfl rfl ?_
  replace h := zbE h
  obtain ⟨G5, e6, h⟩ := h
  refine j_aast (t := 4) rfl e6 zobjK dJ2_add_3_56 ?_
  refine j_aload_n (j := 0) dJ2_add_3_57 rfl rfl ?_
  refine j_iload_n (j := 3) dJ2_add_3_58 rfl rfl ?_
  refine j_iconst (v := 1) dJ2_add_3_59 (by decide) ?_
  refine j_iadd dJ2_add_3_60 ?_
  replace h := zbE h
  obtain ⟨G7, e8, h⟩ := h
  refine j_putI fpJ2_48_J2 (Or.inl rfl) rfl dJ2_add_3_61 e8 ?_
  obtain rfl := Option.some.inj h
  exact j_vret hk.1 hk.2 rfl dJ2_add_3_64
def fJ2_add_3_0 (t : Nat) (x1 : Int32) (x2 : Option Nat)  (G : GS) : Option (GS) :=
  zk [12] G t <| (fJ2_rangeCheckForAdd_0 t x1 G).bind fun G3 => (zgI G3 12 t 0).bind fun v4 => (zpI G3 12 t 0 (v4 + 1)).bind fun G6 => (zgI G6 12 t 2).bind fun v8 => (zgR G6 12 t 1).bind fun r10 => r10.bind fun a12 => (zln G6 a12).bind fun v14 => if v8 = v14 then (zk [12] G6 t <| zb2 (fJ2_grow_0 t G6) fun r19 G20 => fJ2_add_3_38 t x1 x2 v8 r19 G20) else (fJ2_add_3_38 t x1 x2 v8 (some a12) G6)
theorem wfJ2_add_3_0 {F : zF} (hd : 20 ≤ F.2.2.2) (t : Nat) (x1 : Int32) (x2 : Option Nat)  (G : GS) {a : GS} (h : fJ2_add_3_0 t x1 x2  G = some a) (hk : zKV F a) : J mJ2_add_3 F G 0 [(0, vR (some t)), (1, vI x1), (2, vR x2)] [] := by
  unfold fJ2_add_3_0 at h
  refine j_aload_n (j := 0) dJ2_add_3_0 rfl rfl ?_
  refine j_iload_n (j := 1) dJ2_add_3_1 rfl rfl ?_
  replace h := zkE h
  obtain ⟨e1, h⟩ := h
  replace h := zbE h
  obtain ⟨G3, e2, h⟩ := h
  refine j_cont (zrV (As := [vI x1]) msJ2_135 (yJ2_rangeCheckForAdd_ok e2) (Nat.le_trans (Nat.le_of_ble_eq_true rfl) hd) (zk_12 _ e1) rfl rfl (Nat.le_of_ble_eq_true rfl) dJ2_add_3_2) ?_
  refine j_aload_n (j := 0) dJ2_add_3_5 rfl rfl ?_
  refine j_dup dJ2_add_3_6 rfl ?_
  replace h := zbE h
  obtain ⟨v4, e5, h⟩ := h
  refine j_getI fgJ2_63 (fun _ _ _ => rfl) dJ2_add_3_7 e5 ?_
  refine j_iconst (v := 1) dJ2_add_3_10 (by decide) ?_
  refine j_iadd dJ2_add_3_11 ?_
  replace h := zbE h
  obtain ⟨G6, e7, h⟩ := h
  refine j_putI fpJ2_63_J2 (Or.inl rfl) rfl dJ2_add_3_12 e7 ?_
  refine j_aload_n (j := 0) dJ2_add_3_15 rfl rfl ?_
  replace h := zbE h
  obtain ⟨v8, e9, h⟩ := h
  refine j_getI fgJ2_48 (fun _ _ _ => rfl) dJ2_add_3_16 e9 ?_
  refine j_dup dJ2_add_3_19 rfl ?_
  refine j_istore_n (lv' := [(3, vI v8), (0, vR (some t)), (1, vI x1), (2, vR x2)]) dJ2_add_3_20 rfl (Nat.le_of_ble_eq_true rfl) rfl ?_
  refine j_aload_n (j := 1) dJ2_add_3_21 rfl rfl ?_
  replace h := zbE h
  obtain ⟨r10, e11, h⟩ := h
  refine j_getR fgJ2_9 (fun _ _ _ => rfl) dJ2_add_3_22 e11 ?_
  refine j_dup dJ2_add_3_25 rfl ?_
  refine j_astore (lv' := [(4, vR r10), (3, vI v8), (0, vR (some t)), (1, vI x1), (2, vR x2)]) dJ2_add_3_26 (Nat.le_of_ble_eq_true rfl) rfl ?_
  replace h := zbE h
  obtain ⟨a12, e13, h⟩ := h
  subst e13
  replace h := zbE h
  obtain ⟨v14, e15, h⟩ := h
  refine j_alen e15 dJ2_add_3_28 ?_
  refine j_icmp_ne (tgt := 38) dJ2_add_3_29 (by decide) (fun c16 => ?_) (fun c16 => ?_)
  · rw [if_pos c16] at h
    refine j_aload_n (j := 2) dJ2_add_3_32 rfl rfl ?_
    replace h := zkE h
    obtain ⟨e17, h⟩ := h
    replace h := zb2E h
    obtain ⟨r19, G20, e18, h⟩ := h
    refine j_cont (zrV (As := []) msJ2_129 (yJ2_grow_ok e18) (Nat.le_trans (Nat.le_of_ble_eq_true rfl) hd) (zk_12 _ e17) rfl rfl (Nat.le_of_ble_eq_true rfl) dJ2_add_3_33) ?_
    refine j_astore (lv' := [(4, vR r19), (3, vI v8), (0, vR (some t)), (1, vI x1), (2, vR x2)]) dJ2_add_3_36 (Nat.le_of_ble_eq_true rfl) rfl ?_
    exact J.sub (zall [2, 3, 4, 1, 0] rfl) (wfJ2_add_3_38 hd t x1 x2 v8 r19  G20 h hk)
  · rw [if_neg c16] at h
    exact J.sub (zall [2, 3, 4, 1, 0] rfl) (wfJ2_add_3_38 hd t x1 x2 v8 (some a12)  G6 h hk)
theorem yJ2_add_3_ok {t : Nat} {x1 : Int32} {x2 : Option Nat} {G : GS} {G1 : GS} (h : fJ2_add_3_0 t x1 x2 G = some G1) : zRuns yJ2_add_3 (ws_ yJ2_add_3 cJ2_add_3 5 none) [vR (some t), vI x1, vR x2] (.inl none, G, G1, 20) :=
  zentry (M := mJ2_add_3) (plainFor_of_name (by decide +kernel)) ⟨rfl, rfl, rfl, rfl⟩ (Nat.le_of_ble_eq_true rfl) (wfJ2_add_3_0 (Nat.le_refl _) t x1 x2 G h ⟨rfl, rfl⟩)
theorem fgX4_84 : zFG RX4 84 3 2 (.int) := ⟨(RX4, TX4, 3, tyX4), rfl, by decide, in_X4, rfl, "SelahGenerator$Workshop", Or.inl rfl, Or.inl q2205⟩
theorem fpX4_84_X4 : zFP RX4 84 3 2 (.int) false := ⟨(RX4, TX4, 3, tyX4), rfl, by decide, in_X4, tyX4_ok, nmX4, rfl, rfl, (by decide), "SelahGenerator$Workshop", Or.inl rfl, q2205⟩
theorem msX4_101_J2 : zSF RX4 101 RJ2 ⟨"java/util/List", "add", "(ILjava/lang/Object;)V"⟩ yJ2_add_3 cJ2_add_3 5 none 2 := ⟨lw_F q2255 q2258 q2260 q126 q2262, zfw 5 rfl, ⟨11, _, rfl, rfl⟩, (by decide +kernel), (by decide)⟩
theorem msX4_91_J2 : zSF RX4 91 RJ2 ⟨"java/util/List", "remove", "(I)Ljava/lang/Object;"⟩ yJ2_remove cJ2_remove 4 (some (Jvm.ClassFile.FieldType.object "java/lang/Object")) 1 := ⟨lw_F q2248 q1833 q1835 q126 q1837, zfw 13 rfl, ⟨11, _, rfl, rfl⟩, (by decide +kernel), (by decide)⟩
abbrev mX4_replaceFirst : zM := (cX4_replaceFirst, RX4, 8, (some Jvm.ClassFile.FieldType.boolean), "replaceFirst", [], "(II)Z")
def fX4_replaceFirst_201 (t : Nat) (x1 : Int32) (x2 : Int32) (x3 : Int32)  (G : GS) : Option ((Int32) ⊕ (((Int32) ⊕ String) × GS)) :=
  some (.inl ((x3 + 1)))
theorem wfX4_replaceFirst_201 {F : zF} (hd : 21 ≤ F.2.2.2) (t : Nat) (x1 : Int32) (x2 : Int32) (x3 : Int32)  (G : GS) {a : (Int32) ⊕ (((Int32) ⊕ String) × GS)} (h : fX4_replaceFirst_201 t x1 x2 x3  G = some a) (hk : (zcase (fun s : Int32 => J mX4_replaceFirst F G 2 [(0, vR (some t)), (1, vI x1), (2, vI x2), (3, vI s)] []) (zKXI F)) a) : J mX4_replaceFirst F G 201 [(0, vR (some t)), (1, vI x1), (2, vI x2), (3, vI x3)] [] := by
  unfold fX4_replaceFirst_201 at h
  refine j_iinc (j := 3) (v := (x3 + 1)) (lv' := [(3, vI (x3 + 1)), (0, vR (some t)), (1, vI x1), (2, vI x2)]) dX4_replaceFirst_201 rfl rfl (Nat.le_of_ble_eq_true rfl) rfl ?_
  refine j_goto (tgt := 2) dX4_replaceFirst_204 (by decide) ?_
  obtain rfl := Option.some.inj h
  exact J.sub (zall [1, 2, 3, 0] rfl) hk
def fbX4_replaceFirst_139 (t : Nat) (x1 : Int32) (x3 : Int32) (x5 : Option Nat) (x6 : Option Nat) (x7 : Int32)  (G : GS) : Option ((Int32 × GS) ⊕ (((Int32) ⊕ String) × GS)) :=
  x5.bind fun a1 => zk [12] G a1 <| (fJ2_size_0 a1 G).bind fun v5 => if v5 ≤ x7 then (zo (zcond (zbb 1) (some (.inl 1, G)))) else ((zgR G 4 t 0).bind fun r8 => zl (al G 3 0 2) fun G10 => zk [12] G10 a1 <| (fJ2_get_0 a1 x7 G10).bind fun r14 => zkq [3] G10 r14 (r14.bind fun a16 => (zgR G10 3 a16 1).bind fun r18 => x6.bind fun a20 => zk [3] G10 a20 <| zb2 (fX3_rest_0 a20 1 r18 G10) fun r24 G25 => (fX3_init_0 (gz G) x1 r24 G25).bind fun G27 => r8.bind fun a28 => zk [12] G27 a28 <| (fJ2_add_3_0 a28 (x3 + x7) (some (gz G)) G27).bind fun G32 => some (.inl ((x7 + 1), G32))))
def flX4_replaceFirst_139 (t : Nat) (x1 : Int32) (x3 : Int32) (x5 : Option Nat) (x6 : Option Nat) (x7 : Int32) (G : GS) : Option (((Int32) ⊕ String) × GS) := zloop (fun s : Int32 × GS => fbX4_replaceFirst_139 t x1 x3 x5 x6 s.1 s.2) (x7, G)
theorem wfbX4_replaceFirst_139 {F : zF} (hd : 21 ≤ F.2.2.2) (t : Nat) (x1 : Int32) (x3 : Int32) (x5 : Option Nat) (x6 : Option Nat) (x7 : Int32) (G : GS) {a : (Int32 × GS) ⊕ (((Int32) ⊕ String) × GS)} (h : fbX4_replaceFirst_139 t x1 x3 x5 x6 x7 G = some a) (hk : (zcase (fun s : Int32 × GS => J mX4_replaceFirst F s.2 139 [(0, vR (some t)), (1, vI x1), (3, vI x3), (5, vR x5), (6, vR x6), (7, vI s.1)] []) (zKXI F)) a) : J mX4_replaceFirst F G 139 [(0, vR (some t)), (1, vI x1), (3, vI x3), (5, vR x5), (6, vR x6), (7, vI x7)] [] := by
  unfold fbX4_replaceFirst_139 at h
  refine j_iload (j := 5) dX4_replaceFirst_139 rfl ?_
  refine j_aload (j := 3) dX4_replaceFirst_141 rfl ?_
  replace h := zbE h
  obtain ⟨a1, e2, h⟩ := h
  subst e2
  replace h := zkE h
  obtain ⟨e3, h⟩ := h
  replace h := zbE h
  obtain ⟨v5, e4, h⟩ := h
  refine j_cont (zrF (As := []) msX4_60_J2 (yJ2_size_ok e4) (Nat.le_trans (Nat.le_of_ble_eq_true rfl) hd) (zk_12 _ e3) rfl rfl (Nat.le_of_ble_eq_true rfl) dX4_replaceFirst_143) ?_
  refine j_icmp_ge (tgt := 199) dX4_replaceFirst_148 (by decide) (fun c6 => ?_) (fun c6 => ?_)
  · rw [if_pos c6] at h
    replace h := zoE h
    obtain ⟨a, h, rfl⟩ := h
    replace hk := hk
    refine j_iconst (v := 1) dX4_replaceFirst_199 (by decide) ?_
    replace h := zcondE h
    obtain ⟨e7, h⟩ := h
    obtain rfl := Option.some.inj h
    exact j_zret hk.1 hk.2 rfl (zbb_n e7) dX4_replaceFirst_200
  · rw [if_neg c6] at h
    refine j_aload_n (j := 0) dX4_replaceFirst_151 rfl rfl ?_
    replace h := zbE h
    obtain ⟨r8, e9, h⟩ := h
    refine j_getR fgX4_14 (fun _ _ _ => rfl) dX4_replaceFirst_152 e9 ?_
    refine j_iload_n (j := 2) dX4_replaceFirst_155 rfl rfl ?_
    refine j_iload (j := 5) dX4_replaceFirst_156 rfl ?_
    refine j_iadd dX4_replaceFirst_158 ?_
    replace h := zlE h
    obtain ⟨G10, e11, h⟩ := h
    refine j_new (c := 2) (n := 2) (r := (RX3, TX3, 2, tyX3)) rfl rfl in_X3 tyX3_ok nwX3 q399 q1727 q138 dX4_replaceFirst_159 ?_
    rw [show al G (2 + 1) 0 2 = G10 from e11.symm]
    refine j_dup dX4_replaceFirst_162 rfl ?_
    refine j_iload_n (j := 1) dX4_replaceFirst_163 rfl rfl ?_
    refine j_aload (j := 4) dX4_replaceFirst_164 rfl ?_
    refine j_iconst (v := 1) dX4_replaceFirst_166 (by decide) ?_
    refine j_aload (j := 3) dX4_replaceFirst_167 rfl ?_
    refine j_iload (j := 5) dX4_replaceFirst_169 rfl ?_
    replace h := zkE h
    obtain ⟨e12, h⟩ := h
    replace h := zbE h
    obtain ⟨r14, e13, h⟩ := h
    refine j_cont (zrF (As := [vI x7]) msX4_80_J2 (yJ2_get_ok e13) (Nat.le_trans (Nat.le_of_ble_eq_true rfl) hd) (zk_12 _ e12) rfl rfl (Nat.le_of_ble_eq_true rfl) dX4_replaceFirst_171) ?_
    replace h := zkqE h
    obtain ⟨e15, h⟩ := h
    refine j_castq (fun k => j_castN dX4_replaceFirst_176 k) (fun b q33 k => j_castS (zk_3 _ (e15 b q33)) ⟨2, _, rfl, rfl⟩ q399 dX4_replaceFirst_176 k) ?_
    replace h := zbE h
    obtain ⟨a16, e17, h⟩ := h
    subst e17
    replace h := zbE h
    obtain ⟨r18, e19, h⟩ := h
    refine j_getR fgX4_42 (fun _ _ _ => rfl) dX4_replaceFirst_179 e19 ?_
    replace h := zbE h
    obtain ⟨a20, e21, h⟩ := h
    subst e21
    replace h := zkE h
    obtain ⟨e22, h⟩ := h
    replace h := zb2E h
    obtain ⟨r24, G25, e23, h⟩ := h
    refine j_cont (zrV (As := [vI 1, vR r18]) msX4_94 (yX3_rest_ok e23) (Nat.le_trans (Nat.le_of_ble_eq_true rfl) hd) (zk_3 _ e22) rfl rfl (Nat.le_of_ble_eq_true rfl) dX4_replaceFirst_182) ?_
    replace h := zbE h
    obtain ⟨G27, e26, h⟩ := h
    refine j_cont (zrI (As := [vI x1, vR r24]) msX4_98 (yX3_init_ok e26) (Nat.le_trans (Nat.le_of_ble_eq_true rfl) hd) rfl rfl (Nat.le_of_ble_eq_true rfl) dX4_replaceFirst_185) ?_
    replace h := zbE h
    obtain ⟨a28, e29, h⟩ := h
    subst e29
    replace h := zkE h
    obtain ⟨e30, h⟩ := h
    replace h := zbE h
    obtain ⟨G32, e31, h⟩ := h
    refine j_cont (zrF (As := [vI (x3 + x7), vR (some (gz G))]) msX4_101_J2 (yJ2_add_3_ok e31) (Nat.le_trans (Nat.le_of_ble_eq_true rfl) hd) (zk_12 _ e30) rfl rfl (Nat.le_of_ble_eq_true rfl) dX4_replaceFirst_188) ?_
    refine j_iinc (j := 5) (v := (x7 + 1)) (lv' := [(7, vI (x7 + 1)), (0, vR (some t)), (1, vI x1), (3, vI x3), (5, vR (some a1)), (6, vR (some a20))]) dX4_replaceFirst_193 rfl rfl (Nat.le_of_ble_eq_true rfl) rfl ?_
    refine j_goto (tgt := 139) dX4_replaceFirst_196 (by decide) ?_
    obtain rfl := Option.some.inj h
    exact J.sub (zall [1, 2, 3, 4, 5, 0] rfl) hk
theorem wflX4_replaceFirst_139 {F : zF} (hd : 21 ≤ F.2.2.2) (t : Nat) (x1 : Int32) (x3 : Int32) (x5 : Option Nat) (x6 : Option Nat) (x7 : Int32) (G : GS) {a : ((Int32) ⊕ String) × GS} (h : flX4_replaceFirst_139 t x1 x3 x5 x6 x7 G = some a) (hk : zKXI F a) : J mX4_replaceFirst F G 139 [(0, vR (some t)), (1, vI x1), (3, vI x3), (5, vR x5), (6, vR x6), (7, vI x7)] [] := by
  unfold flX4_replaceFirst_139 at h
  exact zloop_walk (P := (fun s : Int32 × GS => J mX4_replaceFirst F s.2 139 [(0, vR (some t)), (1, vI x1), (3, vI x3), (5, vR x5), (6, vR x6), (7, vI s.1)] [])) (fun s b e hk => wfbX4_replaceFirst_139 hd t x1 x3 x5 x6 s.1 s.2 e hk) (x7, G) _ h hk
def fX4_replaceFirst_81 (t : Nat) (x1 : Int32) (x3 : Int32) (x4 : Option Nat)  (G : GS) : Option (((Int32) ⊕ String) × GS) :=
  (zgI G 4 t 2).bind fun v1 => if v1 = 100 then (zl (al G 0 0 6) fun G4 => some (.inr "SelahGenerator$Failed", G4)) else ((zgI G 4 t 2).bind fun v6 => (zpI G 4 t 2 (v6 + 1)).bind fun G8 => x4.bind fun a10 => (zgR G8 3 a10 1).bind fun r12 => r12.bind fun a14 => (zaI G8 50 a14 (0 : Int32)).bind fun v16 => zk [4] G8 t <| zb2 (fX4_of_0 t v16 G8) fun r20 G21 => (zgR G21 4 t 0).bind fun r22 => r22.bind fun a24 => zk [12] G21 a24 <| zb2 (fJ2_remove_0 a24 x3 G21) fun r28 G29 => zkq [3] G29 r28 (flX4_replaceFirst_139 t x1 x3 r20 r28 0 G29))
theorem wfX4_replaceFirst_81 {F : zF} (hd : 21 ≤ F.2.2.2) (t : Nat) (x1 : Int32) (x3 : Int32) (x4 : Option Nat)  (G : GS) {a : ((Int32) ⊕ String) × GS} (h : fX4_replaceFirst_81 t x1 x3 x4  G = some a) (hk : zKXI F a) : J mX4_replaceFirst F G 81 [(0, vR (some t)), (1, vI x1), (3, vI x3), (4, vR x4)] [] := by
  unfold fX4_replaceFirst_81 at h
  refine j_aload_n (j := 0) dX4_replaceFirst_81 rfl rfl ?_
  replace h := zbE h
  obtain ⟨v1, e2, h⟩ := h
  refine j_getI fgX4_84 (fun _ _ _ => rfl) dX4_replaceFirst_82 e2 ?_
  refine j_bipush (v := 100) dX4_replaceFirst_85 (by decide) ?_
  refine j_icmp_ne (tgt := 98) dX4_replaceFirst_87 (by decide) (fun c3 => ?_) (fun c3 => ?_)
  · rw [if_pos c3] at h
    replace h := zlE h
    obtain ⟨G4, e5, h⟩ := h
    refine j_throwN exX4_54_56 dX4_replaceFirst_90 dX4_replaceFirst_93 dX4_replaceFirst_94 dX4_replaceFirst_97 (Nat.le_trans (Nat.le_of_ble_eq_true rfl) hd) (Nat.le_of_ble_eq_true rfl) ?_
    rw [show al G 0 0 6 = G4 from e5.symm]
    obtain rfl := Option.some.inj h
    exact jx_out hk.1 hk.2 (by decide)
  · rw [if_neg c3] at h
    refine j_aload_n (j := 0) dX4_replaceFirst_98 rfl rfl ?_
    refine j_dup dX4_replaceFirst_99 rfl ?_
    replace h := zbE h
    obtain ⟨v6, e7, h⟩ := h
    refine j_getI fgX4_84 (fun _ _ _ => rfl) dX4_replaceFirst_100 e7 ?_
    refine j_iconst (v := 1) dX4_replaceFirst_103 (by decide) ?_
    refine j_iadd dX4_replaceFirst_104 ?_
    replace h := zbE h
    obtain ⟨G8, e9, h⟩ := h
    refine j_putI fpX4_84_X4 (Or.inl rfl) rfl dX4_replaceFirst_105 e9 ?_
    refine j_aload_n (j := 0) dX4_replaceFirst_108 rfl rfl ?_
    refine j_aload (j := 3) dX4_replaceFirst_109 rfl ?_
    replace h := zbE h
    obtain ⟨a10, e11, h⟩ := h
    subst e11
    replace h := zbE h
    obtain ⟨r12, e13, h⟩ := h
    refine j_getR fgX4_42 (fun _ _ _ => rfl) dX4_replaceFirst_111 e13 ?_
    refine j_iconst (v := 0) dX4_replaceFirst_114 (by decide) ?_
    replace h := zbE h
    obtain ⟨a14, e15, h⟩ := h
    subst e15
    replace h := zbE h
    obtain ⟨v16, e17, h⟩ := h
    refine j_iald (Or.inl rfl) e17 dX4_replaceFirst_115 ?_
    replace h := zkE h
    obtain ⟨e18, h⟩ := h
    replace h := zb2E h
    obtain ⟨r20, G21, e19, h⟩ := h
    refine j_cont (zrV (As := [vI v16]) msX4_87 (yX4_of_ok e19) (Nat.le_trans (Nat.le_of_ble_eq_true rfl) hd) (zk_4 _ e18) rfl rfl (Nat.le_of_ble_eq_true rfl) dX4_replaceFirst_116) ?_
    refine j_astore (lv' := [(5, vR r20), (0, vR (some t)), (1, vI x1), (3, vI x3), (4, vR (some a10))]) dX4_replaceFirst_119 (Nat.le_of_ble_eq_true rfl) rfl ?_
    refine j_aload_n (j := 1) dX4_replaceFirst_121 rfl rfl ?_
    replace h := zbE h
    obtain ⟨r22, e23, h⟩ := h
    refine j_getR fgX4_14 (fun _ _ _ => rfl) dX4_replaceFirst_122 e23 ?_
    refine j_iload_n (j := 3) dX4_replaceFirst_125 rfl rfl ?_
    replace h := zbE h
    obtain ⟨a24, e25, h⟩ := h
    subst e25
    replace h := zkE h
    obtain ⟨e26, h⟩ := h
    replace h := zb2E h
    obtain ⟨r28, G29, e27, h⟩ := h
    refine j_cont (zrF (As := [vI x3]) msX4_91_J2 (yJ2_remove_ok e27) (Nat.le_trans (Nat.le_of_ble_eq_true rfl) hd) (zk_12 _ e26) rfl rfl (Nat.le_of_ble_eq_true rfl) dX4_replaceFirst_126) ?_
    replace h := zkqE h
    obtain ⟨e30, h⟩ := h
    refine j_castq (fun k => j_castN dX4_replaceFirst_131 k) (fun b q31 k => j_castS (zk_3 _ (e30 b q31)) ⟨2, _, rfl, rfl⟩ q399 dX4_replaceFirst_131 k) ?_
    refine j_astore (lv' := [(6, vR r28), (5, vR r20), (0, vR (some t)), (1, vI x1), (3, vI x3), (4, vR (some a10))]) dX4_replaceFirst_134 (Nat.le_of_ble_eq_true rfl) rfl ?_
    refine j_iconst (v := 0) dX4_replaceFirst_136 (by decide) ?_
    refine j_istore (lv' := [(7, vI 0), (6, vR r28), (5, vR r20), (0, vR (some t)), (1, vI x1), (3, vI x3), (4, vR (some a10))]) dX4_replaceFirst_137 (Nat.le_of_ble_eq_true rfl) rfl ?_
    exact J.sub (zall [3, 4, 5, 2, 1, 0] rfl) (wflX4_replaceFirst_139 hd t x1 x3 r20 r28 0  G29 h hk)
def fbX4_replaceFirst_2 (t : Nat) (x1 : Int32) (x2 : Int32) (x3 : Int32)  (G : GS) : Option ((Int32) ⊕ (((Int32) ⊕ String) × GS)) :=
  (zgR G 4 t 0).bind fun r1 => r1.bind fun a3 => zk [12] G a3 <| (fJ2_size_0 a3 G).bind fun v7 => if v7 ≤ x3 then (zo (zcond (zbb 0) (some (.inl 0, G)))) else ((zgR G 4 t 0).bind fun r10 => r10.bind fun a12 => zk [12] G a12 <| (fJ2_get_0 a12 x3 G).bind fun r16 => zkq [3] G r16 (r16.bind fun a18 => (zgI G 3 a18 0).bind fun v20 => if v20 = x1 then ((zgR G 3 a18 1).bind fun r23 => r23.bind fun a25 => (zln G a25).bind fun v27 => if v27 = 0 then (fX4_replaceFirst_201 t x1 x2 x3 G) else ((zgR G 3 a18 1).bind fun r30 => r30.bind fun a32 => (zaI G 50 a32 (0 : Int32)).bind fun v34 => (fX1_isNonterminal_0 v34 G).bind fun v37 => if v37 = 0 then (fX4_replaceFirst_201 t x1 x2 x3 G) else ((zgR G 3 a18 1).bind fun r39 => r39.bind fun a41 => (zaI G 50 a41 (0 : Int32)).bind fun v43 => if ((x2 >>> ((v43 - 20) &&& 31)) &&& 1) = 0 then (fX4_replaceFirst_201 t x1 x2 x3 G) else (zo (fX4_replaceFirst_81 t x1 x3 (some a18) G))))) else (fX4_replaceFirst_201 t x1 x2 x3 G)))
def flX4_replaceFirst_2 (t : Nat) (x1 : Int32) (x2 : Int32) (x3 : Int32) (G : GS) : Option (((Int32) ⊕ String) × GS) := zloop (fun s : Int32 => fbX4_replaceFirst_2 t x1 x2 s G) (x3)
theorem wfbX4_replaceFirst_2 {F : zF} (hd : 21 ≤ F.2.2.2) (t : Nat) (x1 : Int32) (x2 : Int32) (x3 : Int32) (G : GS) {a : (Int32) ⊕ (((Int32) ⊕ String) × GS)} (h : fbX4_replaceFirst_2 t x1 x2 x3 G = some a) (hk : (zcase (fun s : Int32 => J mX4_replaceFirst F G 2 [(0, vR (some t)), (1, vI x1), (2, vI x2), (3, vI s)] []) (zKXI F)) a) : J mX4_replaceFirst F G 2 [(0, vR (some t)), (1, vI x1), (2, vI x2), (3, vI x3)] [] := by
  unfold fbX4_replaceFirst_2 at h
  refine j_iload_n (j := 3) dX4_replaceFirst_2 rfl rfl ?_
  refine j_aload_n (j := 0) dX4_replaceFirst_3 rfl rfl ?_
  replace h := zbE h
  obtain ⟨r1, e2, h⟩ := h
  refine j_getR fgX4_14 (fun _ _ _ => rfl) dX4_replaceFirst_4 e2 ?_
  replace h := zbE h
  obtain ⟨a3, e4, h⟩ := h
  subst e4
  replace h := zkE h
  obtain ⟨e5, h⟩ := h
  replace h := zbE h
  obtain ⟨v7, e6, h⟩ := h
  refine j_cont (zrF (As := []) msX4_60_J2 (yJ2_size_ok e6) (Nat.le_trans (Nat.le_of_ble_eq_true rfl) hd) (zk_12 _ e5) rfl rfl (Nat.le_of_ble_eq_true rfl) dX4_replaceFirst_7) ?_
  refine j_icmp_ge (tgt := 207) dX4_replaceFirst_12 (by decide) (fun c8 => ?_) (fun c8 => ?_)
  · rw [if_pos c8] at h
    replace h := zoE h
    obtain ⟨a, h, rfl⟩ := h
    replace hk := hk
    refine j_iconst (v := 0) dX4_replaceFirst_207 (by decide) ?_
    replace h := zcondE h
    obtain ⟨e9, h⟩ := h
    obtain rfl := Option.some.inj h
    exact j_zret hk.1 hk.2 rfl (zbb_n e9) dX4_replaceFirst_208
  · rw [if_neg c8] at h
    refine j_aload_n (j := 0) dX4_replaceFirst_15 rfl rfl ?_
    replace h := zbE h
    obtain ⟨r10, e11, h⟩ := h
    refine j_getR fgX4_14 (fun _ _ _ => rfl) dX4_replaceFirst_16 e11 ?_
    refine j_iload_n (j := 3) dX4_replaceFirst_19 rfl rfl ?_
    replace h := zbE h
    obtain ⟨a12, e13, h⟩ := h
    subst e13
    replace h := zkE h
    obtain ⟨e14, h⟩ := h
    replace h := zbE h
    obtain ⟨r16, e15, h⟩ := h
    refine j_cont (zrF (As := [vI x3]) msX4_80_J2 (yJ2_get_ok e15) (Nat.le_trans (Nat.le_of_ble_eq_true rfl) hd) (zk_12 _ e14) rfl rfl (Nat.le_of_ble_eq_true rfl) dX4_replaceFirst_20) ?_
    replace h := zkqE h
    obtain ⟨e17, h⟩ := h
    refine j_castq (fun k => j_castN dX4_replaceFirst_25 k) (fun b q46 k => j_castS (zk_3 _ (e17 b q46)) ⟨2, _, rfl, rfl⟩ q399 dX4_replaceFirst_25 k) ?_
    refine j_astore (lv' := [(4, vR r16), (0, vR (some t)), (1, vI x1), (2, vI x2), (3, vI x3)]) dX4_replaceFirst_28 (Nat.le_of_ble_eq_true rfl) rfl ?_
    refine j_aload (j := 0) dX4_replaceFirst_30 rfl ?_
    replace h := zbE h
    obtain ⟨a18, e19, h⟩ := h
    subst e19
    replace h := zbE h
    obtain ⟨v20, e21, h⟩ := h
    refine j_getI fgX4_38 (fun _ _ _ => rfl) dX4_replaceFirst_32 e21 ?_
    refine j_iload_n (j := 2) dX4_replaceFirst_35 rfl rfl ?_
    refine j_icmp_ne (tgt := 201) dX4_replaceFirst_36 (by decide) (fun c22 => ?_) (fun c22 => ?_)
    · rw [if_pos c22] at h
      refine j_aload (j := 0) dX4_replaceFirst_39 rfl ?_
      replace h := zbE h
      obtain ⟨r23, e24, h⟩ := h
      refine j_getR fgX4_42 (fun _ _ _ => rfl) dX4_replaceFirst_41 e24 ?_
      replace h := zbE h
      obtain ⟨a25, e26, h⟩ := h
      subst e26
      replace h := zbE h
      obtain ⟨v27, e28, h⟩ := h
      refine j_alen e28 dX4_replaceFirst_44 ?_
      refine j_if_eq (tgt := 201) dX4_replaceFirst_45 (by decide) (fun c29 => ?_) (fun c29 => ?_)
      · rw [if_pos c29] at h
        exact J.sub (zall [1, 2, 3, 4] rfl) (wfX4_replaceFirst_201 hd t x1 x2 x3  G h hk)
      · rw [if_neg c29] at h
        refine j_aload (j := 0) dX4_replaceFirst_48 rfl ?_
        replace h := zbE h
        obtain ⟨r30, e31, h⟩ := h
        refine j_getR fgX4_42 (fun _ _ _ => rfl) dX4_replaceFirst_50 e31 ?_
        refine j_iconst (v := 0) dX4_replaceFirst_53 (by decide) ?_
        replace h := zbE h
        obtain ⟨a32, e33, h⟩ := h
        subst e33
        replace h := zbE h
        obtain ⟨v34, e35, h⟩ := h
        refine j_iald (Or.inl rfl) e35 dX4_replaceFirst_54 ?_
        replace h := zbE h
        obtain ⟨v37, e36, h⟩ := h
        refine j_cont (zrSN (As := [vI v34]) msX4_46 q401 (yX1_isNonterminal_ok e36) (Nat.le_trans (Nat.le_of_ble_eq_true rfl) hd) rfl rfl (Nat.le_of_ble_eq_true rfl) dX4_replaceFirst_55) ?_
        refine j_if_eq (tgt := 201) dX4_replaceFirst_58 (by decide) (fun c38 => ?_) (fun c38 => ?_)
        · rw [if_pos c38] at h
          exact J.sub (zall [1, 2, 3, 4] rfl) (wfX4_replaceFirst_201 hd t x1 x2 x3  G h hk)
        · rw [if_neg c38] at h
          refine j_iload_n (j := 3) dX4_replaceFirst_61 rfl rfl ?_
          refine j_aload (j := 0) dX4_replaceFirst_62 rfl ?_
          replace h := zbE h
          obtain ⟨r39, e40, h⟩ := h
          refine j_getR fgX4_42 (fun _ _ _ => rfl) dX4_replaceFirst_64 e40 ?_
          refine j_iconst (v := 0) dX4_replaceFirst_67 (by decide) ?_
          replace h := zbE h
          obtain ⟨a41, e42, h⟩ := h
          subst e42
          replace h := zbE h
          obtain ⟨v43, e44, h⟩ := h
          refine j_iald (Or.inl rfl) e44 dX4_replaceFirst_68 ?_
          refine j_bipush (v := 20) dX4_replaceFirst_69 (by decide) ?_
          refine j_isub dX4_replaceFirst_71 ?_
          refine j_ishr dX4_replaceFirst_72 ?_
          refine j_iconst (v := 1) dX4_replaceFirst_73 (by decide) ?_
          refine j_iand dX4_replaceFirst_74 ?_
          refine j_if_ne (tgt := 81) dX4_replaceFirst_75 (by decide) (fun c45 => ?_) (fun c45 => ?_)
          · rw [if_pos c45] at h
            refine j_goto (tgt := 201) dX4_replaceFirst_78 (by decide) ?_
            exact J.sub (zall [1, 2, 3, 4] rfl) (wfX4_replaceFirst_201 hd t x1 x2 x3  G h hk)
          · rw [if_neg c45] at h
            replace h := zoE h
            obtain ⟨a, h, rfl⟩ := h
            replace hk := hk
            exact J.sub (zall [1, 2, 4, 0] rfl) (wfX4_replaceFirst_81 hd t x1 x3 (some a18)  G h hk)
    · rw [if_neg c22] at h
      exact J.sub (zall [1, 2, 3, 4] rfl) (wfX4_replaceFirst_201 hd t x1 x2 x3  G h hk)
theorem wflX4_replaceFirst_2 {F : zF} (hd : 21 ≤ F.2.2.2) (t : Nat) (x1 : Int32) (x2 : Int32) (x3 : Int32) (G : GS) {a : ((Int32) ⊕ String) × GS} (h : flX4_replaceFirst_2 t x1 x2 x3 G = some a) (hk : zKXI F a) : J mX4_replaceFirst F G 2 [(0, vR (some t)), (1, vI x1), (2, vI x2), (3, vI x3)] [] := by
  unfold flX4_replaceFirst_2 at h
  exact zloop_walk (P := (fun s : Int32 => J mX4_replaceFirst F G 2 [(0, vR (some t)), (1, vI x1), (2, vI x2), (3, vI s)] [])) (fun s b e hk => wfbX4_replaceFirst_2 hd t x1 x2 s G e hk) (x3) _ h hk
def fX4_replaceFirst_0 (t : Nat) (x1 : Int32) (x2 : Int32)  (G : GS) : Option (((Int32) ⊕ String) × GS) :=
  flX4_replaceFirst_2 t x1 x2 0 G
theorem wfX4_replaceFirst_0 {F : zF} (hd : 21 ≤ F.2.2.2) (t : Nat) (x1 : Int32) (x2 : Int32)  (G : GS) {a : ((Int32) ⊕ String) × GS} (h : fX4_replaceFirst_0 t x1 x2  G = some a) (hk : zKXI F a) : J mX4_replaceFirst F G 0 [(0, vR (some t)), (1, vI x1), (2, vI x2)] [] := by
  unfold fX4_replaceFirst_0 at h
  refine j_iconst (v := 0) dX4_replaceFirst_0 (by decide) ?_
  refine j_istore_n (lv' := [(3, vI 0), (0, vR (some t)), (1, vI x1), (2, vI x2)]) dX4_replaceFirst_1 rfl (Nat.le_of_ble_eq_true rfl) rfl ?_
  exact J.sub (zall [1, 2, 3, 0] rfl) (wflX4_replaceFirst_2 hd t x1 x2 0  G h hk)
theorem yX4_replaceFirst_ok {t : Nat} {x1 : Int32} {x2 : Int32} {G : GS} {r : (Int32) ⊕ String} {G1 : GS} (h : fX4_replaceFirst_0 t x1 x2 G = some (r, G1)) : zRuns yX4_replaceFirst (ws_ yX4_replaceFirst cX4_replaceFirst 8 (some Jvm.ClassFile.FieldType.boolean)) [vR (some t), vI x1, vI x2] (zout (fun v => some (vI v)) r, G, G1, 21) :=
  zentry (M := mX4_replaceFirst) (plainFor_of_name (by decide +kernel)) ⟨rfl, rfl, rfl, rfl⟩ (Nat.le_of_ble_eq_true rfl) (wfX4_replaceFirst_0 (Nat.le_refl _) t x1 x2 G h ⟨rfl, rfl⟩)
abbrev mJ2_clear : zM := (cJ2_clear, RJ2, 4, none, "clear", [], "()V")
def fbJ2_clear_27 (x1 : Option Nat) (x2 : Int32) (x3 : Int32)  (G : GS) : Option ((Int32 × GS) ⊕ (GS)) :=
  if x2 ≤ x3 then (zo (some G)) else (x1.bind fun a2 => (zsR G 54 a2 x3 (none : Option Nat) [3]).bind fun G4 => some (.inl ((x3 + 1), G4)))
def flJ2_clear_27 (x1 : Option Nat) (x2 : Int32) (x3 : Int32) (G : GS) : Option (GS) := zloop (fun s : Int32 × GS => fbJ2_clear_27 x1 x2 s.1 s.2) (x3, G)
theorem wfbJ2_clear_27 {F : zF} (hd : 1 ≤ F.2.2.2) (x1 : Option Nat) (x2 : Int32) (x3 : Int32) (G : GS) {a : (Int32 × GS) ⊕ (GS)} (h : fbJ2_clear_27 x1 x2 x3 G = some a) (hk : (zcase (fun s : Int32 × GS => J mJ2_clear F s.2 27 [(1, vR x1), (2, vI x2), (3, vI s.1)] []) (zKV F)) a) : J mJ2_clear F G 27 [(1, vR x1), (2, vI x2), (3, vI x3)] [] := by
  unfold fbJ2_clear_27 at h
  refine j_iload_n (j := 2) dJ2_clear_27 rfl rfl ?_
  refine j_iload_n (j := 1) dJ2_clear_28 rfl rfl ?_
  refine j_icmp_ge (tgt := 42) dJ2_clear_29 (by decide) (fun c1 => ?_) (fun c1 => ?_)
  · rw [if_pos c1] at h
    replace h := zoE h
    obtain ⟨a, h, rfl⟩ := h
    replace hk := hk
    obtain rfl := Option.some.inj h
    exact j_vret hk.1 hk.2 rfl dJ2_clear_42
  · rw [if_neg c1] at h
    refine j_aload_n (j := 0) dJ2_clear_32 rfl rfl ?_
    refine j_iload_n (j := 2) dJ2_clear_33 rfl rfl ?_
    refine j_null dJ2_clear_34 ?_
    replace h := zbE h
    obtain ⟨a2, e3, h⟩ := h
    subst e3
    replace h := zbE h
    obtain ⟨G4, e5, h⟩ := h
    refine j_aast (t := 4) rfl e5 (fun k hk => ⟨_, zk_3 k hk, (Or.inl (zxw 93 rfl))⟩) dJ2_clear_35 ?_
    refine j_iinc (j := 2) (v := (x3 + 1)) (lv' := [(3, vI (x3 + 1)), (1, vR (some a2)), (2, vI x2)]) dJ2_clear_36 rfl rfl (Nat.le_of_ble_eq_true rfl) rfl ?_
    refine j_goto (tgt := 27) dJ2_clear_39 (by decide) ?_
    obtain rfl := Option.some.inj h
    exact J.sub (zall [1, 2, 0] rfl) hk
theorem wflJ2_clear_27 {F : zF} (hd : 1 ≤ F.2.2.2) (x1 : Option Nat) (x2 : Int32) (x3 : Int32) (G : GS) {a : GS} (h : flJ2_clear_27 x1 x2 x3 G = some a) (hk : zKV F a) : J mJ2_clear F G 27 [(1, vR x1), (2, vI x2), (3, vI x3)] [] := by
  unfold flJ2_clear_27 at h
  exact zloop_walk (P := (fun s : Int32 × GS => J mJ2_clear F s.2 27 [(1, vR x1), (2, vI x2), (3, vI s.1)] [])) (fun s b e hk => wfbJ2_clear_27 hd x1 x2 s.1 s.2 e hk) (x3, G) _ h hk
def fJ2_clear_0 (t : Nat)  (G : GS) : Option (GS) :=
  (zgI G 12 t 0).bind fun v1 => (zpI G 12 t 0 (v1 + 1)).bind fun G3 => (zgR G3 12 t 1).bind fun r5 => (zgI G3 12 t 2).bind fun v7 => (zpI G3 12 t 2 0).bind fun G9 => flJ2_clear_27 r5 v7 0 G9
theorem wfJ2_clear_0 {F : zF} (hd : 1 ≤ F.2.2.2) (t : Nat)  (G : GS) {a : GS} (h : fJ2_clear_0 t  G = some a) (hk : zKV F a) : J mJ2_clear F G 0 [(0, vR (some t))] [] := by
  unfold fJ2_clear_0 at h
  refine j_aload_n (j := 0) dJ2_clear_0 rfl rfl ?_
  refine j_dup dJ2_clear_1 rfl ?_
  replace h := zbE h
  obtain ⟨v1, e2, h⟩ := h
  refine j_getI fgJ2_63 (fun _ _ _ => rfl) dJ2_clear_2 e2 ?_
  refine j_iconst (v := 1) dJ2_clear_5 (by decide) ?_
  refine j_iadd dJ2_clear_6 ?_
  replace h := zbE h
  obtain ⟨G3, e4, h⟩ := h
  refine j_putI fpJ2_63_J2 (Or.inl rfl) rfl dJ2_clear_7 e4 ?_
  refine j_aload_n (j := 0) dJ2_clear_10 rfl rfl ?_
  replace h := zbE h
  obtain ⟨r5, e6, h⟩ := h
  refine j_getR fgJ2_9 (fun _ _ _ => rfl) dJ2_clear_11 e6 ?_
  refine j_astore_n (lv' := [(1, vR r5), (0, vR (some t))]) dJ2_clear_14 rfl (Nat.le_of_ble_eq_true rfl) rfl ?_
  refine j_aload_n (j := 1) dJ2_clear_15 rfl rfl ?_
  replace h := zbE h
  obtain ⟨v7, e8, h⟩ := h
  refine j_getI fgJ2_48 (fun _ _ _ => rfl) dJ2_clear_16 e8 ?_
  refine j_istore_n (lv' := [(2, vI v7), (1, vR r5), (0, vR (some t))]) dJ2_clear_19 rfl (Nat.le_of_ble_eq_true rfl) rfl ?_
  refine j_aload_n (j := 2) dJ2_clear_20 rfl rfl ?_
  refine j_iconst (v := 0) dJ2_clear_21 (by decide) ?_
  refine j_dup_x1 dJ2_clear_22 rfl rfl ?_
  replace h := zbE h
  obtain ⟨G9, e10, h⟩ := h
  refine j_putI fpJ2_48_J2 (Or.inl rfl) rfl dJ2_clear_23 e10 ?_
  refine j_istore_n (lv' := [(3, vI 0), (2, vI v7), (1, vR r5), (0, vR (some t))]) dJ2_clear_26 rfl (Nat.le_of_ble_eq_true rfl) rfl ?_
  exact J.sub (zall [2, 1, 0] rfl) (wflJ2_clear_27 hd r5 v7 0  G9 h hk)
theorem yJ2_clear_ok {t : Nat} {G : GS} {G1 : GS} (h : fJ2_clear_0 t G = some G1) : zRuns yJ2_clear (ws_ yJ2_clear cJ2_clear 4 none) [vR (some t)] (.inl none, G, G1, 1) :=
  zentry (M := mJ2_clear) (plainFor_of_name (by decide +kernel)) ⟨rfl, rfl, rfl, rfl⟩ (Nat.le_of_ble_eq_true rfl) (wfJ2_clear_0 (Nat.le_refl _) t G h ⟨rfl, rfl⟩)
abbrev mJ2_addAll : zM := (cJ2_addAll, RJ2, 6, (some Jvm.ClassFile.FieldType.boolean), "addAll", [], "(Ljava/util/Collection;)Z")
def fJ2_addAll_56 (t : Nat) (x2 : Option Nat) (x3 : Int32) (x4 : Option Nat) (x5 : Int32)  (G : GS) : Option ((Int32) × GS) :=
  x2.bind fun a1 => x4.bind fun a3 => (zcpR G a1 (0 : Int32) a3 x5 x3).bind fun G5 => (zpI G5 12 t 2 (x5 + x3)).bind fun G7 => zcond (zbb 1) (some (1, G7))
theorem wfJ2_addAll_56 {F : zF} (hd : 5 ≤ F.2.2.2) (t : Nat) (x2 : Option Nat) (x3 : Int32) (x4 : Option Nat) (x5 : Int32)  (G : GS) {a : (Int32) × GS} (h : fJ2_addAll_56 t x2 x3 x4 x5  G = some a) (hk : zKI F a) : J mJ2_addAll F G 56 [(0, vR (some t)), (2, vR x2), (3, vI x3), (4, vR x4), (5, vI x5)] [] := by
  unfold fJ2_addAll_56 at h
  refine j_aload_n (j := 1) dJ2_addAll_56 rfl rfl ?_
  refine j_iconst (v := 0) dJ2_addAll_57 (by decide) ?_
  refine j_aload (j := 3) dJ2_addAll_58 rfl ?_
  refine j_iload (j := 4) dJ2_addAll_60 rfl ?_
  refine j_iload_n (j := 2) dJ2_addAll_62 rfl rfl ?_
  replace h := zbE h
  obtain ⟨a1, e2, h⟩ := h
  subst e2
  replace h := zbE h
  obtain ⟨a3, e4, h⟩ := h
  subst e4
  replace h := zbE h
  obtain ⟨G5, e6, h⟩ := h
  refine j_cpR e6 q1842 q816 q815 q142 (Nat.le_trans (Nat.le_of_ble_eq_true rfl) hd) (Nat.le_of_ble_eq_true rfl) dJ2_addAll_63 ?_
  refine j_aload_n (j := 0) dJ2_addAll_66 rfl rfl ?_
  refine j_iload (j := 4) dJ2_addAll_67 rfl ?_
  refine j_iload_n (j := 2) dJ2_addAll_69 rfl rfl ?_
  refine j_iadd dJ2_addAll_70 ?_
  replace h := zbE h
  obtain ⟨G7, e8, h⟩ := h
  refine j_putI fpJ2_48_J2 (Or.inl rfl) rfl dJ2_addAll_71 e8 ?_
  refine j_iconst (v := 1) dJ2_addAll_74 (by decide) ?_
  replace h := zcondE h
  obtain ⟨e9, h⟩ := h
  obtain rfl := Option.some.inj h
  exact j_zret hk.1 hk.2 rfl (zbb_n e9) dJ2_addAll_75
def fJ2_addAll_0 (t : Nat) (x1 : Option Nat)  (G : GS) : Option ((Int32) × GS) :=
  x1.bind fun a1 => zk [12] G a1 <| zb2 (fJ2_toArray_0 a1 G) fun r5 G6 => (zgI G6 12 t 0).bind fun v7 => (zpI G6 12 t 0 (v7 + 1)).bind fun G9 => r5.bind fun a11 => (zln G9 a11).bind fun v13 => if v13 = 0 then (zcond (zbb 0) (some (0, G9))) else ((zgR G9 12 t 1).bind fun r17 => r17.bind fun a19 => (zln G9 a19).bind fun v21 => (zgI G9 12 t 2).bind fun v23 => if v13 ≤ (v21 - v23) then (fJ2_addAll_56 t (some a11) v13 (some a19) v23 G9) else (zk [12] G9 t <| zb2 (fJ2_grow_2_0 t (v23 + v13) G9) fun r28 G29 => fJ2_addAll_56 t (some a11) v13 r28 v23 G29))
theorem wfJ2_addAll_0 {F : zF} (hd : 5 ≤ F.2.2.2) (t : Nat) (x1 : Option Nat)  (G : GS) {a : (Int32) × GS} (h : fJ2_addAll_0 t x1  G = some a) (hk : zKI F a) : J mJ2_addAll F G 0 [(0, vR (some t)), (1, vR x1)] [] := by
  unfold fJ2_addAll_0 at h
  refine j_aload_n (j := 1) dJ2_addAll_0 rfl rfl ?_
  replace h := zbE h
  obtain ⟨a1, e2, h⟩ := h
  subst e2
  replace h := zkE h
  obtain ⟨e3, h⟩ := h
  replace h := zb2E h
  obtain ⟨r5, G6, e4, h⟩ := h
  refine j_cont (zrF (As := []) msJ2_42_J2 (yJ2_toArray_ok e4) (Nat.le_trans (Nat.le_of_ble_eq_true rfl) hd) (zk_12 _ e3) rfl rfl (Nat.le_of_ble_eq_true rfl) dJ2_addAll_1) ?_
  refine j_astore_n (lv' := [(2, vR r5), (0, vR (some t)), (1, vR (some a1))]) dJ2_addAll_6 rfl (Nat.le_of_ble_eq_true rfl) rfl ?_
  refine j_aload_n (j := 1) dJ2_addAll_7 rfl rfl ?_
  refine j_dup dJ2_addAll_8 rfl ?_
  replace h := zbE h
  obtain ⟨v7, e8, h⟩ := h
  refine j_getI fgJ2_63 (fun _ _ _ => rfl) dJ2_addAll_9 e8 ?_
  refine j_iconst (v := 1) dJ2_addAll_12 (by decide) ?_
  refine j_iadd dJ2_addAll_13 ?_
  replace h := zbE h
  obtain ⟨G9, e10, h⟩ := h
  refine j_putI fpJ2_63_J2 (Or.inl rfl) rfl dJ2_addAll_14 e10 ?_
  refine j_aload_n (j := 0) dJ2_addAll_17 rfl rfl ?_
  replace h := zbE h
  obtain ⟨a11, e12, h⟩ := h
  subst e12
  replace h := zbE h
  obtain ⟨v13, e14, h⟩ := h
  refine j_alen e14 dJ2_addAll_18 ?_
  refine j_istore_n (lv' := [(3, vI v13), (2, vR (some a11)), (0, vR (some t)), (1, vR (some a1))]) dJ2_addAll_19 rfl (Nat.le_of_ble_eq_true rfl) rfl ?_
  refine j_iload_n (j := 0) dJ2_addAll_20 rfl rfl ?_
  refine j_if_ne (tgt := 26) dJ2_addAll_21 (by decide) (fun c15 => ?_) (fun c15 => ?_)
  · rw [if_pos c15] at h
    refine j_iconst (v := 0) dJ2_addAll_24 (by decide) ?_
    replace h := zcondE h
    obtain ⟨e16, h⟩ := h
    obtain rfl := Option.some.inj h
    exact j_zret hk.1 hk.2 rfl (zbb_n e16) dJ2_addAll_25
  · rw [if_neg c15] at h
    refine j_iload_n (j := 0) dJ2_addAll_26 rfl rfl ?_
    refine j_aload_n (j := 2) dJ2_addAll_27 rfl rfl ?_
    replace h := zbE h
    obtain ⟨r17, e18, h⟩ := h
    refine j_getR fgJ2_9 (fun _ _ _ => rfl) dJ2_addAll_28 e18 ?_
    refine j_dup dJ2_addAll_31 rfl ?_
    refine j_astore (lv' := [(4, vR r17), (3, vI v13), (2, vR (some a11)), (0, vR (some t)), (1, vR (some a1))]) dJ2_addAll_32 (Nat.le_of_ble_eq_true rfl) rfl ?_
    replace h := zbE h
    obtain ⟨a19, e20, h⟩ := h
    subst e20
    replace h := zbE h
    obtain ⟨v21, e22, h⟩ := h
    refine j_alen e22 dJ2_addAll_34 ?_
    refine j_aload_n (j := 3) dJ2_addAll_35 rfl rfl ?_
    replace h := zbE h
    obtain ⟨v23, e24, h⟩ := h
    refine j_getI fgJ2_48 (fun _ _ _ => rfl) dJ2_addAll_36 e24 ?_
    refine j_dup dJ2_addAll_39 rfl ?_
    refine j_istore (lv' := [(5, vI v23), (4, vR (some a19)), (3, vI v13), (2, vR (some a11)), (0, vR (some t)), (1, vR (some a1))]) dJ2_addAll_40 (Nat.le_of_ble_eq_true rfl) rfl ?_
    refine j_isub dJ2_addAll_42 ?_
    refine j_icmp_le (tgt := 56) dJ2_addAll_43 (by decide) (fun c25 => ?_) (fun c25 => ?_)
    · rw [if_pos c25] at h
      exact J.sub (zall [4, 3, 2, 1, 0] rfl) (wfJ2_addAll_56 hd t (some a11) v13 (some a19) v23  G9 h hk)
    · rw [if_neg c25] at h
      refine j_aload_n (j := 4) dJ2_addAll_46 rfl rfl ?_
      refine j_iload (j := 0) dJ2_addAll_47 rfl ?_
      refine j_iload_n (j := 2) dJ2_addAll_49 rfl rfl ?_
      refine j_iadd dJ2_addAll_50 ?_
      replace h := zkE h
      obtain ⟨e26, h⟩ := h
      replace h := zb2E h
      obtain ⟨r28, G29, e27, h⟩ := h
      refine j_cont (zrV (As := [vI (v23 + v13)]) msJ2_69 (yJ2_grow_2_ok e27) (Nat.le_trans (Nat.le_of_ble_eq_true rfl) hd) (zk_12 _ e26) rfl rfl (Nat.le_of_ble_eq_true rfl) dJ2_addAll_51) ?_
      refine j_astore (lv' := [(4, vR r28), (5, vI v23), (3, vI v13), (2, vR (some a11)), (0, vR (some t)), (1, vR (some a1))]) dJ2_addAll_54 (Nat.le_of_ble_eq_true rfl) rfl ?_
      exact J.sub (zall [4, 3, 2, 0, 1] rfl) (wfJ2_addAll_56 hd t (some a11) v13 r28 v23  G29 h hk)
theorem yJ2_addAll_ok {t : Nat} {x1 : Option Nat} {G : GS} {r : Int32} {G1 : GS} (h : fJ2_addAll_0 t x1 G = some (r, G1)) : zRuns yJ2_addAll (ws_ yJ2_addAll cJ2_addAll 6 (some Jvm.ClassFile.FieldType.boolean)) [vR (some t), vR x1] (.inl (some (vI r)), G, G1, 5) :=
  zentry (M := mJ2_addAll) (plainFor_of_name (by decide +kernel)) ⟨rfl, rfl, rfl, rfl⟩ (Nat.le_of_ble_eq_true rfl) (wfJ2_addAll_0 (Nat.le_refl _) t x1 G h ⟨rfl, rfl⟩)
theorem msX4_114_J2 : zSF RX4 114 RJ2 ⟨"java/util/List", "clear", "()V"⟩ yJ2_clear cJ2_clear 4 none 0 := ⟨lw_F q2299 q2302 q2304 q126 q2306, zfw 8 rfl, ⟨11, _, rfl, rfl⟩, (by decide +kernel), (by decide)⟩
theorem msX4_117_J2 : zSF RX4 117 RJ2 ⟨"java/util/List", "addAll", "(Ljava/util/Collection;)Z"⟩ yJ2_addAll cJ2_addAll 6 (some Jvm.ClassFile.FieldType.boolean) 1 := ⟨lw_F q2308 q2311 q2313 q126 q2315, zfw 7 rfl, ⟨11, _, rfl, rfl⟩, (by decide +kernel), (by decide)⟩
abbrev mX4_removeDirect : zM := (cX4_removeDirect, RX4, 8, none, "removeDirect", [], "(I)V")
def fX4_removeDirect_212 (t : Nat) (x3 : Int32) (x4 : Option Nat) (x5 : Option Nat)  (G : GS) : Option (((Unit) ⊕ String) × GS) :=
  (zgR G 4 t 0).bind fun r1 => r1.bind fun a3 => zk [12] G a3 <| (fJ2_clear_0 a3 G).bind fun G7 => (zgR G7 4 t 0).bind fun r8 => r8.bind fun a10 => zk [12] G7 a10 <| zb2 (fJ2_addAll_0 a10 x4 G7) fun v14 G15 => (zgR G15 4 t 0).bind fun r16 => r16.bind fun a18 => zk [12] G15 a18 <| zb2 (fJ2_addAll_0 a18 x5 G15) fun v22 G23 => (zgR G23 4 t 0).bind fun r24 => zl (al G23 3 0 2) fun G26 => (zna G26 50 (0 : Int32)).bind fun G28 => (fX3_init_0 (gz G23) x3 (some (gz G26)) G28).bind fun G31 => r24.bind fun a32 => zk [12] G31 a32 <| zb2 (fJ2_add_0 a32 (some (gz G23)) G31) fun v36 G37 => some (.inl (), G37)
theorem wfX4_removeDirect_212 {F : zF} (hd : 8 ≤ F.2.2.2) (t : Nat) (x3 : Int32) (x4 : Option Nat) (x5 : Option Nat)  (G : GS) {a : ((Unit) ⊕ String) × GS} (h : fX4_removeDirect_212 t x3 x4 x5  G = some a) (hk : zKXV F a) : J mX4_removeDirect F G 212 [(0, vR (some t)), (3, vI x3), (4, vR x4), (5, vR x5)] [] := by
  unfold fX4_removeDirect_212 at h
  refine j_aload_n (j := 0) dX4_removeDirect_212 rfl rfl ?_
  replace h := zbE h
  obtain ⟨r1, e2, h⟩ := h
  refine j_getR fgX4_14 (fun _ _ _ => rfl) dX4_removeDirect_213 e2 ?_
  replace h := zbE h
  obtain ⟨a3, e4, h⟩ := h
  subst e4
  replace h := zkE h
  obtain ⟨e5, h⟩ := h
  replace h := zbE h
  obtain ⟨G7, e6, h⟩ := h
  refine j_cont (zrF (As := []) msX4_114_J2 (yJ2_clear_ok e6) (Nat.le_trans (Nat.le_of_ble_eq_true rfl) hd) (zk_12 _ e5) rfl rfl (Nat.le_of_ble_eq_true rfl) dX4_removeDirect_216) ?_
  refine j_aload_n (j := 0) dX4_removeDirect_221 rfl rfl ?_
  replace h := zbE h
  obtain ⟨r8, e9, h⟩ := h
  refine j_getR fgX4_14 (fun _ _ _ => rfl) dX4_removeDirect_222 e9 ?_
  refine j_aload (j := 2) dX4_removeDirect_225 rfl ?_
  replace h := zbE h
  obtain ⟨a10, e11, h⟩ := h
  subst e11
  replace h := zkE h
  obtain ⟨e12, h⟩ := h
  replace h := zb2E h
  obtain ⟨v14, G15, e13, h⟩ := h
  refine j_cont (zrF (As := [vR x4]) msX4_117_J2 (yJ2_addAll_ok e13) (Nat.le_trans (Nat.le_of_ble_eq_true rfl) hd) (zk_12 _ e12) rfl rfl (Nat.le_of_ble_eq_true rfl) dX4_removeDirect_227) ?_
  refine j_pop dX4_removeDirect_232 rfl ?_
  refine j_aload_n (j := 0) dX4_removeDirect_233 rfl rfl ?_
  replace h := zbE h
  obtain ⟨r16, e17, h⟩ := h
  refine j_getR fgX4_14 (fun _ _ _ => rfl) dX4_removeDirect_234 e17 ?_
  refine j_aload (j := 3) dX4_removeDirect_237 rfl ?_
  replace h := zbE h
  obtain ⟨a18, e19, h⟩ := h
  subst e19
  replace h := zkE h
  obtain ⟨e20, h⟩ := h
  replace h := zb2E h
  obtain ⟨v22, G23, e21, h⟩ := h
  refine j_cont (zrF (As := [vR x5]) msX4_117_J2 (yJ2_addAll_ok e21) (Nat.le_trans (Nat.le_of_ble_eq_true rfl) hd) (zk_12 _ e20) rfl rfl (Nat.le_of_ble_eq_true rfl) dX4_removeDirect_239) ?_
  refine j_pop dX4_removeDirect_244 rfl ?_
  refine j_aload_n (j := 0) dX4_removeDirect_245 rfl rfl ?_
  replace h := zbE h
  obtain ⟨r24, e25, h⟩ := h
  refine j_getR fgX4_14 (fun _ _ _ => rfl) dX4_removeDirect_246 e25 ?_
  replace h := zlE h
  obtain ⟨G26, e27, h⟩ := h
  refine j_new (c := 2) (n := 2) (r := (RX3, TX3, 2, tyX3)) rfl rfl in_X3 tyX3_ok nwX3 q399 q1727 q138 dX4_removeDirect_249 ?_
  rw [show al G23 (2 + 1) 0 2 = G26 from e27.symm]
  refine j_dup dX4_removeDirect_252 rfl ?_
  refine j_iload_n (j := 1) dX4_removeDirect_253 rfl rfl ?_
  refine j_iconst (v := 0) dX4_removeDirect_254 (by decide) ?_
  replace h := zbE h
  obtain ⟨G28, e29, h⟩ := h
  refine j_newa (t := 0) (ty := .int) rfl rfl q455 (fun _ _ _ e1 e2 e3 => by simp only [zfv, e1, e2, e3] <;> rfl) (by decide) (fun _ _ h => h) e29 dX4_removeDirect_255 ?_
  replace h := zbE h
  obtain ⟨G31, e30, h⟩ := h
  refine j_cont (zrI (As := [vI x3, vR (some (gz G26))]) msX4_98 (yX3_init_ok e30) (Nat.le_trans (Nat.le_of_ble_eq_true rfl) hd) rfl rfl (Nat.le_of_ble_eq_true rfl) dX4_removeDirect_257) ?_
  replace h := zbE h
  obtain ⟨a32, e33, h⟩ := h
  subst e33
  replace h := zkE h
  obtain ⟨e34, h⟩ := h
  replace h := zb2E h
  obtain ⟨v36, G37, e35, h⟩ := h
  refine j_cont (zrF (As := [vR (some (gz G23))]) msX4_65_J2 (yJ2_add_ok e35) (Nat.le_trans (Nat.le_of_ble_eq_true rfl) hd) (zk_12 _ e34) rfl rfl (Nat.le_of_ble_eq_true rfl) dX4_removeDirect_260) ?_
  refine j_pop dX4_removeDirect_265 rfl ?_
  obtain rfl := Option.some.inj h
  exact j_vret hk.1 hk.2 rfl dX4_removeDirect_266
def fX4_removeDirect_209 (t : Nat) (x1 : Int32) (x3 : Int32) (x4 : Option Nat) (x5 : Option Nat) (x6 : Option Nat)  (G : GS) : Option ((GS) ⊕ (((Unit) ⊕ String) × GS)) :=
  some (.inl (G))
theorem wfX4_removeDirect_209 {F : zF} (hd : 8 ≤ F.2.2.2) (t : Nat) (x1 : Int32) (x3 : Int32) (x4 : Option Nat) (x5 : Option Nat) (x6 : Option Nat)  (G : GS) {a : (GS) ⊕ (((Unit) ⊕ String) × GS)} (h : fX4_removeDirect_209 t x1 x3 x4 x5 x6  G = some a) (hk : (zcase (fun s : GS => J mX4_removeDirect F s 100 [(0, vR (some t)), (1, vI x1), (3, vI x3), (4, vR x4), (5, vR x5), (6, vR x6)] []) (zKXV F)) a) : J mX4_removeDirect F G 209 [(0, vR (some t)), (1, vI x1), (3, vI x3), (4, vR x4), (5, vR x5), (6, vR x6)] [] := by
  unfold fX4_removeDirect_209 at h
  refine j_goto (tgt := 100) dX4_removeDirect_209 (by decide) ?_
  obtain rfl := Option.some.inj h
  exact J.sub (zall [0, 1, 2, 3, 4, 5] rfl) hk
def fbX4_removeDirect_100 (t : Nat) (x1 : Int32) (x3 : Int32) (x4 : Option Nat) (x5 : Option Nat) (x6 : Option Nat)  (G : GS) : Option ((GS) ⊕ (((Unit) ⊕ String) × GS)) :=
  x6.bind fun a1 => zk [13] G a1 <| (fJ19_hasNext_0 a1 G).bind fun v5 => if v5 = 0 then (zo (fX4_removeDirect_212 t x3 x4 x5 G)) else (zk [13] G a1 <| zb2 (fJ19_next_0 a1 G) fun r9 G10 => zkq [3] G10 r9 (r9.bind fun a12 => (zgI G10 3 a12 0).bind fun v14 => if v14 = x1 then (zk [3] G10 a12 <| (fX3_beginsWith_0 a12 x1 G10).bind fun v19 => if v19 = 0 then (zk [3] G10 a12 <| zb2 (fX3_with_0 a12 x3 G10) fun r23 G24 => x4.bind fun a25 => zk [12] G24 a25 <| zb2 (fJ2_add_0 a25 r23 G24) fun v29 G30 => fX4_removeDirect_209 t x1 x3 (some a25) x5 (some a1) G30) else ((zgR G10 3 a12 1).bind fun r31 => r31.bind fun a33 => (zln G10 a33).bind fun v35 => if v35 ≤ 1 then (fX4_removeDirect_209 t x1 x3 x4 x5 (some a1) G10) else (zl (al G10 3 0 2) fun G38 => (zna G38 50 (0 : Int32)).bind fun G40 => zk [3] G40 a12 <| zb2 (fX3_rest_0 a12 1 (some (gz G38)) G40) fun r44 G45 => (fX3_init_0 (gz G10) x3 r44 G45).bind fun G47 => zk [3] G47 (gz G10) <| zb2 (fX3_with_0 (gz G10) x3 G47) fun r50 G51 => x5.bind fun a52 => zk [12] G51 a52 <| zb2 (fJ2_add_0 a52 r50 G51) fun v56 G57 => fX4_removeDirect_209 t x1 x3 x4 (some a52) (some a1) G57))) else (x4.bind fun a58 => zk [12] G10 a58 <| zb2 (fJ2_add_0 a58 (some a12) G10) fun v62 G63 => fX4_removeDirect_209 t x1 x3 (some a58) x5 (some a1) G63)))
def flX4_removeDirect_100 (t : Nat) (x1 : Int32) (x3 : Int32) (x4 : Option Nat) (x5 : Option Nat) (x6 : Option Nat) (G : GS) : Option (((Unit) ⊕ String) × GS) := zloop (fun s : GS => fbX4_removeDirect_100 t x1 x3 x4 x5 x6 s) (G)
theorem wfbX4_removeDirect_100 {F : zF} (hd : 8 ≤ F.2.2.2) (t : Nat) (x1 : Int32) (x3 : Int32) (x4 : Option Nat) (x5 : Option Nat) (x6 : Option Nat) (G : GS) {a : (GS) ⊕ (((Unit) ⊕ String) × GS)} (h : fbX4_removeDirect_100 t x1 x3 x4 x5 x6 G = some a) (hk : (zcase (fun s : GS => J mX4_removeDirect F s 100 [(0, vR (some t)), (1, vI x1), (3, vI x3), (4, vR x4), (5, vR x5), (6, vR x6)] []) (zKXV F)) a) : J mX4_removeDirect F G 100 [(0, vR (some t)), (1, vI x1), (3, vI x3), (4, vR x4), (5, vR x5), (6, vR x6)] [] := by
  unfold fbX4_removeDirect_100 at h
  refine j_aload (j := 5) dX4_removeDirect_100 rfl ?_
  replace h := zbE h
  obtain ⟨a1, e2, h⟩ := h
  subst e2
  replace h := zkE h
  obtain ⟨e3, h⟩ := h
  replace h := zbE h
  obtain ⟨v5, e4, h⟩ := h
  refine j_cont (zrF (As := []) msX4_26_J19 (yJ19_hasNext_ok e4) (Nat.le_trans (Nat.le_of_ble_eq_true rfl) hd) (zk_13 _ e3) rfl rfl (Nat.le_of_ble_eq_true rfl) dX4_removeDirect_102) ?_
  refine j_if_eq (tgt := 212) dX4_removeDirect_107 (by decide) (fun c6 => ?_) (fun c6 => ?_)
  · rw [if_pos c6] at h
    replace h := zoE h
    obtain ⟨a, h, rfl⟩ := h
    replace hk := hk
    exact J.sub (zall [0, 2, 3, 4] rfl) (wfX4_removeDirect_212 hd t x3 x4 x5  G h hk)
  · rw [if_neg c6] at h
    refine j_aload (j := 5) dX4_removeDirect_110 rfl ?_
    replace h := zkE h
    obtain ⟨e7, h⟩ := h
    replace h := zb2E h
    obtain ⟨r9, G10, e8, h⟩ := h
    refine j_cont (zrF (As := []) msX4_32_J19 (yJ19_next_ok e8) (Nat.le_trans (Nat.le_of_ble_eq_true rfl) hd) (zk_13 _ e7) rfl rfl (Nat.le_of_ble_eq_true rfl) dX4_removeDirect_112) ?_
    replace h := zkqE h
    obtain ⟨e11, h⟩ := h
    refine j_castq (fun k => j_castN dX4_removeDirect_117 k) (fun b q64 k => j_castS (zk_3 _ (e11 b q64)) ⟨2, _, rfl, rfl⟩ q399 dX4_removeDirect_117 k) ?_
    refine j_astore (lv' := [(7, vR r9), (0, vR (some t)), (1, vI x1), (3, vI x3), (4, vR x4), (5, vR x5), (6, vR (some a1))]) dX4_removeDirect_120 (Nat.le_of_ble_eq_true rfl) rfl ?_
    refine j_aload (j := 0) dX4_removeDirect_122 rfl ?_
    replace h := zbE h
    obtain ⟨a12, e13, h⟩ := h
    subst e13
    replace h := zbE h
    obtain ⟨v14, e15, h⟩ := h
    refine j_getI fgX4_38 (fun _ _ _ => rfl) dX4_removeDirect_124 e15 ?_
    refine j_iload_n (j := 2) dX4_removeDirect_127 rfl rfl ?_
    refine j_icmp_eq (tgt := 144) dX4_removeDirect_128 (by decide) (fun c16 => ?_) (fun c16 => ?_)
    · rw [if_pos c16] at h
      refine j_aload (j := 0) dX4_removeDirect_144 rfl ?_
      refine j_iload_n (j := 2) dX4_removeDirect_146 rfl rfl ?_
      replace h := zkE h
      obtain ⟨e17, h⟩ := h
      replace h := zbE h
      obtain ⟨v19, e18, h⟩ := h
      refine j_cont (zrV (As := [vI x1]) msX4_104 (yX3_beginsWith_ok e18) (Nat.le_trans (Nat.le_of_ble_eq_true rfl) hd) (zk_3 _ e17) rfl rfl (Nat.le_of_ble_eq_true rfl) dX4_removeDirect_147) ?_
      refine j_if_ne (tgt := 170) dX4_removeDirect_150 (by decide) (fun c20 => ?_) (fun c20 => ?_)
      · rw [if_pos c20] at h
        refine j_aload (j := 4) dX4_removeDirect_153 rfl ?_
        refine j_aload (j := 0) dX4_removeDirect_155 rfl ?_
        refine j_iload_n (j := 3) dX4_removeDirect_157 rfl rfl ?_
        replace h := zkE h
        obtain ⟨e21, h⟩ := h
        replace h := zb2E h
        obtain ⟨r23, G24, e22, h⟩ := h
        refine j_cont (zrV (As := [vI x3]) msX4_110 (yX3_with_ok e22) (Nat.le_trans (Nat.le_of_ble_eq_true rfl) hd) (zk_3 _ e21) rfl rfl (Nat.le_of_ble_eq_true rfl) dX4_removeDirect_158) ?_
        replace h := zbE h
        obtain ⟨a25, e26, h⟩ := h
        subst e26
        replace h := zkE h
        obtain ⟨e27, h⟩ := h
        replace h := zb2E h
        obtain ⟨v29, G30, e28, h⟩ := h
        refine j_cont (zrF (As := [vR r23]) msX4_65_J2 (yJ2_add_ok e28) (Nat.le_trans (Nat.le_of_ble_eq_true rfl) hd) (zk_12 _ e27) rfl rfl (Nat.le_of_ble_eq_true rfl) dX4_removeDirect_161) ?_
        refine j_pop dX4_removeDirect_166 rfl ?_
        refine j_goto (tgt := 209) dX4_removeDirect_167 (by decide) ?_
        exact J.sub (zall [1, 2, 3, 4, 5, 6] rfl) (wfX4_removeDirect_209 hd t x1 x3 (some a25) x5 (some a1)  G30 h hk)
      · rw [if_neg c20] at h
        refine j_aload (j := 0) dX4_removeDirect_170 rfl ?_
        replace h := zbE h
        obtain ⟨r31, e32, h⟩ := h
        refine j_getR fgX4_42 (fun _ _ _ => rfl) dX4_removeDirect_172 e32 ?_
        replace h := zbE h
        obtain ⟨a33, e34, h⟩ := h
        subst e34
        replace h := zbE h
        obtain ⟨v35, e36, h⟩ := h
        refine j_alen e36 dX4_removeDirect_175 ?_
        refine j_iconst (v := 1) dX4_removeDirect_176 (by decide) ?_
        refine j_icmp_le (tgt := 209) dX4_removeDirect_177 (by decide) (fun c37 => ?_) (fun c37 => ?_)
        · rw [if_pos c37] at h
          exact J.sub (zall [1, 2, 3, 4, 5, 6] rfl) (wfX4_removeDirect_209 hd t x1 x3 x4 x5 (some a1)  G10 h hk)
        · rw [if_neg c37] at h
          refine j_aload (j := 5) dX4_removeDirect_180 rfl ?_
          replace h := zlE h
          obtain ⟨G38, e39, h⟩ := h
          refine j_new (c := 2) (n := 2) (r := (RX3, TX3, 2, tyX3)) rfl rfl in_X3 tyX3_ok nwX3 q399 q1727 q138 dX4_removeDirect_182 ?_
          rw [show al G10 (2 + 1) 0 2 = G38 from e39.symm]
          refine j_dup dX4_removeDirect_185 rfl ?_
          refine j_iload_n (j := 3) dX4_removeDirect_186 rfl rfl ?_
          refine j_aload (j := 0) dX4_removeDirect_187 rfl ?_
          refine j_iconst (v := 1) dX4_removeDirect_189 (by decide) ?_
          refine j_iconst (v := 0) dX4_removeDirect_190 (by decide) ?_
          replace h := zbE h
          obtain ⟨G40, e41, h⟩ := h
          refine j_newa (t := 0) (ty := .int) rfl rfl q455 (fun _ _ _ e1 e2 e3 => by simp only [zfv, e1, e2, e3] <;> rfl) (by decide) (fun _ _ h => h) e41 dX4_removeDirect_191 ?_
          replace h := zkE h
          obtain ⟨e42, h⟩ := h
          replace h := zb2E h
          obtain ⟨r44, G45, e43, h⟩ := h
          refine j_cont (zrV (As := [vI 1, vR (some (gz G38))]) msX4_94 (yX3_rest_ok e43) (Nat.le_trans (Nat.le_of_ble_eq_true rfl) hd) (zk_3 _ e42) rfl rfl (Nat.le_of_ble_eq_true rfl) dX4_removeDirect_193) ?_
          replace h := zbE h
          obtain ⟨G47, e46, h⟩ := h
          refine j_cont (zrI (As := [vI x3, vR r44]) msX4_98 (yX3_init_ok e46) (Nat.le_trans (Nat.le_of_ble_eq_true rfl) hd) rfl rfl (Nat.le_of_ble_eq_true rfl) dX4_removeDirect_196) ?_
          refine j_iload_n (j := 3) dX4_removeDirect_199 rfl rfl ?_
          replace h := zkE h
          obtain ⟨e48, h⟩ := h
          replace h := zb2E h
          obtain ⟨r50, G51, e49, h⟩ := h
          refine j_cont (zrV (As := [vI x3]) msX4_110 (yX3_with_ok e49) (Nat.le_trans (Nat.le_of_ble_eq_true rfl) hd) (zk_3 _ e48) rfl rfl (Nat.le_of_ble_eq_true rfl) dX4_removeDirect_200) ?_
          replace h := zbE h
          obtain ⟨a52, e53, h⟩ := h
          subst e53
          replace h := zkE h
          obtain ⟨e54, h⟩ := h
          replace h := zb2E h
          obtain ⟨v56, G57, e55, h⟩ := h
          refine j_cont (zrF (As := [vR r50]) msX4_65_J2 (yJ2_add_ok e55) (Nat.le_trans (Nat.le_of_ble_eq_true rfl) hd) (zk_12 _ e54) rfl rfl (Nat.le_of_ble_eq_true rfl) dX4_removeDirect_203) ?_
          refine j_pop dX4_removeDirect_208 rfl ?_
          exact J.sub (zall [1, 2, 3, 4, 5, 6] rfl) (wfX4_removeDirect_209 hd t x1 x3 x4 (some a52) (some a1)  G57 h hk)
    · rw [if_neg c16] at h
      refine j_aload (j := 4) dX4_removeDirect_131 rfl ?_
      refine j_aload (j := 0) dX4_removeDirect_133 rfl ?_
      replace h := zbE h
      obtain ⟨a58, e59, h⟩ := h
      subst e59
      replace h := zkE h
      obtain ⟨e60, h⟩ := h
      replace h := zb2E h
      obtain ⟨v62, G63, e61, h⟩ := h
      refine j_cont (zrF (As := [vR (some a12)]) msX4_65_J2 (yJ2_add_ok e61) (Nat.le_trans (Nat.le_of_ble_eq_true rfl) hd) (zk_12 _ e60) rfl rfl (Nat.le_of_ble_eq_true rfl) dX4_removeDirect_135) ?_
      refine j_pop dX4_removeDirect_140 rfl ?_
      refine j_goto (tgt := 209) dX4_removeDirect_141 (by decide) ?_
      exact J.sub (zall [1, 2, 3, 4, 5, 6] rfl) (wfX4_removeDirect_209 hd t x1 x3 (some a58) x5 (some a1)  G63 h hk)
theorem wflX4_removeDirect_100 {F : zF} (hd : 8 ≤ F.2.2.2) (t : Nat) (x1 : Int32) (x3 : Int32) (x4 : Option Nat) (x5 : Option Nat) (x6 : Option Nat) (G : GS) {a : ((Unit) ⊕ String) × GS} (h : flX4_removeDirect_100 t x1 x3 x4 x5 x6 G = some a) (hk : zKXV F a) : J mX4_removeDirect F G 100 [(0, vR (some t)), (1, vI x1), (3, vI x3), (4, vR x4), (5, vR x5), (6, vR x6)] [] := by
  unfold flX4_removeDirect_100 at h
  exact zloop_walk (P := (fun s : GS => J mX4_removeDirect F s 100 [(0, vR (some t)), (1, vI x1), (3, vI x3), (4, vR x4), (5, vR x5), (6, vR x6)] [])) (fun s b e hk => wfbX4_removeDirect_100 hd t x1 x3 x4 x5 x6 s e hk) (G) _ h hk
def fX4_removeDirect_61 (t : Nat) (x1 : Int32) (x2 : Int32)  (G : GS) : Option (((Unit) ⊕ String) × GS) :=
  if x2 = 0 then (some (.inl (), G)) else (zk [4] G t <| zb3 (fX4_unused_0 t G) (fun v4 G5 => zl (al G5 12 0 3) fun G8 => (fJ2_init_0 (gz G5) G8).bind fun G11 => zl (al G11 12 0 3) fun G12 => (fJ2_init_0 (gz G11) G12).bind fun G15 => (zgR G15 4 t 0).bind fun r16 => r16.bind fun a18 => zk [12] G15 a18 <| zb2 (fJ2_iterator_0 a18 G15) fun r22 G23 => flX4_removeDirect_100 t x1 v4 (some (gz G5)) (some (gz G11)) r22 G23) (fun X6 G7 => some (.inr X6, G7)))
theorem wfX4_removeDirect_61 {F : zF} (hd : 8 ≤ F.2.2.2) (t : Nat) (x1 : Int32) (x2 : Int32)  (G : GS) {a : ((Unit) ⊕ String) × GS} (h : fX4_removeDirect_61 t x1 x2  G = some a) (hk : zKXV F a) : J mX4_removeDirect F G 61 [(0, vR (some t)), (1, vI x1), (2, vI x2)] [] := by
  unfold fX4_removeDirect_61 at h
  refine j_iload_n (j := 2) dX4_removeDirect_61 rfl rfl ?_
  refine j_if_ne (tgt := 66) dX4_removeDirect_62 (by decide) (fun c1 => ?_) (fun c1 => ?_)
  · rw [if_pos c1] at h
    obtain rfl := Option.some.inj h
    exact j_vret hk.1 hk.2 rfl dX4_removeDirect_65
  · rw [if_neg c1] at h
    refine j_aload_n (j := 0) dX4_removeDirect_66 rfl rfl ?_
    replace h := zkE h
    obtain ⟨e2, h⟩ := h
    replace h := zb3E h
    rcases h with ⟨v4, G5, e3, h⟩ | ⟨X6, G7, e3, h⟩
    · refine j_cont (zrV (As := []) msX4_107 (yX4_unused_ok e3) (Nat.le_trans (Nat.le_of_ble_eq_true rfl) hd) (zk_4 _ e2) rfl rfl (Nat.le_of_ble_eq_true rfl) dX4_removeDirect_67) ?_
      refine j_istore_n (lv' := [(3, vI v4), (0, vR (some t)), (1, vI x1), (2, vI x2)]) dX4_removeDirect_70 rfl (Nat.le_of_ble_eq_true rfl) rfl ?_
      replace h := zlE h
      obtain ⟨G8, e9, h⟩ := h
      refine j_new (c := 11) (n := 3) (r := (RJ2, TJ2, 3, tyJ2)) rfl rfl in_J2 tyJ2_ok nwJ2 q1975 q184 q126 dX4_removeDirect_71 ?_
      rw [show al G5 (11 + 1) 0 3 = G8 from e9.symm]
      refine j_dup dX4_removeDirect_74 rfl ?_
      replace h := zbE h
      obtain ⟨G11, e10, h⟩ := h
      refine j_cont (zrI (As := []) msX4_64 (yJ2_init_ok e10) (Nat.le_trans (Nat.le_of_ble_eq_true rfl) hd) rfl rfl (Nat.le_of_ble_eq_true rfl) dX4_removeDirect_75) ?_
      refine j_astore (lv' := [(4, vR (some (gz G5))), (3, vI v4), (0, vR (some t)), (1, vI x1), (2, vI x2)]) dX4_removeDirect_78 (Nat.le_of_ble_eq_true rfl) rfl ?_
      replace h := zlE h
      obtain ⟨G12, e13, h⟩ := h
      refine j_new (c := 11) (n := 3) (r := (RJ2, TJ2, 3, tyJ2)) rfl rfl in_J2 tyJ2_ok nwJ2 q1975 q184 q126 dX4_removeDirect_80 ?_
      rw [show al G11 (11 + 1) 0 3 = G12 from e13.symm]
      refine j_dup dX4_removeDirect_83 rfl ?_
      replace h := zbE h
      obtain ⟨G15, e14, h⟩ := h
      refine j_cont (zrI (As := []) msX4_64 (yJ2_init_ok e14) (Nat.le_trans (Nat.le_of_ble_eq_true rfl) hd) rfl rfl (Nat.le_of_ble_eq_true rfl) dX4_removeDirect_84) ?_
      refine j_astore (lv' := [(5, vR (some (gz G11))), (4, vR (some (gz G5))), (3, vI v4), (0, vR (some t)), (1, vI x1), (2, vI x2)]) dX4_removeDirect_87 (Nat.le_of_ble_eq_true rfl) rfl ?_
      refine j_aload_n (j := 3) dX4_removeDirect_89 rfl rfl ?_
      replace h := zbE h
      obtain ⟨r16, e17, h⟩ := h
      refine j_getR fgX4_14 (fun _ _ _ => rfl) dX4_removeDirect_90 e17 ?_
      replace h := zbE h
      obtain ⟨a18, e19, h⟩ := h
      subst e19
      replace h := zkE h
      obtain ⟨e20, h⟩ := h
      replace h := zb2E h
      obtain ⟨r22, G23, e21, h⟩ := h
      refine j_cont (zrF (As := []) msX4_20_J2 (yJ2_iterator_ok e21) (Nat.le_trans (Nat.le_of_ble_eq_true rfl) hd) (zk_12 _ e20) rfl rfl (Nat.le_of_ble_eq_true rfl) dX4_removeDirect_93) ?_
      refine j_astore (lv' := [(6, vR r22), (5, vR (some (gz G11))), (4, vR (some (gz G5))), (3, vI v4), (0, vR (some t)), (1, vI x1), (2, vI x2)]) dX4_removeDirect_98 (Nat.le_of_ble_eq_true rfl) rfl ?_
      exact J.sub (zall [4, 5, 3, 2, 1, 0] rfl) (wflX4_removeDirect_100 hd t x1 v4 (some (gz G5)) (some (gz G11)) r22  G23 h hk)
    · refine j_thr (zrV (As := []) msX4_107 (yX4_unused_ok e3) (Nat.le_trans (Nat.le_of_ble_eq_true rfl) hd) (zk_4 _ e2) rfl rfl (Nat.le_of_ble_eq_true rfl) dX4_removeDirect_67) ?_
      obtain rfl := Option.some.inj h
      exact jx_out hk.1 hk.2 (by decide)
def fX4_removeDirect_56 (t : Nat) (x1 : Int32) (x3 : Option Nat) (s0 : Int32) (s1 : Int32) (G : GS) : Option ((Int32 × GS) ⊕ (((Unit) ⊕ String) × GS)) :=
  some (.inl ((s0 ||| s1), G))
theorem wfX4_removeDirect_56 {F : zF} (hd : 8 ≤ F.2.2.2) (t : Nat) (x1 : Int32) (x3 : Option Nat) (s0 : Int32) (s1 : Int32) (G : GS) {a : (Int32 × GS) ⊕ (((Unit) ⊕ String) × GS)} (h : fX4_removeDirect_56 t x1 x3 s0 s1 G = some a) (hk : (zcase (fun s : Int32 × GS => J mX4_removeDirect F s.2 12 [(0, vR (some t)), (1, vI x1), (2, vI s.1), (3, vR x3)] []) (zKXV F)) a) : J mX4_removeDirect F G 56 [(0, vR (some t)), (1, vI x1), (3, vR x3)] [vI s1, vI s0] := by
  unfold fX4_removeDirect_56 at h
  refine j_ior dX4_removeDirect_56 ?_
  refine j_istore_n (lv' := [(2, vI (s0 ||| s1)), (0, vR (some t)), (1, vI x1), (3, vR x3)]) dX4_removeDirect_57 rfl (Nat.le_of_ble_eq_true rfl) rfl ?_
  refine j_goto (tgt := 12) dX4_removeDirect_58 (by decide) ?_
  obtain rfl := Option.some.inj h
  exact J.sub (zall [1, 2, 0, 3] rfl) hk
def fX4_removeDirect_55 (t : Nat) (x1 : Int32) (x3 : Option Nat) (s0 : Int32) (G : GS) : Option ((Int32 × GS) ⊕ (((Unit) ⊕ String) × GS)) :=
  fX4_removeDirect_56 t x1 x3 s0 0 G
theorem wfX4_removeDirect_55 {F : zF} (hd : 8 ≤ F.2.2.2) (t : Nat) (x1 : Int32) (x3 : Option Nat) (s0 : Int32) (G : GS) {a : (Int32 × GS) ⊕ (((Unit) ⊕ String) × GS)} (h : fX4_removeDirect_55 t x1 x3 s0 G = some a) (hk : (zcase (fun s : Int32 × GS => J mX4_removeDirect F s.2 12 [(0, vR (some t)), (1, vI x1), (2, vI s.1), (3, vR x3)] []) (zKXV F)) a) : J mX4_removeDirect F G 55 [(0, vR (some t)), (1, vI x1), (3, vR x3)] [vI s0] := by
  unfold fX4_removeDirect_55 at h
  refine j_iconst (v := 0) dX4_removeDirect_55 (by decide) ?_
  exact J.sub (zall [0, 1, 2] rfl) (wfX4_removeDirect_56 hd t x1 x3 s0 0 G h hk)
def fbX4_removeDirect_12 (t : Nat) (x1 : Int32) (x2 : Int32) (x3 : Option Nat)  (G : GS) : Option ((Int32 × GS) ⊕ (((Unit) ⊕ String) × GS)) :=
  x3.bind fun a1 => zk [13] G a1 <| (fJ19_hasNext_0 a1 G).bind fun v5 => if v5 = 0 then (zo (fX4_removeDirect_61 t x1 x2 G)) else (zk [13] G a1 <| zb2 (fJ19_next_0 a1 G) fun r9 G10 => zkq [3] G10 r9 (r9.bind fun a12 => (zgI G10 3 a12 0).bind fun v14 => if v14 = x1 then (zk [3] G10 a12 <| (fX3_beginsWith_0 a12 x1 G10).bind fun v19 => if v19 = 0 then (fX4_removeDirect_55 t x1 (some a1) x2 G10) else (fX4_removeDirect_56 t x1 (some a1) x2 1 G10)) else (fX4_removeDirect_55 t x1 (some a1) x2 G10)))
def flX4_removeDirect_12 (t : Nat) (x1 : Int32) (x2 : Int32) (x3 : Option Nat) (G : GS) : Option (((Unit) ⊕ String) × GS) := zloop (fun s : Int32 × GS => fbX4_removeDirect_12 t x1 s.1 x3 s.2) (x2, G)
theorem wfbX4_removeDirect_12 {F : zF} (hd : 8 ≤ F.2.2.2) (t : Nat) (x1 : Int32) (x2 : Int32) (x3 : Option Nat) (G : GS) {a : (Int32 × GS) ⊕ (((Unit) ⊕ String) × GS)} (h : fbX4_removeDirect_12 t x1 x2 x3 G = some a) (hk : (zcase (fun s : Int32 × GS => J mX4_removeDirect F s.2 12 [(0, vR (some t)), (1, vI x1), (2, vI s.1), (3, vR x3)] []) (zKXV F)) a) : J mX4_removeDirect F G 12 [(0, vR (some t)), (1, vI x1), (2, vI x2), (3, vR x3)] [] := by
  unfold fbX4_removeDirect_12 at h
  refine j_aload_n (j := 3) dX4_removeDirect_12 rfl rfl ?_
  replace h := zbE h
  obtain ⟨a1, e2, h⟩ := h
  subst e2
  replace h := zkE h
  obtain ⟨e3, h⟩ := h
  replace h := zbE h
  obtain ⟨v5, e4, h⟩ := h
  refine j_cont (zrF (As := []) msX4_26_J19 (yJ19_hasNext_ok e4) (Nat.le_trans (Nat.le_of_ble_eq_true rfl) hd) (zk_13 _ e3) rfl rfl (Nat.le_of_ble_eq_true rfl) dX4_removeDirect_13) ?_
  refine j_if_eq (tgt := 61) dX4_removeDirect_18 (by decide) (fun c6 => ?_) (fun c6 => ?_)
  · rw [if_pos c6] at h
    replace h := zoE h
    obtain ⟨a, h, rfl⟩ := h
    replace hk := hk
    exact J.sub (zall [0, 1, 2] rfl) (wfX4_removeDirect_61 hd t x1 x2  G h hk)
  · rw [if_neg c6] at h
    refine j_aload_n (j := 3) dX4_removeDirect_21 rfl rfl ?_
    replace h := zkE h
    obtain ⟨e7, h⟩ := h
    replace h := zb2E h
    obtain ⟨r9, G10, e8, h⟩ := h
    refine j_cont (zrF (As := []) msX4_32_J19 (yJ19_next_ok e8) (Nat.le_trans (Nat.le_of_ble_eq_true rfl) hd) (zk_13 _ e7) rfl rfl (Nat.le_of_ble_eq_true rfl) dX4_removeDirect_22) ?_
    replace h := zkqE h
    obtain ⟨e11, h⟩ := h
    refine j_castq (fun k => j_castN dX4_removeDirect_27 k) (fun b q21 k => j_castS (zk_3 _ (e11 b q21)) ⟨2, _, rfl, rfl⟩ q399 dX4_removeDirect_27 k) ?_
    refine j_astore (lv' := [(4, vR r9), (0, vR (some t)), (1, vI x1), (2, vI x2), (3, vR (some a1))]) dX4_removeDirect_30 (Nat.le_of_ble_eq_true rfl) rfl ?_
    refine j_iload_n (j := 3) dX4_removeDirect_32 rfl rfl ?_
    refine j_aload (j := 0) dX4_removeDirect_33 rfl ?_
    replace h := zbE h
    obtain ⟨a12, e13, h⟩ := h
    subst e13
    replace h := zbE h
    obtain ⟨v14, e15, h⟩ := h
    refine j_getI fgX4_38 (fun _ _ _ => rfl) dX4_removeDirect_35 e15 ?_
    refine j_iload_n (j := 2) dX4_removeDirect_38 rfl rfl ?_
    refine j_icmp_ne (tgt := 55) dX4_removeDirect_39 (by decide) (fun c16 => ?_) (fun c16 => ?_)
    · rw [if_pos c16] at h
      refine j_aload (j := 0) dX4_removeDirect_42 rfl ?_
      refine j_iload_n (j := 2) dX4_removeDirect_44 rfl rfl ?_
      replace h := zkE h
      obtain ⟨e17, h⟩ := h
      replace h := zbE h
      obtain ⟨v19, e18, h⟩ := h
      refine j_cont (zrV (As := [vI x1]) msX4_104 (yX3_beginsWith_ok e18) (Nat.le_trans (Nat.le_of_ble_eq_true rfl) hd) (zk_3 _ e17) rfl rfl (Nat.le_of_ble_eq_true rfl) dX4_removeDirect_45) ?_
      refine j_if_eq (tgt := 55) dX4_removeDirect_48 (by decide) (fun c20 => ?_) (fun c20 => ?_)
      · rw [if_pos c20] at h
        exact J.sub (zall [1, 2, 4] rfl) (wfX4_removeDirect_55 hd t x1 (some a1) x2 G10 h hk)
      · rw [if_neg c20] at h
        refine j_iconst (v := 1) dX4_removeDirect_51 (by decide) ?_
        refine j_goto (tgt := 56) dX4_removeDirect_52 (by decide) ?_
        exact J.sub (zall [1, 2, 4] rfl) (wfX4_removeDirect_56 hd t x1 (some a1) x2 1 G10 h hk)
    · rw [if_neg c16] at h
      exact J.sub (zall [1, 2, 4] rfl) (wfX4_removeDirect_55 hd t x1 (some a1) x2 G10 h hk)
theorem wflX4_removeDirect_12 {F : zF} (hd : 8 ≤ F.2.2.2) (t : Nat) (x1 : Int32) (x2 : Int32) (x3 : Option Nat) (G : GS) {a : ((Unit) ⊕ String) × GS} (h : flX4_removeDirect_12 t x1 x2 x3 G = some a) (hk : zKXV F a) : J mX4_removeDirect F G 12 [(0, vR (some t)), (1, vI x1), (2, vI x2), (3, vR x3)] [] := by
  unfold flX4_removeDirect_12 at h
  exact zloop_walk (P := (fun s : Int32 × GS => J mX4_removeDirect F s.2 12 [(0, vR (some t)), (1, vI x1), (2, vI s.1), (3, vR x3)] [])) (fun s b e hk => wfbX4_removeDirect_12 hd t x1 s.1 x3 s.2 e hk) (x2, G) _ h hk
def fX4_removeDirect_0 (t : Nat) (x1 : Int32)  (G : GS) : Option (((Unit) ⊕ String) × GS) :=
  (zgR G 4 t 0).bind fun r1 => r1.bind fun a3 => zk [12] G a3 <| zb2 (fJ2_iterator_0 a3 G) fun r7 G8 => flX4_removeDirect_12 t x1 0 r7 G8
theorem wfX4_removeDirect_0 {F : zF} (hd : 8 ≤ F.2.2.2) (t : Nat) (x1 : Int32)  (G : GS) {a : ((Unit) ⊕ String) × GS} (h : fX4_removeDirect_0 t x1  G = some a) (hk : zKXV F a) : J mX4_removeDirect F G 0 [(0, vR (some t)), (1, vI x1)] [] := by
  unfold fX4_removeDirect_0 at h
  refine j_iconst (v := 0) dX4_removeDirect_0 (by decide) ?_
  refine j_istore_n (lv' := [(2, vI 0), (0, vR (some t)), (1, vI x1)]) dX4_removeDirect_1 rfl (Nat.le_of_ble_eq_true rfl) rfl ?_
  refine j_aload_n (j := 1) dX4_removeDirect_2 rfl rfl ?_
  replace h := zbE h
  obtain ⟨r1, e2, h⟩ := h
  refine j_getR fgX4_14 (fun _ _ _ => rfl) dX4_removeDirect_3 e2 ?_
  replace h := zbE h
  obtain ⟨a3, e4, h⟩ := h
  subst e4
  replace h := zkE h
  obtain ⟨e5, h⟩ := h
  replace h := zb2E h
  obtain ⟨r7, G8, e6, h⟩ := h
  refine j_cont (zrF (As := []) msX4_20_J2 (yJ2_iterator_ok e6) (Nat.le_trans (Nat.le_of_ble_eq_true rfl) hd) (zk_12 _ e5) rfl rfl (Nat.le_of_ble_eq_true rfl) dX4_removeDirect_6) ?_
  refine j_astore_n (lv' := [(3, vR r7), (2, vI 0), (0, vR (some t)), (1, vI x1)]) dX4_removeDirect_11 rfl (Nat.le_of_ble_eq_true rfl) rfl ?_
  exact J.sub (zall [2, 3, 1, 0] rfl) (wflX4_removeDirect_12 hd t x1 0 r7  G8 h hk)
theorem yX4_removeDirect_ok {t : Nat} {x1 : Int32} {G : GS} {r : (Unit) ⊕ String} {G1 : GS} (h : fX4_removeDirect_0 t x1 G = some (r, G1)) : zRuns yX4_removeDirect (ws_ yX4_removeDirect cX4_removeDirect 8 none) [vR (some t), vI x1] (zout (fun _ => none) r, G, G1, 8) :=
  zentry (M := mX4_removeDirect) (plainFor_of_name (by decide +kernel)) ⟨rfl, rfl, rfl, rfl⟩ (Nat.le_of_ble_eq_true rfl) (wfX4_removeDirect_0 (Nat.le_refl _) t x1 G h ⟨rfl, rfl⟩)
theorem msX4_69 : zSV RX4 69 RX4 yX4_replaceFirst cX4_replaceFirst 8 (some Jvm.ClassFile.FieldType.boolean) 2 := ⟨lw_V q2217 q2219 qs40 q146 q2220, (by decide +kernel), (by decide)⟩
theorem msX4_76 : zSV RX4 76 RX4 yX4_removeDirect cX4_removeDirect 8 none 1 := ⟨lw_V q2284 q2286 qs45 q146 q2287, (by decide +kernel), (by decide)⟩
abbrev mX4_removeLeftRecursion : zM := (cX4_removeLeftRecursion, RX4, 4, none, "removeLeftRecursion", [], "()V")
def fX4_removeLeftRecursion_104 (t : Nat) (x1 : Int32) (x2 : Int32)  (G : GS) : Option ((Int32 × GS) ⊕ (((Unit) ⊕ String) × GS)) :=
  some (.inl ((x2 + 1), G))
theorem wfX4_removeLeftRecursion_104 {F : zF} (hd : 22 ≤ F.2.2.2) (t : Nat) (x1 : Int32) (x2 : Int32)  (G : GS) {a : (Int32 × GS) ⊕ (((Unit) ⊕ String) × GS)} (h : fX4_removeLeftRecursion_104 t x1 x2  G = some a) (hk : (zcase (fun s : Int32 × GS => J mX4_removeLeftRecursion F s.2 48 [(0, vR (some t)), (1, vI x1), (2, vI s.1)] []) (zKXV F)) a) : J mX4_removeLeftRecursion F G 104 [(0, vR (some t)), (1, vI x1), (2, vI x2)] [] := by
  unfold fX4_removeLeftRecursion_104 at h
  refine j_iinc (j := 2) (v := (x2 + 1)) (lv' := [(2, vI (x2 + 1)), (0, vR (some t)), (1, vI x1)]) dX4_removeLeftRecursion_104 rfl rfl (Nat.le_of_ble_eq_true rfl) rfl ?_
  refine j_goto (tgt := 48) dX4_removeLeftRecursion_107 (by decide) ?_
  obtain rfl := Option.some.inj h
  exact J.sub (zall [1, 2, 0] rfl) hk
def fX4_removeLeftRecursion_92 (t : Nat) (x1 : Int32) (x2 : Int32)  (G : GS) : Option ((Int32 × GS) ⊕ (((Unit) ⊕ String) × GS)) :=
  zk [4] G t <| zb3 (fX4_removeDirect_0 t (20 + x2) G) (fun u6 G3 => zk [4] G3 t <| zb3 (fX4_check_0 t G3) (fun u12 G9 => fX4_removeLeftRecursion_104 t x1 x2 G9) (fun X10 G11 => zo (some (.inr X10, G11)))) (fun X4 G5 => zo (some (.inr X4, G5)))
theorem wfX4_removeLeftRecursion_92 {F : zF} (hd : 22 ≤ F.2.2.2) (t : Nat) (x1 : Int32) (x2 : Int32)  (G : GS) {a : (Int32 × GS) ⊕ (((Unit) ⊕ String) × GS)} (h : fX4_removeLeftRecursion_92 t x1 x2  G = some a) (hk : (zcase (fun s : Int32 × GS => J mX4_removeLeftRecursion F s.2 48 [(0, vR (some t)), (1, vI x1), (2, vI s.1)] []) (zKXV F)) a) : J mX4_removeLeftRecursion F G 92 [(0, vR (some t)), (1, vI x1), (2, vI x2)] [] := by
  unfold fX4_removeLeftRecursion_92 at h
  refine j_aload_n (j := 0) dX4_removeLeftRecursion_92 rfl rfl ?_
  refine j_bipush (v := 20) dX4_removeLeftRecursion_93 (by decide) ?_
  refine j_iload_n (j := 2) dX4_removeLeftRecursion_95 rfl rfl ?_
  refine j_iadd dX4_removeLeftRecursion_96 ?_
  replace h := zkE h
  obtain ⟨e1, h⟩ := h
  replace h := zb3E h
  rcases h with ⟨u6, G3, e2, h⟩ | ⟨X4, G5, e2, h⟩
  · refine j_cont (zrV (As := [vI (20 + x2)]) msX4_76 (yX4_removeDirect_ok e2) (Nat.le_trans (Nat.le_of_ble_eq_true rfl) hd) (zk_4 _ e1) rfl rfl (Nat.le_of_ble_eq_true rfl) dX4_removeLeftRecursion_97) ?_
    refine j_aload_n (j := 0) dX4_removeLeftRecursion_100 rfl rfl ?_
    replace h := zkE h
    obtain ⟨e7, h⟩ := h
    replace h := zb3E h
    rcases h with ⟨u12, G9, e8, h⟩ | ⟨X10, G11, e8, h⟩
    · refine j_cont (zrV (As := []) msX4_73 (yX4_check_ok e8) (Nat.le_trans (Nat.le_of_ble_eq_true rfl) hd) (zk_4 _ e7) rfl rfl (Nat.le_of_ble_eq_true rfl) dX4_removeLeftRecursion_101) ?_
      exact J.sub (zall [0, 1, 2] rfl) (wfX4_removeLeftRecursion_104 hd t x1 x2  G9 h hk)
    · refine j_thr (zrV (As := []) msX4_73 (yX4_check_ok e8) (Nat.le_trans (Nat.le_of_ble_eq_true rfl) hd) (zk_4 _ e7) rfl rfl (Nat.le_of_ble_eq_true rfl) dX4_removeLeftRecursion_101) ?_
      replace h := zoE h
      obtain ⟨a, h, rfl⟩ := h
      replace hk := hk
      obtain rfl := Option.some.inj h
      exact jx_out hk.1 hk.2 (by decide)
  · refine j_thr (zrV (As := [vI (20 + x2)]) msX4_76 (yX4_removeDirect_ok e2) (Nat.le_trans (Nat.le_of_ble_eq_true rfl) hd) (zk_4 _ e1) rfl rfl (Nat.le_of_ble_eq_true rfl) dX4_removeLeftRecursion_97) ?_
    replace h := zoE h
    obtain ⟨a, h, rfl⟩ := h
    replace hk := hk
    obtain rfl := Option.some.inj h
    exact jx_out hk.1 hk.2 (by decide)
def fbX4_removeLeftRecursion_73 (t : Nat) (x1 : Int32) (x2 : Int32) (x3 : Int32)  (G : GS) : Option ((GS) ⊕ ((Int32 × GS) ⊕ (((Unit) ⊕ String) × GS))) :=
  zk [4] G t <| zb3 (fX4_replaceFirst_0 t (20 + x2) x3 G) (fun v3 G4 => if v3 = 0 then (zo (fX4_removeLeftRecursion_92 t x1 x2 G4)) else (zk [4] G4 t <| zb3 (fX4_check_0 t G4) (fun u13 G10 => some (.inl (G10))) (fun X11 G12 => zo (zo (some (.inr X11, G12)))))) (fun X5 G6 => zo (zo (some (.inr X5, G6))))
def flX4_removeLeftRecursion_73 (t : Nat) (x1 : Int32) (x2 : Int32) (x3 : Int32) (G : GS) : Option ((Int32 × GS) ⊕ (((Unit) ⊕ String) × GS)) := zloop (fun s : GS => fbX4_removeLeftRecursion_73 t x1 x2 x3 s) (G)
theorem wfbX4_removeLeftRecursion_73 {F : zF} (hd : 22 ≤ F.2.2.2) (t : Nat) (x1 : Int32) (x2 : Int32) (x3 : Int32) (G : GS) {a : (GS) ⊕ ((Int32 × GS) ⊕ (((Unit) ⊕ String) × GS))} (h : fbX4_removeLeftRecursion_73 t x1 x2 x3 G = some a) (hk : (zcase (fun s : GS => J mX4_removeLeftRecursion F s 73 [(0, vR (some t)), (1, vI x1), (2, vI x2), (3, vI x3)] []) ((zcase (fun s : Int32 × GS => J mX4_removeLeftRecursion F s.2 48 [(0, vR (some t)), (1, vI x1), (2, vI s.1)] []) (zKXV F)))) a) : J mX4_removeLeftRecursion F G 73 [(0, vR (some t)), (1, vI x1), (2, vI x2), (3, vI x3)] [] := by
  unfold fbX4_removeLeftRecursion_73 at h
  refine j_aload_n (j := 0) dX4_removeLeftRecursion_73 rfl rfl ?_
  refine j_bipush (v := 20) dX4_removeLeftRecursion_74 (by decide) ?_
  refine j_iload_n (j := 2) dX4_removeLeftRecursion_76 rfl rfl ?_
  refine j_iadd dX4_removeLeftRecursion_77 ?_
  refine j_iload_n (j := 3) dX4_removeLeftRecursion_78 rfl rfl ?_
  replace h := zkE h
  obtain ⟨e1, h⟩ := h
  replace h := zb3E h
  rcases h with ⟨v3, G4, e2, h⟩ | ⟨X5, G6, e2, h⟩
  · refine j_cont (zrV (As := [vI (20 + x2), vI x3]) msX4_69 (yX4_replaceFirst_ok e2) (Nat.le_trans (Nat.le_of_ble_eq_true rfl) hd) (zk_4 _ e1) rfl rfl (Nat.le_of_ble_eq_true rfl) dX4_removeLeftRecursion_79) ?_
    refine j_if_eq (tgt := 92) dX4_removeLeftRecursion_82 (by decide) (fun c7 => ?_) (fun c7 => ?_)
    · rw [if_pos c7] at h
      replace h := zoE h
      obtain ⟨a, h, rfl⟩ := h
      replace hk := hk
      exact J.sub (zall [0, 1, 2] rfl) (wfX4_removeLeftRecursion_92 hd t x1 x2  G4 h hk)
    · rw [if_neg c7] at h
      refine j_aload_n (j := 0) dX4_removeLeftRecursion_85 rfl rfl ?_
      replace h := zkE h
      obtain ⟨e8, h⟩ := h
      replace h := zb3E h
      rcases h with ⟨u13, G10, e9, h⟩ | ⟨X11, G12, e9, h⟩
      · refine j_cont (zrV (As := []) msX4_73 (yX4_check_ok e9) (Nat.le_trans (Nat.le_of_ble_eq_true rfl) hd) (zk_4 _ e8) rfl rfl (Nat.le_of_ble_eq_true rfl) dX4_removeLeftRecursion_86) ?_
        refine j_goto (tgt := 73) dX4_removeLeftRecursion_89 (by decide) ?_
        obtain rfl := Option.some.inj h
        exact J.sub (zall [0, 1, 2, 3] rfl) hk
      · refine j_thr (zrV (As := []) msX4_73 (yX4_check_ok e9) (Nat.le_trans (Nat.le_of_ble_eq_true rfl) hd) (zk_4 _ e8) rfl rfl (Nat.le_of_ble_eq_true rfl) dX4_removeLeftRecursion_86) ?_
        replace h := zoE h
        obtain ⟨a, h, rfl⟩ := h
        replace hk := hk
        replace h := zoE h
        obtain ⟨a, h, rfl⟩ := h
        replace hk := hk
        obtain rfl := Option.some.inj h
        exact jx_out hk.1 hk.2 (by decide)
  · refine j_thr (zrV (As := [vI (20 + x2), vI x3]) msX4_69 (yX4_replaceFirst_ok e2) (Nat.le_trans (Nat.le_of_ble_eq_true rfl) hd) (zk_4 _ e1) rfl rfl (Nat.le_of_ble_eq_true rfl) dX4_removeLeftRecursion_79) ?_
    replace h := zoE h
    obtain ⟨a, h, rfl⟩ := h
    replace hk := hk
    replace h := zoE h
    obtain ⟨a, h, rfl⟩ := h
    replace hk := hk
    obtain rfl := Option.some.inj h
    exact jx_out hk.1 hk.2 (by decide)
theorem wflX4_removeLeftRecursion_73 {F : zF} (hd : 22 ≤ F.2.2.2) (t : Nat) (x1 : Int32) (x2 : Int32) (x3 : Int32) (G : GS) {a : (Int32 × GS) ⊕ (((Unit) ⊕ String) × GS)} (h : flX4_removeLeftRecursion_73 t x1 x2 x3 G = some a) (hk : (zcase (fun s : Int32 × GS => J mX4_removeLeftRecursion F s.2 48 [(0, vR (some t)), (1, vI x1), (2, vI s.1)] []) (zKXV F)) a) : J mX4_removeLeftRecursion F G 73 [(0, vR (some t)), (1, vI x1), (2, vI x2), (3, vI x3)] [] := by
  unfold flX4_removeLeftRecursion_73 at h
  exact zloop_walk (P := (fun s : GS => J mX4_removeLeftRecursion F s 73 [(0, vR (some t)), (1, vI x1), (2, vI x2), (3, vI x3)] [])) (fun s b e hk => wfbX4_removeLeftRecursion_73 hd t x1 x2 x3 s e hk) (G) _ h hk
def fbX4_removeLeftRecursion_48 (t : Nat) (x1 : Int32) (x2 : Int32)  (G : GS) : Option ((Int32 × GS) ⊕ (((Unit) ⊕ String) × GS)) :=
  if 12 ≤ x2 then (zo (some (.inl (), G))) else (if ((x1 >>> (x2 &&& 31)) &&& 1) = 0 then (fX4_removeLeftRecursion_104 t x1 x2 G) else (flX4_removeLeftRecursion_73 t x1 x2 (x1 &&& (((1 : Int32) <<< (x2 &&& 31)) - 1)) G))
def flX4_removeLeftRecursion_48 (t : Nat) (x1 : Int32) (x2 : Int32) (G : GS) : Option (((Unit) ⊕ String) × GS) := zloop (fun s : Int32 × GS => fbX4_removeLeftRecursion_48 t x1 s.1 s.2) (x2, G)
theorem wfbX4_removeLeftRecursion_48 {F : zF} (hd : 22 ≤ F.2.2.2) (t : Nat) (x1 : Int32) (x2 : Int32) (G : GS) {a : (Int32 × GS) ⊕ (((Unit) ⊕ String) × GS)} (h : fbX4_removeLeftRecursion_48 t x1 x2 G = some a) (hk : (zcase (fun s : Int32 × GS => J mX4_removeLeftRecursion F s.2 48 [(0, vR (some t)), (1, vI x1), (2, vI s.1)] []) (zKXV F)) a) : J mX4_removeLeftRecursion F G 48 [(0, vR (some t)), (1, vI x1), (2, vI x2)] [] := by
  unfold fbX4_removeLeftRecursion_48 at h
  refine j_iload_n (j := 2) dX4_removeLeftRecursion_48 rfl rfl ?_
  refine j_bipush (v := 12) dX4_removeLeftRecursion_49 (by decide) ?_
  refine j_icmp_ge (tgt := 110) dX4_removeLeftRecursion_51 (by decide) (fun c1 => ?_) (fun c1 => ?_)
  · rw [if_pos c1] at h
    replace h := zoE h
    obtain ⟨a, h, rfl⟩ := h
    replace hk := hk
    obtain rfl := Option.some.inj h
    exact j_vret hk.1 hk.2 rfl dX4_removeLeftRecursion_110
  · rw [if_neg c1] at h
    refine j_iload_n (j := 1) dX4_removeLeftRecursion_54 rfl rfl ?_
    refine j_iload_n (j := 2) dX4_removeLeftRecursion_55 rfl rfl ?_
    refine j_ishr dX4_removeLeftRecursion_56 ?_
    refine j_iconst (v := 1) dX4_removeLeftRecursion_57 (by decide) ?_
    refine j_iand dX4_removeLeftRecursion_58 ?_
    refine j_if_ne (tgt := 65) dX4_removeLeftRecursion_59 (by decide) (fun c2 => ?_) (fun c2 => ?_)
    · rw [if_pos c2] at h
      refine j_goto (tgt := 104) dX4_removeLeftRecursion_62 (by decide) ?_
      exact J.sub (zall [0, 1, 2] rfl) (wfX4_removeLeftRecursion_104 hd t x1 x2  G h hk)
    · rw [if_neg c2] at h
      refine j_iload_n (j := 1) dX4_removeLeftRecursion_65 rfl rfl ?_
      refine j_iconst (v := 1) dX4_removeLeftRecursion_66 (by decide) ?_
      refine j_iload_n (j := 2) dX4_removeLeftRecursion_67 rfl rfl ?_
      refine j_ishl dX4_removeLeftRecursion_68 ?_
      refine j_iconst (v := 1) dX4_removeLeftRecursion_69 (by decide) ?_
      refine j_isub dX4_removeLeftRecursion_70 ?_
      refine j_iand dX4_removeLeftRecursion_71 ?_
      refine j_istore_n (lv' := [(3, vI (x1 &&& (((1 : Int32) <<< (x2 &&& 31)) - 1))), (0, vR (some t)), (1, vI x1), (2, vI x2)]) dX4_removeLeftRecursion_72 rfl (Nat.le_of_ble_eq_true rfl) rfl ?_
      exact J.sub (zall [1, 2, 3, 0] rfl) (wflX4_removeLeftRecursion_73 hd t x1 x2 (x1 &&& (((1 : Int32) <<< (x2 &&& 31)) - 1))  G h hk)
theorem wflX4_removeLeftRecursion_48 {F : zF} (hd : 22 ≤ F.2.2.2) (t : Nat) (x1 : Int32) (x2 : Int32) (G : GS) {a : ((Unit) ⊕ String) × GS} (h : flX4_removeLeftRecursion_48 t x1 x2 G = some a) (hk : zKXV F a) : J mX4_removeLeftRecursion F G 48 [(0, vR (some t)), (1, vI x1), (2, vI x2)] [] := by
  unfold flX4_removeLeftRecursion_48 at h
  exact zloop_walk (P := (fun s : Int32 × GS => J mX4_removeLeftRecursion F s.2 48 [(0, vR (some t)), (1, vI x1), (2, vI s.1)] [])) (fun s b e hk => wfbX4_removeLeftRecursion_48 hd t x1 s.1 s.2 e hk) (x2, G) _ h hk
def fX4_removeLeftRecursion_46 (t : Nat) (x1 : Int32)  (G : GS) : Option (((Unit) ⊕ String) × GS) :=
  flX4_removeLeftRecursion_48 t x1 0 G
theorem wfX4_removeLeftRecursion_46 {F : zF} (hd : 22 ≤ F.2.2.2) (t : Nat) (x1 : Int32)  (G : GS) {a : ((Unit) ⊕ String) × GS} (h : fX4_removeLeftRecursion_46 t x1  G = some a) (hk : zKXV F a) : J mX4_removeLeftRecursion F G 46 [(0, vR (some t)), (1, vI x1)] [] := by
  unfold fX4_removeLeftRecursion_46 at h
  refine j_iconst (v := 0) dX4_removeLeftRecursion_46 (by decide) ?_
  refine j_istore_n (lv' := [(2, vI 0), (0, vR (some t)), (1, vI x1)]) dX4_removeLeftRecursion_47 rfl (Nat.le_of_ble_eq_true rfl) rfl ?_
  exact J.sub (zall [1, 2, 0] rfl) (wflX4_removeLeftRecursion_48 hd t x1 0  G h hk)
def fbX4_removeLeftRecursion_12 (t : Nat) (x1 : Int32) (x2 : Option Nat)  (G : GS) : Option ((Int32 × GS) ⊕ (((Unit) ⊕ String) × GS)) :=
  x2.bind fun a1 => zk [13] G a1 <| (fJ19_hasNext_0 a1 G).bind fun v5 => if v5 = 0 then (zo (fX4_removeLeftRecursion_46 t x1 G)) else (zk [13] G a1 <| zb2 (fJ19_next_0 a1 G) fun r9 G10 => zkq [3] G10 r9 (r9.bind fun a12 => (zgI G10 3 a12 0).bind fun v14 => some (.inl ((x1 ||| ((1 : Int32) <<< ((v14 - 20) &&& 31))), G10))))
def flX4_removeLeftRecursion_12 (t : Nat) (x1 : Int32) (x2 : Option Nat) (G : GS) : Option (((Unit) ⊕ String) × GS) := zloop (fun s : Int32 × GS => fbX4_removeLeftRecursion_12 t s.1 x2 s.2) (x1, G)
theorem wfbX4_removeLeftRecursion_12 {F : zF} (hd : 22 ≤ F.2.2.2) (t : Nat) (x1 : Int32) (x2 : Option Nat) (G : GS) {a : (Int32 × GS) ⊕ (((Unit) ⊕ String) × GS)} (h : fbX4_removeLeftRecursion_12 t x1 x2 G = some a) (hk : (zcase (fun s : Int32 × GS => J mX4_removeLeftRecursion F s.2 12 [(0, vR (some t)), (1, vI s.1), (2, vR x2)] []) (zKXV F)) a) : J mX4_removeLeftRecursion F G 12 [(0, vR (some t)), (1, vI x1), (2, vR x2)] [] := by
  unfold fbX4_removeLeftRecursion_12 at h
  refine j_aload_n (j := 2) dX4_removeLeftRecursion_12 rfl rfl ?_
  replace h := zbE h
  obtain ⟨a1, e2, h⟩ := h
  subst e2
  replace h := zkE h
  obtain ⟨e3, h⟩ := h
  replace h := zbE h
  obtain ⟨v5, e4, h⟩ := h
  refine j_cont (zrF (As := []) msX4_26_J19 (yJ19_hasNext_ok e4) (Nat.le_trans (Nat.le_of_ble_eq_true rfl) hd) (zk_13 _ e3) rfl rfl (Nat.le_of_ble_eq_true rfl) dX4_removeLeftRecursion_13) ?_
  refine j_if_eq (tgt := 46) dX4_removeLeftRecursion_18 (by decide) (fun c6 => ?_) (fun c6 => ?_)
  · rw [if_pos c6] at h
    replace h := zoE h
    obtain ⟨a, h, rfl⟩ := h
    replace hk := hk
    exact J.sub (zall [0, 1] rfl) (wfX4_removeLeftRecursion_46 hd t x1  G h hk)
  · rw [if_neg c6] at h
    refine j_aload_n (j := 2) dX4_removeLeftRecursion_21 rfl rfl ?_
    replace h := zkE h
    obtain ⟨e7, h⟩ := h
    replace h := zb2E h
    obtain ⟨r9, G10, e8, h⟩ := h
    refine j_cont (zrF (As := []) msX4_32_J19 (yJ19_next_ok e8) (Nat.le_trans (Nat.le_of_ble_eq_true rfl) hd) (zk_13 _ e7) rfl rfl (Nat.le_of_ble_eq_true rfl) dX4_removeLeftRecursion_22) ?_
    replace h := zkqE h
    obtain ⟨e11, h⟩ := h
    refine j_castq (fun k => j_castN dX4_removeLeftRecursion_27 k) (fun b q16 k => j_castS (zk_3 _ (e11 b q16)) ⟨2, _, rfl, rfl⟩ q399 dX4_removeLeftRecursion_27 k) ?_
    refine j_astore_n (lv' := [(3, vR r9), (0, vR (some t)), (1, vI x1), (2, vR (some a1))]) dX4_removeLeftRecursion_30 rfl (Nat.le_of_ble_eq_true rfl) rfl ?_
    refine j_iload_n (j := 2) dX4_removeLeftRecursion_31 rfl rfl ?_
    refine j_iconst (v := 1) dX4_removeLeftRecursion_32 (by decide) ?_
    refine j_aload_n (j := 0) dX4_removeLeftRecursion_33 rfl rfl ?_
    replace h := zbE h
    obtain ⟨a12, e13, h⟩ := h
    subst e13
    replace h := zbE h
    obtain ⟨v14, e15, h⟩ := h
    refine j_getI fgX4_38 (fun _ _ _ => rfl) dX4_removeLeftRecursion_34 e15 ?_
    refine j_bipush (v := 20) dX4_removeLeftRecursion_37 (by decide) ?_
    refine j_isub dX4_removeLeftRecursion_39 ?_
    refine j_ishl dX4_removeLeftRecursion_40 ?_
    refine j_ior dX4_removeLeftRecursion_41 ?_
    refine j_istore_n (lv' := [(1, vI (x1 ||| ((1 : Int32) <<< ((v14 - 20) &&& 31)))), (3, vR (some a12)), (0, vR (some t)), (2, vR (some a1))]) dX4_removeLeftRecursion_42 rfl (Nat.le_of_ble_eq_true rfl) rfl ?_
    refine j_goto (tgt := 12) dX4_removeLeftRecursion_43 (by decide) ?_
    obtain rfl := Option.some.inj h
    exact J.sub (zall [2, 0, 3] rfl) hk
theorem wflX4_removeLeftRecursion_12 {F : zF} (hd : 22 ≤ F.2.2.2) (t : Nat) (x1 : Int32) (x2 : Option Nat) (G : GS) {a : ((Unit) ⊕ String) × GS} (h : flX4_removeLeftRecursion_12 t x1 x2 G = some a) (hk : zKXV F a) : J mX4_removeLeftRecursion F G 12 [(0, vR (some t)), (1, vI x1), (2, vR x2)] [] := by
  unfold flX4_removeLeftRecursion_12 at h
  exact zloop_walk (P := (fun s : Int32 × GS => J mX4_removeLeftRecursion F s.2 12 [(0, vR (some t)), (1, vI s.1), (2, vR x2)] [])) (fun s b e hk => wfbX4_removeLeftRecursion_12 hd t s.1 x2 s.2 e hk) (x1, G) _ h hk
def fX4_removeLeftRecursion_0 (t : Nat)  (G : GS) : Option (((Unit) ⊕ String) × GS) :=
  (zgR G 4 t 0).bind fun r1 => r1.bind fun a3 => zk [12] G a3 <| zb2 (fJ2_iterator_0 a3 G) fun r7 G8 => flX4_removeLeftRecursion_12 t 0 r7 G8
theorem wfX4_removeLeftRecursion_0 {F : zF} (hd : 22 ≤ F.2.2.2) (t : Nat)  (G : GS) {a : ((Unit) ⊕ String) × GS} (h : fX4_removeLeftRecursion_0 t  G = some a) (hk : zKXV F a) : J mX4_removeLeftRecursion F G 0 [(0, vR (some t))] [] := by
  unfold fX4_removeLeftRecursion_0 at h
  refine j_iconst (v := 0) dX4_removeLeftRecursion_0 (by decide) ?_
  refine j_istore_n (lv' := [(1, vI 0), (0, vR (some t))]) dX4_removeLeftRecursion_1 rfl (Nat.le_of_ble_eq_true rfl) rfl ?_
  refine j_aload_n (j := 1) dX4_removeLeftRecursion_2 rfl rfl ?_
  replace h := zbE h
  obtain ⟨r1, e2, h⟩ := h
  refine j_getR fgX4_14 (fun _ _ _ => rfl) dX4_removeLeftRecursion_3 e2 ?_
  replace h := zbE h
  obtain ⟨a3, e4, h⟩ := h
  subst e4
  replace h := zkE h
  obtain ⟨e5, h⟩ := h
  replace h := zb2E h
  obtain ⟨r7, G8, e6, h⟩ := h
  refine j_cont (zrF (As := []) msX4_20_J2 (yJ2_iterator_ok e6) (Nat.le_trans (Nat.le_of_ble_eq_true rfl) hd) (zk_12 _ e5) rfl rfl (Nat.le_of_ble_eq_true rfl) dX4_removeLeftRecursion_6) ?_
  refine j_astore_n (lv' := [(2, vR r7), (1, vI 0), (0, vR (some t))]) dX4_removeLeftRecursion_11 rfl (Nat.le_of_ble_eq_true rfl) rfl ?_
  exact J.sub (zall [2, 1, 0] rfl) (wflX4_removeLeftRecursion_12 hd t 0 r7  G8 h hk)
theorem yX4_removeLeftRecursion_ok {t : Nat} {G : GS} {r : (Unit) ⊕ String} {G1 : GS} (h : fX4_removeLeftRecursion_0 t G = some (r, G1)) : zRuns yX4_removeLeftRecursion (ws_ yX4_removeLeftRecursion cX4_removeLeftRecursion 4 none) [vR (some t)] (zout (fun _ => none) r, G, G1, 22) :=
  zentry (M := mX4_removeLeftRecursion) (plainFor_of_name (by decide +kernel)) ⟨rfl, rfl, rfl, rfl⟩ (Nat.le_of_ble_eq_true rfl) (wfX4_removeLeftRecursion_0 (Nat.le_refl _) t G h ⟨rfl, rfl⟩)
theorem msX1_180 : zSV RX1 180 RX4 yX4_removeLeftRecursion cX4_removeLeftRecursion 4 none 0 := ⟨lw_V q2213 q2214 q2215 q146 q2216, (by decide +kernel), (by decide)⟩
abbrev mX1_removeLeftRecursion : zM := (cX1_removeLeftRecursion, RX1, 3, (some Jvm.ClassFile.FieldType.int), "removeLeftRecursion", [(12, 16, 19, 183)], "()I")
def fX1_removeLeftRecursion_0 (t : Nat)  (G : GS) : Option (((Int32) ⊕ String) × GS) :=
  zl (al G 4 0 3) fun G1 => (zgR G1 1 t 0).bind fun r3 => (fX4_init_0 (gz G) r3 G1).bind fun G6 => zk [4] G6 (gz G) <| zb3 (fX4_removeLeftRecursion_0 (gz G) G6) (fun u12 G9 => zk [1] G9 t <| zb2 (fX1_kept_0 t (some (gz G)) G9) fun v15 G16 => some (.inl v15, G16)) (fun X10 G11 => if X10 = "SelahGenerator$Failed" then (zl (al G11 0 0 6) fun G19 => some (.inr "java/lang/IllegalStateException", G19)) else none)
theorem wfX1_removeLeftRecursion_0 {F : zF} (hd : 23 ≤ F.2.2.2) (t : Nat)  (G : GS) {a : ((Int32) ⊕ String) × GS} (h : fX1_removeLeftRecursion_0 t  G = some a) (hk : zKXI F a) : J mX1_removeLeftRecursion F G 0 [(0, vR (some t))] [] := by
  unfold fX1_removeLeftRecursion_0 at h
  replace h := zlE h
  obtain ⟨G1, e2, h⟩ := h
  refine j_new (c := 3) (n := 3) (r := (RX4, TX4, 3, tyX4)) rfl rfl in_X4 tyX4_ok nwX4 q1969 q1970 q146 dX1_removeLeftRecursion_0 ?_
  rw [show al G (3 + 1) 0 3 = G1 from e2.symm]
  refine j_dup dX1_removeLeftRecursion_3 rfl ?_
  refine j_aload_n (j := 0) dX1_removeLeftRecursion_4 rfl rfl ?_
  replace h := zbE h
  obtain ⟨r3, e4, h⟩ := h
  refine j_getR fgX1_16 (fun _ _ _ => rfl) dX1_removeLeftRecursion_5 e4 ?_
  replace h := zbE h
  obtain ⟨G6, e5, h⟩ := h
  refine j_cont (zrI (As := [vR r3]) msX1_179 (yX4_init_ok e5) (Nat.le_trans (Nat.le_of_ble_eq_true rfl) hd) rfl rfl (Nat.le_of_ble_eq_true rfl) dX1_removeLeftRecursion_8) ?_
  refine j_astore_n (lv' := [(1, vR (some (gz G))), (0, vR (some t))]) dX1_removeLeftRecursion_11 rfl (Nat.le_of_ble_eq_true rfl) rfl ?_
  refine j_aload_n (j := 0) dX1_removeLeftRecursion_12 rfl rfl ?_
  replace h := zkE h
  obtain ⟨e7, h⟩ := h
  replace h := zb3E h
  rcases h with ⟨u12, G9, e8, h⟩ | ⟨X10, G11, e8, h⟩
  · refine j_cont (zrV (As := []) msX1_180 (yX4_removeLeftRecursion_ok e8) (Nat.le_trans (Nat.le_of_ble_eq_true rfl) hd) (zk_4 _ e7) rfl rfl (Nat.le_of_ble_eq_true rfl) dX1_removeLeftRecursion_13) ?_
    refine j_goto (tgt := 28) dX1_removeLeftRecursion_16 (by decide) ?_
    refine j_aload_n (j := 1) dX1_removeLeftRecursion_28 rfl rfl ?_
    refine j_aload_n (j := 0) dX1_removeLeftRecursion_29 rfl rfl ?_
    replace h := zkE h
    obtain ⟨e13, h⟩ := h
    replace h := zb2E h
    obtain ⟨v15, G16, e14, h⟩ := h
    refine j_cont (zrV (As := [vR (some (gz G))]) msX1_185 (yX1_kept_ok e14) (Nat.le_trans (Nat.le_of_ble_eq_true rfl) hd) (zk_1 _ e13) rfl rfl (Nat.le_of_ble_eq_true rfl) dX1_removeLeftRecursion_30) ?_
    obtain rfl := Option.some.inj h
    exact j_iret hk.1 hk.2 rfl dX1_removeLeftRecursion_33
  · refine j_thr (zrV (As := []) msX1_180 (yX4_removeLeftRecursion_ok e8) (Nat.le_trans (Nat.le_of_ble_eq_true rfl) hd) (zk_4 _ e7) rfl rfl (Nat.le_of_ble_eq_true rfl) dX1_removeLeftRecursion_13) ?_
    by_cases c21 : X10 = "SelahGenerator$Failed"
    · rw [if_pos c21] at h
      subst c21
      refine jx_catch (n := 19) [] ⟨12, 16, 19, 183⟩ [] rfl (fun z hz => nomatch hz) rfl (by decide) q1968 (zxw 113 rfl) rfl (fun q18 => ?_)
      refine j_astore_n (lv' := [(2, vR (some q18)), (1, vR (some (gz G))), (0, vR (some t))]) dX1_removeLeftRecursion_19 rfl (Nat.le_of_ble_eq_true rfl) rfl ?_
      replace h := zlE h
      obtain ⟨G19, e20, h⟩ := h
      refine j_throw exX1_73_75 dX1_removeLeftRecursion_20 dX1_removeLeftRecursion_23 dX1_removeLeftRecursion_24 dX1_removeLeftRecursion_27 (Nat.le_trans (Nat.le_of_ble_eq_true rfl) hd) (Nat.le_of_ble_eq_true rfl) ?_
      rw [show al G11 0 0 6 = G19 from e20.symm]
      obtain rfl := Option.some.inj h
      exact jx_out hk.1 hk.2 (by decide)
    · rw [if_neg c21] at h
      cases h
theorem yX1_removeLeftRecursion_ok {t : Nat} {G : GS} {r : (Int32) ⊕ String} {G1 : GS} (h : fX1_removeLeftRecursion_0 t G = some (r, G1)) : zRuns yX1_removeLeftRecursion (wsW_ yX1_removeLeftRecursion cX1_removeLeftRecursion 3 (some Jvm.ClassFile.FieldType.int) [(12, 16, 19, 183)]) [vR (some t)] (zout (fun v => some (vI v)) r, G, G1, 23) :=
  zentryW (M := mX1_removeLeftRecursion) (by decide +kernel) ⟨rfl, rfl, rfl⟩ (Nat.le_of_ble_eq_true rfl) (wfX1_removeLeftRecursion_0 (Nat.le_refl _) t G h ⟨rfl, rfl⟩)
end
