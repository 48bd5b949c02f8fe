/-! printed: functions and walks -/
set_option maxRecDepth 100000
noncomputable section
theorem msJ6_67 : zSS RJ6 67 yJ6_checkIndex cJ6_checkIndex 2 none 2 := ⟨lw_S q2662 q2663 q130 q2664, (by decide +kernel), (by decide)⟩
abbrev mJ6_putCharSB : zM := (cJ6_putCharSB, RJ6, 3, none, "putCharSB", [], "([BII)V")
def fJ6_putCharSB_0 (x0 : Option Nat) (x1 : Int32) (x2 : Int32)  (G : GS) : Option (GS) :=
  (fJ6_checkIndex_0 x1 x0 G).bind fun G2 => (fJ6_putChar_0 x0 x1 x2 G2).bind fun G4 => some G4
theorem wfJ6_putCharSB_0 {F : zF} (hd : 4 ≤ F.2.2.2) (x0 : Option Nat) (x1 : Int32) (x2 : Int32)  (G : GS) {a : GS} (h : fJ6_putCharSB_0 x0 x1 x2  G = some a) (hk : zKV F a) : J mJ6_putCharSB F G 0 [(0, vR x0), (1, vI x1), (2, vI x2)] [] := by
  unfold fJ6_putCharSB_0 at h
  refine j_iload_n (j := 1) dJ6_putCharSB_0 rfl rfl ?_
  refine j_aload_n (j := 0) dJ6_putCharSB_1 rfl rfl ?_
  replace h := zbE h
  obtain ⟨G2, e1, h⟩ := h
  refine j_cont (zrS (As := [vI x1, vR x0]) msJ6_67 (yJ6_checkIndex_ok e1) (Nat.le_trans (Nat.le_of_ble_eq_true rfl) hd) rfl rfl (Nat.le_of_ble_eq_true rfl) dJ6_putCharSB_2) ?_
  refine j_aload_n (j := 0) dJ6_putCharSB_5 rfl rfl ?_
  refine j_iload_n (j := 1) dJ6_putCharSB_6 rfl rfl ?_
  refine j_iload_n (j := 2) dJ6_putCharSB_7 rfl rfl ?_
  replace h := zbE h
  obtain ⟨G4, e3, h⟩ := h
  refine j_cont (zrS (As := [vR x0, vI x1, vI x2]) msJ6_111 (yJ6_putChar_ok e3) (Nat.le_trans (Nat.le_of_ble_eq_true rfl) hd) rfl rfl (Nat.le_of_ble_eq_true rfl) dJ6_putCharSB_8) ?_
  obtain rfl := Option.some.inj h
  exact j_vret hk.1 hk.2 rfl dJ6_putCharSB_11
theorem yJ6_putCharSB_ok {x0 : Option Nat} {x1 : Int32} {x2 : Int32} {G : GS} {G1 : GS} (h : fJ6_putCharSB_0 x0 x1 x2 G = some G1) : zRuns yJ6_putCharSB (ws_ yJ6_putCharSB cJ6_putCharSB 3 none) [vR x0, vI x1, vI x2] (.inl none, G, G1, 4) :=
  zentry (M := mJ6_putCharSB) (plainFor_of_name (by decide +kernel)) ⟨rfl, rfl, rfl, rfl⟩ (Nat.le_of_ble_eq_true rfl) (wfJ6_putCharSB_0 (Nat.le_refl _) x0 x1 x2 G h ⟨rfl, rfl⟩)
theorem msJ3_191 : zSS RJ3 191 yJ29_canEncode cJ29_canEncode 1 (some Jvm.ClassFile.FieldType.boolean) 1 := ⟨lw_S q2656 q2657 q160 q2658, (by decide +kernel), (by decide)⟩
theorem msJ3_197 : zSS RJ3 197 yJ6_putCharSB cJ6_putCharSB 3 none 3 := ⟨lw_S q2659 q2660 q130 q2661, (by decide +kernel), (by decide)⟩
abbrev mJ3_append_3 : zM := (cJ3_append_3, RJ3, 2, (some (Jvm.ClassFile.FieldType.object "java/lang/AbstractStringBuilder")), "append", [], "(C)Ljava/lang/AbstractStringBuilder;")
def fJ3_append_3_56 (t : Nat) (x1 : Int32)  (G : GS) : Option ((Option Nat) × GS) :=
  (zgR G 22 t 0).bind fun r1 => (zgI G 22 t 3).bind fun v3 => (zpI G 22 t 3 (v3 + 1)).bind fun G5 => (fJ6_putCharSB_0 r1 v3 x1 G5).bind fun G8 => some ((some t), G8)
theorem wfJ3_append_3_56 {F : zF} (hd : 7 ≤ F.2.2.2) (t : Nat) (x1 : Int32)  (G : GS) {a : (Option Nat) × GS} (h : fJ3_append_3_56 t x1  G = some a) (hk : zKR F a) : J mJ3_append_3 F G 56 [(0, vR (some t)), (1, vI x1)] [] := by
  unfold fJ3_append_3_56 at h
  refine j_aload_n (j := 0) dJ3_append_3_56 rfl rfl ?_
  replace h := zbE h
  obtain ⟨r1, e2, h⟩ := h
  refine j_getR fgJ3_15 (fun _ _ _ => rfl) dJ3_append_3_57 e2 ?_
  refine j_aload_n (j := 0) dJ3_append_3_60 rfl rfl ?_
  refine j_dup dJ3_append_3_61 rfl ?_
  replace h := zbE h
  obtain ⟨v3, e4, h⟩ := h
  refine j_getI fgJ3_79 (fun _ _ _ => rfl) dJ3_append_3_62 e4 ?_
  refine j_dup_x1 dJ3_append_3_65 rfl rfl ?_
  refine j_iconst (v := 1) dJ3_append_3_66 (by decide) ?_
  refine j_iadd dJ3_append_3_67 ?_
  replace h := zbE h
  obtain ⟨G5, e6, h⟩ := h
  refine j_putI fpJ3_79_J4 (Or.inl rfl) rfl dJ3_append_3_68 e6 ?_
  refine j_iload_n (j := 1) dJ3_append_3_71 rfl rfl ?_
  replace h := zbE h
  obtain ⟨G8, e7, h⟩ := h
  refine j_cont (zrS (As := [vR r1, vI v3, vI x1]) msJ3_197 (yJ6_putCharSB_ok e7) (Nat.le_trans (Nat.le_of_ble_eq_true rfl) hd) rfl rfl (Nat.le_of_ble_eq_true rfl) dJ3_append_3_72) ?_
  refine j_aload_n (j := 0) dJ3_append_3_75 rfl rfl ?_
  obtain rfl := Option.some.inj h
  exact j_aret hk.1 hk.2 rfl (Or.inl ⟨_, rfl⟩) dJ3_append_3_76
def fJ3_append_3_45 (t : Nat) (x1 : Int32)  (G : GS) : Option ((Option Nat) × GS) :=
  zk [22] G t <| (fJ3_isLatin1_0 t G).bind fun v3 => if v3 = 0 then (fJ3_append_3_56 t x1 G) else none
theorem wfJ3_append_3_45 {F : zF} (hd : 7 ≤ F.2.2.2) (t : Nat) (x1 : Int32)  (G : GS) {a : (Option Nat) × GS} (h : fJ3_append_3_45 t x1  G = some a) (hk : zKR F a) : J mJ3_append_3 F G 45 [(0, vR (some t)), (1, vI x1)] [] := by
  unfold fJ3_append_3_45 at h
  refine j_aload_n (j := 0) dJ3_append_3_45 rfl rfl ?_
  replace h := zkE h
  obtain ⟨e1, h⟩ := h
  replace h := zbE h
  obtain ⟨v3, e2, h⟩ := h
  refine j_cont (zrU (As := []) msJ3_83_J4 (yJ3_isLatin1_ok e2) (Nat.le_trans (Nat.le_of_ble_eq_true rfl) hd) (zk_22 _ e1) rfl rfl (Nat.le_of_ble_eq_true rfl) dJ3_append_3_46) ?_
  refine j_if_eq (tgt := 56) dJ3_append_3_49 (by decide) (fun c4 => ?_) (fun c4 => ?_)
  · rw [if_pos c4] at h
    exact J.sub (zall [0, 1] rfl) (wfJ3_append_3_56 hd t x1  G h hk)
  · rw [if_neg c4] at h
    refine j_aload_n (j := 0) dJ3_append_3_52 rfl rfl ?_
    cases h
def fJ3_append_3_0 (t : Nat) (x1 : Int32)  (G : GS) : Option ((Option Nat) × GS) :=
  (zgI G 22 t 3).bind fun v1 => zk [22] G t <| (fJ3_ensureCapacityInternal_0 t (v1 + 1) G).bind fun G5 => zk [22] G5 t <| (fJ3_isLatin1_0 t G5).bind fun v8 => if v8 = 0 then (fJ3_append_3_45 t x1 G5) else ((fJ29_canEncode_0 x1 G5).bind fun v11 => if v11 = 0 then (fJ3_append_3_45 t x1 G5) else ((zgR G5 22 t 0).bind fun r13 => (zgI G5 22 t 3).bind fun v15 => (zpI G5 22 t 3 (v15 + 1)).bind fun G17 => r13.bind fun a19 => (zsB G17 53 a19 v15 x1.toInt8.toInt32).bind fun G21 => some ((some t), G21)))
theorem wfJ3_append_3_0 {F : zF} (hd : 7 ≤ F.2.2.2) (t : Nat) (x1 : Int32)  (G : GS) {a : (Option Nat) × GS} (h : fJ3_append_3_0 t x1  G = some a) (hk : zKR F a) : J mJ3_append_3 F G 0 [(0, vR (some t)), (1, vI x1)] [] := by
  unfold fJ3_append_3_0 at h
  refine j_aload_n (j := 0) dJ3_append_3_0 rfl rfl ?_
  refine j_aload_n (j := 0) dJ3_append_3_1 rfl rfl ?_
  replace h := zbE h
  obtain ⟨v1, e2, h⟩ := h
  refine j_getI fgJ3_79 (fun _ _ _ => rfl) dJ3_append_3_2 e2 ?_
  refine j_iconst (v := 1) dJ3_append_3_5 (by decide) ?_
  refine j_iadd dJ3_append_3_6 ?_
  replace h := zkE h
  obtain ⟨e3, h⟩ := h
  replace h := zbE h
  obtain ⟨G5, e4, h⟩ := h
  refine j_cont (zrP (As := [vI (v1 + 1)]) msJ3_100_J4 (yJ3_ensureCapacityInternal_ok e4) (Nat.le_trans (Nat.le_of_ble_eq_true rfl) hd) (zk_22 _ e3) rfl rfl (Nat.le_of_ble_eq_true rfl) dJ3_append_3_7) ?_
  refine j_aload_n (j := 0) dJ3_append_3_10 rfl rfl ?_
  replace h := zkE h
  obtain ⟨e6, h⟩ := h
  replace h := zbE h
  obtain ⟨v8, e7, h⟩ := h
  refine j_cont (zrU (As := []) msJ3_83_J4 (yJ3_isLatin1_ok e7) (Nat.le_trans (Nat.le_of_ble_eq_true rfl) hd) (zk_22 _ e6) rfl rfl (Nat.le_of_ble_eq_true rfl) dJ3_append_3_11) ?_
  refine j_if_eq (tgt := 45) dJ3_append_3_14 (by decide) (fun c9 => ?_) (fun c9 => ?_)
  · rw [if_pos c9] at h
    exact J.sub (zall [0, 1] rfl) (wfJ3_append_3_45 hd t x1  G5 h hk)
  · rw [if_neg c9] at h
    refine j_iload_n (j := 1) dJ3_append_3_17 rfl rfl ?_
    replace h := zbE h
    obtain ⟨v11, e10, h⟩ := h
    refine j_cont (zrS (As := [vI x1]) msJ3_191 (yJ29_canEncode_ok e10) (Nat.le_trans (Nat.le_of_ble_eq_true rfl) hd) rfl rfl (Nat.le_of_ble_eq_true rfl) dJ3_append_3_18) ?_
    refine j_if_eq (tgt := 45) dJ3_append_3_21 (by decide) (fun c12 => ?_) (fun c12 => ?_)
    · rw [if_pos c12] at h
      exact J.sub (zall [0, 1] rfl) (wfJ3_append_3_45 hd t x1  G5 h hk)
    · rw [if_neg c12] at h
      refine j_aload_n (j := 0) dJ3_append_3_24 rfl rfl ?_
      replace h := zbE h
      obtain ⟨r13, e14, h⟩ := h
      refine j_getR fgJ3_15 (fun _ _ _ => rfl) dJ3_append_3_25 e14 ?_
      refine j_aload_n (j := 0) dJ3_append_3_28 rfl rfl ?_
      refine j_dup dJ3_append_3_29 rfl ?_
      replace h := zbE h
      obtain ⟨v15, e16, h⟩ := h
      refine j_getI fgJ3_79 (fun _ _ _ => rfl) dJ3_append_3_30 e16 ?_
      refine j_dup_x1 dJ3_append_3_33 rfl rfl ?_
      refine j_iconst (v := 1) dJ3_append_3_34 (by decide) ?_
      refine j_iadd dJ3_append_3_35 ?_
      replace h := zbE h
      obtain ⟨G17, e18, h⟩ := h
      refine j_putI fpJ3_79_J4 (Or.inl rfl) rfl dJ3_append_3_36 e18 ?_
      refine j_iload_n (j := 1) dJ3_append_3_39 rfl rfl ?_
      refine j_i2b dJ3_append_3_40 ?_
      replace h := zbE h
      obtain ⟨a19, e20, h⟩ := h
      subst e20
      replace h := zbE h
      obtain ⟨G21, e22, h⟩ := h
      refine j_bast e22 dJ3_append_3_41 ?_
      refine j_goto (tgt := 75) dJ3_append_3_42 (by decide) ?_
      refine j_aload_n (j := 0) dJ3_append_3_75 rfl rfl ?_
      obtain rfl := Option.some.inj h
      exact j_aret hk.1 hk.2 rfl (Or.inl ⟨_, rfl⟩) dJ3_append_3_76
theorem yJ3_append_3_ok {t : Nat} {x1 : Int32} {G : GS} {r : Option Nat} {G1 : GS} (h : fJ3_append_3_0 t x1 G = some (r, G1)) : zRuns yJ3_append_3 (ws_ yJ3_append_3 cJ3_append_3 2 (some (Jvm.ClassFile.FieldType.object "java/lang/AbstractStringBuilder"))) [vR (some t), vI x1] (.inl (some (vR r)), G, G1, 7) :=
  zentry (M := mJ3_append_3) (plainFor_of_name (by decide +kernel)) ⟨rfl, rfl, rfl, rfl⟩ (Nat.le_of_ble_eq_true rfl) (wfJ3_append_3_0 (Nat.le_refl _) t x1 G h ⟨rfl, rfl⟩)
theorem msJ4_50 : zSP RJ4 50 yJ3_append_3 cJ3_append_3 2 (some (Jvm.ClassFile.FieldType.object "java/lang/AbstractStringBuilder")) 1 := ⟨lw_SP q2653 q3289 q243 q2654 q127 q2655, (by decide +kernel), (by decide)⟩
abbrev mJ4_append_3 : zM := (cJ4_append_3, RJ4, 2, (some (Jvm.ClassFile.FieldType.object "java/lang/StringBuilder")), "append", [], "(C)Ljava/lang/StringBuilder;")
def fJ4_append_3_0 (t : Nat) (x1 : Int32)  (G : GS) : Option ((Option Nat) × GS) :=
  zk [22] G t <| zb2 (fJ3_append_3_0 t x1 G) fun r3 G4 => some ((some t), G4)
theorem wfJ4_append_3_0 {F : zF} (hd : 8 ≤ F.2.2.2) (t : Nat) (x1 : Int32)  (G : GS) {a : (Option Nat) × GS} (h : fJ4_append_3_0 t x1  G = some a) (hk : zKR F a) : J mJ4_append_3 F G 0 [(0, vR (some t)), (1, vI x1)] [] := by
  unfold fJ4_append_3_0 at h
  refine j_aload_n (j := 0) dJ4_append_3_0 rfl rfl ?_
  refine j_iload_n (j := 1) dJ4_append_3_1 rfl rfl ?_
  replace h := zkE h
  obtain ⟨e1, h⟩ := h
  replace h := zb2E h
  obtain ⟨r3, G4, e2, h⟩ := h
  refine j_cont (zrSP (As := [vI x1]) msJ4_50 ⟨21, _, rfl, rfl⟩ (yJ3_append_3_ok e2) (Nat.le_trans (Nat.le_of_ble_eq_true rfl) hd) (zk_22 _ e1) rfl rfl (Nat.le_of_ble_eq_true rfl) dJ4_append_3_2) ?_
  refine j_pop dJ4_append_3_5 rfl ?_
  refine j_aload_n (j := 0) dJ4_append_3_6 rfl rfl ?_
  obtain rfl := Option.some.inj h
  exact j_aret hk.1 hk.2 rfl (Or.inl ⟨_, rfl⟩) dJ4_append_3_7
theorem yJ4_append_3_ok {t : Nat} {x1 : Int32} {G : GS} {r : Option Nat} {G1 : GS} (h : fJ4_append_3_0 t x1 G = some (r, G1)) : zRuns yJ4_append_3 (ws_ yJ4_append_3 cJ4_append_3 2 (some (Jvm.ClassFile.FieldType.object "java/lang/StringBuilder"))) [vR (some t), vI x1] (.inl (some (vR r)), G, G1, 8) :=
  zentry (M := mJ4_append_3) (plainFor_of_name (by decide +kernel)) ⟨rfl, rfl, rfl, rfl⟩ (Nat.le_of_ble_eq_true rfl) (wfJ4_append_3_0 (Nat.le_refl _) t x1 G h ⟨rfl, rfl⟩)
theorem msX1_302 : zSV RX1 302 RJ4 yJ4_setLength cJ4_setLength 2 none 1 := ⟨lw_V q2594 q2595 q2596 q128 q2597, (by decide +kernel), (by decide)⟩
theorem msX1_306 : zSS RX1 306 yX1_letter cX1_letter 1 (some Jvm.ClassFile.FieldType.char) 1 := ⟨lw_S q2646 q2647 q123 q2648, (by decide +kernel), (by decide)⟩
theorem msX1_310 : zSV RX1 310 RJ4 yJ4_append_3 cJ4_append_3 2 (some (Jvm.ClassFile.FieldType.object "java/lang/StringBuilder")) 1 := ⟨lw_V q2649 q2650 q2651 q128 q2652, (by decide +kernel), (by decide)⟩
abbrev mX1_writeRule : zM := (cX1_writeRule, RX1, 7, (some Jvm.ClassFile.FieldType.int), "writeRule", [], "(I)I")
def fX1_writeRule_78 (t : Nat)  (G : GS) : Option (((Int32) ⊕ String) × GS) :=
  (zgR G 1 t 4).bind fun r1 => r1.bind fun a3 => zk [22] G a3 <| (fJ4_length_0 a3 G).bind fun v7 => some (.inl v7, G)
theorem wfX1_writeRule_78 {F : zF} (hd : 23 ≤ F.2.2.2) (t : Nat)  (G : GS) {a : ((Int32) ⊕ String) × GS} (h : fX1_writeRule_78 t  G = some a) (hk : zKXI F a) : J mX1_writeRule F G 78 [(0, vR (some t))] [] := by
  unfold fX1_writeRule_78 at h
  refine j_aload_n (j := 0) dX1_writeRule_78 rfl rfl ?_
  replace h := zbE h
  obtain ⟨r1, e2, h⟩ := h
  refine j_getR fgX1_23 (fun _ _ _ => rfl) dX1_writeRule_79 e2 ?_
  replace h := zbE h
  obtain ⟨a3, e4, h⟩ := h
  subst e4
  replace h := zkE h
  obtain ⟨e5, h⟩ := h
  replace h := zbE h
  obtain ⟨v7, e6, h⟩ := h
  refine j_cont (zrV (As := []) msX1_314 (yJ4_length_ok e6) (Nat.le_trans (Nat.le_of_ble_eq_true rfl) hd) (zk_22 _ e5) rfl rfl (Nat.le_of_ble_eq_true rfl) dX1_writeRule_82) ?_
  obtain rfl := Option.some.inj h
  exact j_iret hk.1 hk.2 rfl dX1_writeRule_85
def fbX1_writeRule_46 (t : Nat) (x3 : Option Nat) (x4 : Int32) (x5 : Int32)  (G : GS) : Option ((Int32 × GS) ⊕ (((Int32) ⊕ String) × GS)) :=
  if x4 ≤ x5 then (zo (fX1_writeRule_78 t G)) else (x3.bind fun a2 => (zaI G 50 a2 x5).bind fun v4 => (zgR G 1 t 4).bind fun r6 => (fX1_letter_0 v4 G).bind fun v9 => r6.bind fun a10 => zk [22] G a10 <| zb2 (fJ4_append_3_0 a10 v9 G) fun r14 G15 => some (.inl ((x5 + 1), G15)))
def flX1_writeRule_46 (t : Nat) (x3 : Option Nat) (x4 : Int32) (x5 : Int32) (G : GS) : Option (((Int32) ⊕ String) × GS) := zloop (fun s : Int32 × GS => fbX1_writeRule_46 t x3 x4 s.1 s.2) (x5, G)
theorem wfbX1_writeRule_46 {F : zF} (hd : 23 ≤ F.2.2.2) (t : Nat) (x3 : Option Nat) (x4 : Int32) (x5 : Int32) (G : GS) {a : (Int32 × GS) ⊕ (((Int32) ⊕ String) × GS)} (h : fbX1_writeRule_46 t x3 x4 x5 G = some a) (hk : (zcase (fun s : Int32 × GS => J mX1_writeRule F s.2 46 [(0, vR (some t)), (3, vR x3), (4, vI x4), (5, vI s.1)] []) (zKXI F)) a) : J mX1_writeRule F G 46 [(0, vR (some t)), (3, vR x3), (4, vI x4), (5, vI x5)] [] := by
  unfold fbX1_writeRule_46 at h
  refine j_iload (j := 3) dX1_writeRule_46 rfl ?_
  refine j_iload (j := 2) dX1_writeRule_48 rfl ?_
  refine j_icmp_ge (tgt := 78) dX1_writeRule_50 (by decide) (fun c1 => ?_) (fun c1 => ?_)
  · rw [if_pos c1] at h
    replace h := zoE h
    obtain ⟨a, h, rfl⟩ := h
    replace hk := hk
    exact J.sub (zall [0] rfl) (wfX1_writeRule_78 hd t  G h hk)
  · rw [if_neg c1] at h
    refine j_aload_n (j := 1) dX1_writeRule_53 rfl rfl ?_
    refine j_iload (j := 3) dX1_writeRule_54 rfl ?_
    replace h := zbE h
    obtain ⟨a2, e3, h⟩ := h
    subst e3
    replace h := zbE h
    obtain ⟨v4, e5, h⟩ := h
    refine j_iald (Or.inl rfl) e5 dX1_writeRule_56 ?_
    refine j_istore (lv' := [(6, vI v4), (0, vR (some t)), (3, vR (some a2)), (4, vI x4), (5, vI x5)]) dX1_writeRule_57 (Nat.le_of_ble_eq_true rfl) rfl ?_
    refine j_aload_n (j := 1) dX1_writeRule_59 rfl rfl ?_
    replace h := zbE h
    obtain ⟨r6, e7, h⟩ := h
    refine j_getR fgX1_23 (fun _ _ _ => rfl) dX1_writeRule_60 e7 ?_
    refine j_iload (j := 0) dX1_writeRule_63 rfl ?_
    replace h := zbE h
    obtain ⟨v9, e8, h⟩ := h
    refine j_cont (zrS (As := [vI v4]) msX1_306 (yX1_letter_ok e8) (Nat.le_trans (Nat.le_of_ble_eq_true rfl) hd) rfl rfl (Nat.le_of_ble_eq_true rfl) dX1_writeRule_65) ?_
    replace h := zbE h
    obtain ⟨a10, e11, h⟩ := h
    subst e11
    replace h := zkE h
    obtain ⟨e12, h⟩ := h
    replace h := zb2E h
    obtain ⟨r14, G15, e13, h⟩ := h
    refine j_cont (zrV (As := [vI v9]) msX1_310 (yJ4_append_3_ok e13) (Nat.le_trans (Nat.le_of_ble_eq_true rfl) hd) (zk_22 _ e12) rfl rfl (Nat.le_of_ble_eq_true rfl) dX1_writeRule_68) ?_
    refine j_pop dX1_writeRule_71 rfl ?_
    refine j_iinc (j := 4) (v := (x5 + 1)) (lv' := [(5, vI (x5 + 1)), (6, vI v4), (0, vR (some t)), (3, vR (some a2)), (4, vI x4)]) dX1_writeRule_72 rfl rfl (Nat.le_of_ble_eq_true rfl) rfl ?_
    refine j_goto (tgt := 46) dX1_writeRule_75 (by decide) ?_
    obtain rfl := Option.some.inj h
    exact J.sub (zall [2, 3, 4, 0] rfl) hk
theorem wflX1_writeRule_46 {F : zF} (hd : 23 ≤ F.2.2.2) (t : Nat) (x3 : Option Nat) (x4 : Int32) (x5 : Int32) (G : GS) {a : ((Int32) ⊕ String) × GS} (h : flX1_writeRule_46 t x3 x4 x5 G = some a) (hk : zKXI F a) : J mX1_writeRule F G 46 [(0, vR (some t)), (3, vR x3), (4, vI x4), (5, vI x5)] [] := by
  unfold flX1_writeRule_46 at h
  exact zloop_walk (P := (fun s : Int32 × GS => J mX1_writeRule F s.2 46 [(0, vR (some t)), (3, vR x3), (4, vI x4), (5, vI s.1)] [])) (fun s b e hk => wfbX1_writeRule_46 hd t x3 x4 s.1 s.2 e hk) (x5, G) _ h hk
def fX1_writeRule_0 (t : Nat) (x1 : Int32)  (G : GS) : Option (((Int32) ⊕ String) × GS) :=
  zk [1] G t <| zb3 (fX1_rule_0 t x1 G) (fun r3 G4 => (zgR G4 1 t 4).bind fun r7 => r7.bind fun a9 => zk [22] G4 a9 <| (fJ4_setLength_0 a9 0 G4).bind fun G13 => (zgR G13 1 t 4).bind fun r14 => r3.bind fun a16 => (zgI G13 3 a16 0).bind fun v18 => (fX1_letter_0 v18 G13).bind fun v21 => r14.bind fun a22 => zk [22] G13 a22 <| zb2 (fJ4_append_3_0 a22 v21 G13) fun r26 G27 => r26.bind fun a28 => zk [22] G27 a28 <| zb2 (fJ4_append_3_0 a28 61 G27) fun r32 G33 => (zgR G33 3 a16 1).bind fun r34 => r34.bind fun a36 => (zln G33 a36).bind fun v38 => flX1_writeRule_46 t (some a36) v38 0 G33) (fun X5 G6 => some (.inr X5, G6))
theorem wfX1_writeRule_0 {F : zF} (hd : 23 ≤ F.2.2.2) (t : Nat) (x1 : Int32)  (G : GS) {a : ((Int32) ⊕ String) × GS} (h : fX1_writeRule_0 t x1  G = some a) (hk : zKXI F a) : J mX1_writeRule F G 0 [(0, vR (some t)), (1, vI x1)] [] := by
  unfold fX1_writeRule_0 at h
  refine j_aload_n (j := 0) dX1_writeRule_0 rfl rfl ?_
  refine j_iload_n (j := 1) dX1_writeRule_1 rfl rfl ?_
  replace h := zkE h
  obtain ⟨e1, h⟩ := h
  replace h := zb3E h
  rcases h with ⟨r3, G4, e2, h⟩ | ⟨X5, G6, e2, h⟩
  · refine j_cont (zrV (As := [vI x1]) msX1_93 (yX1_rule_ok e2) (Nat.le_trans (Nat.le_of_ble_eq_true rfl) hd) (zk_1 _ e1) rfl rfl (Nat.le_of_ble_eq_true rfl) dX1_writeRule_2) ?_
    refine j_astore_n (lv' := [(2, vR r3), (0, vR (some t)), (1, vI x1)]) dX1_writeRule_5 rfl (Nat.le_of_ble_eq_true rfl) rfl ?_
    refine j_aload_n (j := 1) dX1_writeRule_6 rfl rfl ?_
    replace h := zbE h
    obtain ⟨r7, e8, h⟩ := h
    refine j_getR fgX1_23 (fun _ _ _ => rfl) dX1_writeRule_7 e8 ?_
    refine j_iconst (v := 0) dX1_writeRule_10 (by decide) ?_
    replace h := zbE h
    obtain ⟨a9, e10, h⟩ := h
    subst e10
    replace h := zkE h
    obtain ⟨e11, h⟩ := h
    replace h := zbE h
    obtain ⟨G13, e12, h⟩ := h
    refine j_cont (zrV (As := [vI 0]) msX1_302 (yJ4_setLength_ok e12) (Nat.le_trans (Nat.le_of_ble_eq_true rfl) hd) (zk_22 _ e11) rfl rfl (Nat.le_of_ble_eq_true rfl) dX1_writeRule_11) ?_
    refine j_aload_n (j := 1) dX1_writeRule_14 rfl rfl ?_
    replace h := zbE h
    obtain ⟨r14, e15, h⟩ := h
    refine j_getR fgX1_23 (fun _ _ _ => rfl) dX1_writeRule_15 e15 ?_
    refine j_aload_n (j := 0) dX1_writeRule_18 rfl rfl ?_
    replace h := zbE h
    obtain ⟨a16, e17, h⟩ := h
    subst e17
    replace h := zbE h
    obtain ⟨v18, e19, h⟩ := h
    refine j_getI fgX1_118 (fun _ _ _ => rfl) dX1_writeRule_19 e19 ?_
    replace h := zbE h
    obtain ⟨v21, e20, h⟩ := h
    refine j_cont (zrS (As := [vI v18]) msX1_306 (yX1_letter_ok e20) (Nat.le_trans (Nat.le_of_ble_eq_true rfl) hd) rfl rfl (Nat.le_of_ble_eq_true rfl) dX1_writeRule_22) ?_
    replace h := zbE h
    obtain ⟨a22, e23, h⟩ := h
    subst e23
    replace h := zkE h
    obtain ⟨e24, h⟩ := h
    replace h := zb2E h
    obtain ⟨r26, G27, e25, h⟩ := h
    refine j_cont (zrV (As := [vI v21]) msX1_310 (yJ4_append_3_ok e25) (Nat.le_trans (Nat.le_of_ble_eq_true rfl) hd) (zk_22 _ e24) rfl rfl (Nat.le_of_ble_eq_true rfl) dX1_writeRule_25) ?_
    refine j_bipush (v := 61) dX1_writeRule_28 (by decide) ?_
    replace h := zbE h
    obtain ⟨a28, e29, h⟩ := h
    subst e29
    replace h := zkE h
    obtain ⟨e30, h⟩ := h
    replace h := zb2E h
    obtain ⟨r32, G33, e31, h⟩ := h
    refine j_cont (zrV (As := [vI 61]) msX1_310 (yJ4_append_3_ok e31) (Nat.le_trans (Nat.le_of_ble_eq_true rfl) hd) (zk_22 _ e30) rfl rfl (Nat.le_of_ble_eq_true rfl) dX1_writeRule_30) ?_
    refine j_pop dX1_writeRule_33 rfl ?_
    refine j_aload_n (j := 0) dX1_writeRule_34 rfl rfl ?_
    replace h := zbE h
    obtain ⟨r34, e35, h⟩ := h
    refine j_getR fgX1_104 (fun _ _ _ => rfl) dX1_writeRule_35 e35 ?_
    refine j_astore_n (lv' := [(3, vR r34), (2, vR (some a16)), (0, vR (some t)), (1, vI x1)]) dX1_writeRule_38 rfl (Nat.le_of_ble_eq_true rfl) rfl ?_
    refine j_aload_n (j := 0) dX1_writeRule_39 rfl rfl ?_
    replace h := zbE h
    obtain ⟨a36, e37, h⟩ := h
    subst e37
    replace h := zbE h
    obtain ⟨v38, e39, h⟩ := h
    refine j_alen e39 dX1_writeRule_40 ?_
    refine j_istore (lv' := [(4, vI v38), (3, vR (some a36)), (2, vR (some a16)), (0, vR (some t)), (1, vI x1)]) dX1_writeRule_41 (Nat.le_of_ble_eq_true rfl) rfl ?_
    refine j_iconst (v := 0) dX1_writeRule_43 (by decide) ?_
    refine j_istore (lv' := [(5, vI 0), (4, vI v38), (3, vR (some a36)), (2, vR (some a16)), (0, vR (some t)), (1, vI x1)]) dX1_writeRule_44 (Nat.le_of_ble_eq_true rfl) rfl ?_
    exact J.sub (zall [4, 2, 1, 0] rfl) (wflX1_writeRule_46 hd t (some a36) v38 0  G33 h hk)
  · refine j_thr (zrV (As := [vI x1]) msX1_93 (yX1_rule_ok e2) (Nat.le_trans (Nat.le_of_ble_eq_true rfl) hd) (zk_1 _ e1) rfl rfl (Nat.le_of_ble_eq_true rfl) dX1_writeRule_2) ?_
    obtain rfl := Option.some.inj h
    exact jx_out hk.1 hk.2 (by decide)
theorem yX1_writeRule_ok {t : Nat} {x1 : Int32} {G : GS} {r : (Int32) ⊕ String} {G1 : GS} (h : fX1_writeRule_0 t x1 G = some (r, G1)) : zRuns yX1_writeRule (ws_ yX1_writeRule cX1_writeRule 7 (some Jvm.ClassFile.FieldType.int)) [vR (some t), vI x1] (zout (fun v => some (vI v)) r, G, G1, 23) :=
  zentry (M := mX1_writeRule) (plainFor_of_name (by decide +kernel)) ⟨rfl, rfl, rfl, rfl⟩ (Nat.le_of_ble_eq_true rfl) (wfX1_writeRule_0 (Nat.le_refl _) t x1 G h ⟨rfl, rfl⟩)
theorem msX0_7 : zSV RX0 7 RX1 yX1_addRule cX1_addRule 3 (some Jvm.ClassFile.FieldType.int) 1 := ⟨lw_V q1702 q1703 q1704 q123 q1705, (by decide +kernel), (by decide)⟩
abbrev mX0_addRule : zM := (cX0_addRule, RX0, 4, (some Jvm.ClassFile.FieldType.int), "addRule", [(0, 9, 12, 13), (0, 9, 15, 15)], "(LSelahGenerator;I[J)I")
def fX0_addRule_0 (x0 : Option Nat) (x1 : Int32) (x2 : Option Nat)  (G : GS) : Option ((Int32) × GS) :=
  x0.bind fun a1 => zk [1] G a1 <| zb3 (fX1_addRule_0 a1 x1 G) (fun v5 G6 => x2.bind fun a9 => (zsL G6 51 a9 (0 : Int32) v5.toInt64).bind fun G11 => some (0, G11)) (fun X7 G8 => if X7 = "java/lang/IllegalStateException" then (some (2, G8)) else (if X7 = "java/lang/IndexOutOfBoundsException" then (some (1, G8)) else none))
theorem wfX0_addRule_0 {F : zF} (hd : 10 ≤ F.2.2.2) (x0 : Option Nat) (x1 : Int32) (x2 : Option Nat)  (G : GS) {a : (Int32) × GS} (h : fX0_addRule_0 x0 x1 x2  G = some a) (hk : zKI F a) : J mX0_addRule F G 0 [(0, vR x0), (1, vI x1), (2, vR x2)] [] := by
  unfold fX0_addRule_0 at h
  refine j_aload_n (j := 2) dX0_addRule_0 rfl rfl ?_
  refine j_iconst (v := 0) dX0_addRule_1 (by decide) ?_
  refine j_aload_n (j := 0) dX0_addRule_2 rfl rfl ?_
  refine j_iload_n (j := 1) dX0_addRule_3 rfl rfl ?_
  replace h := zbE h
  obtain ⟨a1, e2, h⟩ := h
  subst e2
  replace h := zkE h
  obtain ⟨e3, h⟩ := h
  replace h := zb3E h
  rcases h with ⟨v5, G6, e4, h⟩ | ⟨X7, G8, e4, h⟩
  · refine j_cont (zrV (As := [vI x1]) msX0_7 (yX1_addRule_ok e4) (Nat.le_trans (Nat.le_of_ble_eq_true rfl) hd) (zk_1 _ e3) rfl rfl (Nat.le_of_ble_eq_true rfl) dX0_addRule_4) ?_
    refine j_i2l dX0_addRule_7 ?_
    replace h := zbE h
    obtain ⟨a9, e10, h⟩ := h
    subst e10
    replace h := zbE h
    obtain ⟨G11, e12, h⟩ := h
    refine j_last e12 dX0_addRule_8 ?_
    refine j_goto (tgt := 18) dX0_addRule_9 (by decide) ?_
    refine j_iconst (v := 0) dX0_addRule_18 (by decide) ?_
    obtain rfl := Option.some.inj h
    exact j_iret hk.1 hk.2 rfl dX0_addRule_19
  · refine j_thr (zrV (As := [vI x1]) msX0_7 (yX1_addRule_ok e4) (Nat.le_trans (Nat.le_of_ble_eq_true rfl) hd) (zk_1 _ e3) rfl rfl (Nat.le_of_ble_eq_true rfl) dX0_addRule_4) ?_
    by_cases c17 : X7 = "java/lang/IllegalStateException"
    · rw [if_pos c17] at h
      subst c17
      refine jx_catch (n := 15) [⟨0, 9, 12, 13⟩] ⟨0, 9, 15, 15⟩ [] rfl (fun z hz => by
    simp only [List.mem_cons, List.not_mem_nil, or_false] at hz
    subst hz
    · exact Or.inr ⟨by decide, _, q1669, by simp [zncs]⟩) rfl (by decide) q1701 (zxw 10 rfl) rfl (fun q16 => ?_)
      refine j_astore_n (lv' := [(3, vR (some q16)), (0, vR (some a1)), (1, vI x1), (2, vR x2)]) dX0_addRule_15 rfl (Nat.le_of_ble_eq_true rfl) rfl ?_
      refine j_iconst (v := 2) dX0_addRule_16 (by decide) ?_
      obtain rfl := Option.some.inj h
      exact j_iret hk.1 hk.2 rfl dX0_addRule_17
    · rw [if_neg c17] at h
      by_cases c15 : X7 = "java/lang/IndexOutOfBoundsException"
      · rw [if_pos c15] at h
        subst c15
        refine jx_catch (n := 12) [] ⟨0, 9, 12, 13⟩ [⟨0, 9, 15, 15⟩] rfl (fun z hz => nomatch hz) rfl (by decide) q1669 (zxw 5 rfl) rfl (fun q14 => ?_)
        refine j_astore_n (lv' := [(3, vR (some q14)), (0, vR (some a1)), (1, vI x1), (2, vR x2)]) dX0_addRule_12 rfl (Nat.le_of_ble_eq_true rfl) rfl ?_
        refine j_iconst (v := 1) dX0_addRule_13 (by decide) ?_
        obtain rfl := Option.some.inj h
        exact j_iret hk.1 hk.2 rfl dX0_addRule_14
      · rw [if_neg c15] at h
        cases h
theorem yX0_addRule_ok {x0 : Option Nat} {x1 : Int32} {x2 : Option Nat} {G : GS} {r : Int32} {G1 : GS} (h : fX0_addRule_0 x0 x1 x2 G = some (r, G1)) : zRuns yX0_addRule (wsW_ yX0_addRule cX0_addRule 4 (some Jvm.ClassFile.FieldType.int) [(0, 9, 12, 13), (0, 9, 15, 15)]) [vR x0, vI x1, vR x2] (.inl (some (vI r)), G, G1, 10) :=
  zentryW (M := mX0_addRule) (by decide +kernel) ⟨rfl, rfl, rfl⟩ (Nat.le_of_ble_eq_true rfl) (wfX0_addRule_0 (Nat.le_refl _) x0 x1 x2 G h ⟨rfl, rfl⟩)
theorem msX0_17 : zSV RX0 17 RX1 yX1_append cX1_append 5 (some Jvm.ClassFile.FieldType.int) 2 := ⟨lw_V q1784 q1785 q1786 q123 q1787, (by decide +kernel), (by decide)⟩
abbrev mX0_append : zM := (cX0_append, RX0, 5, (some Jvm.ClassFile.FieldType.int), "append", [(0, 10, 13, 13), (0, 10, 17, 21), (0, 10, 21, 15)], "(LSelahGenerator;II[J)I")
def fX0_append_0 (x0 : Option Nat) (x1 : Int32) (x2 : Int32) (x3 : Option Nat)  (G : GS) : Option ((Int32) × GS) :=
  x0.bind fun a1 => zk [1] G a1 <| zb3 (fX1_append_0 a1 x1 x2 G) (fun v5 G6 => x3.bind fun a9 => (zsL G6 51 a9 (0 : Int32) v5.toInt64).bind fun G11 => some (0, G11)) (fun X7 G8 => if X7 = "java/lang/IllegalArgumentException" then (some (2, G8)) else (if X7 = "java/lang/IllegalStateException" then (some (3, G8)) else (if X7 = "java/lang/IndexOutOfBoundsException" then (some (1, G8)) else none)))
theorem wfX0_append_0 {F : zF} (hd : 11 ≤ F.2.2.2) (x0 : Option Nat) (x1 : Int32) (x2 : Int32) (x3 : Option Nat)  (G : GS) {a : (Int32) × GS} (h : fX0_append_0 x0 x1 x2 x3  G = some a) (hk : zKI F a) : J mX0_append F G 0 [(0, vR x0), (1, vI x1), (2, vI x2), (3, vR x3)] [] := by
  unfold fX0_append_0 at h
  refine j_aload_n (j := 3) dX0_append_0 rfl rfl ?_
  refine j_iconst (v := 0) dX0_append_1 (by decide) ?_
  refine j_aload_n (j := 0) dX0_append_2 rfl rfl ?_
  refine j_iload_n (j := 1) dX0_append_3 rfl rfl ?_
  refine j_iload_n (j := 2) dX0_append_4 rfl rfl ?_
  replace h := zbE h
  obtain ⟨a1, e2, h⟩ := h
  subst e2
  replace h := zkE h
  obtain ⟨e3, h⟩ := h
  replace h := zb3E h
  rcases h with ⟨v5, G6, e4, h⟩ | ⟨X7, G8, e4, h⟩
  · refine j_cont (zrV (As := [vI x1, vI x2]) msX0_17 (yX1_append_ok e4) (Nat.le_trans (Nat.le_of_ble_eq_true rfl) hd) (zk_1 _ e3) rfl rfl (Nat.le_of_ble_eq_true rfl) dX0_append_5) ?_
    refine j_i2l dX0_append_8 ?_
    replace h := zbE h
    obtain ⟨a9, e10, h⟩ := h
    subst e10
    replace h := zbE h
    obtain ⟨G11, e12, h⟩ := h
    refine j_last e12 dX0_append_9 ?_
    refine j_goto (tgt := 25) dX0_append_10 (by decide) ?_
    refine j_iconst (v := 0) dX0_append_25 (by decide) ?_
    obtain rfl := Option.some.inj h
    exact j_iret hk.1 hk.2 rfl dX0_append_26
  · refine j_thr (zrV (As := [vI x1, vI x2]) msX0_17 (yX1_append_ok e4) (Nat.le_trans (Nat.le_of_ble_eq_true rfl) hd) (zk_1 _ e3) rfl rfl (Nat.le_of_ble_eq_true rfl) dX0_append_5) ?_
    by_cases c19 : X7 = "java/lang/IllegalArgumentException"
    · rw [if_pos c19] at h
      subst c19
      refine jx_catch (n := 17) [⟨0, 10, 13, 13⟩] ⟨0, 10, 17, 21⟩ [⟨0, 10, 21, 15⟩] rfl (fun z hz => by
    simp only [List.mem_cons, List.not_mem_nil, or_false] at hz
    subst hz
    · exact Or.inr ⟨by decide, _, q1669, by simp [zncs]⟩) rfl (by decide) q1783 (zxw 12 rfl) rfl (fun q18 => ?_)
      refine j_astore (lv' := [(4, vR (some q18)), (0, vR (some a1)), (1, vI x1), (2, vI x2), (3, vR x3)]) dX0_append_17 (Nat.le_of_ble_eq_true rfl) rfl ?_
      refine j_iconst (v := 2) dX0_append_19 (by decide) ?_
      obtain rfl := Option.some.inj h
      exact j_iret hk.1 hk.2 rfl dX0_append_20
    · rw [if_neg c19] at h
      by_cases c17 : X7 = "java/lang/IllegalStateException"
      · rw [if_pos c17] at h
        subst c17
        refine jx_catch (n := 21) [⟨0, 10, 13, 13⟩, ⟨0, 10, 17, 21⟩] ⟨0, 10, 21, 15⟩ [] rfl (fun z hz => by
    simp only [List.mem_cons, List.not_mem_nil, or_false] at hz
    rcases hz with rfl | rfl
    · exact Or.inr ⟨by decide, _, q1669, by simp [zncs]⟩
    · exact Or.inr ⟨by decide, _, q1783, by simp [zncs]⟩) rfl (by decide) q1701 (zxw 10 rfl) rfl (fun q16 => ?_)
        refine j_astore (lv' := [(4, vR (some q16)), (0, vR (some a1)), (1, vI x1), (2, vI x2), (3, vR x3)]) dX0_append_21 (Nat.le_of_ble_eq_true rfl) rfl ?_
        refine j_iconst (v := 3) dX0_append_23 (by decide) ?_
        obtain rfl := Option.some.inj h
        exact j_iret hk.1 hk.2 rfl dX0_append_24
      · rw [if_neg c17] at h
        by_cases c15 : X7 = "java/lang/IndexOutOfBoundsException"
        · rw [if_pos c15] at h
          subst c15
          refine jx_catch (n := 13) [] ⟨0, 10, 13, 13⟩ [⟨0, 10, 17, 21⟩, ⟨0, 10, 21, 15⟩] rfl (fun z hz => nomatch hz) rfl (by decide) q1669 (zxw 5 rfl) rfl (fun q14 => ?_)
          refine j_astore (lv' := [(4, vR (some q14)), (0, vR (some a1)), (1, vI x1), (2, vI x2), (3, vR x3)]) dX0_append_13 (Nat.le_of_ble_eq_true rfl) rfl ?_
          refine j_iconst (v := 1) dX0_append_15 (by decide) ?_
          obtain rfl := Option.some.inj h
          exact j_iret hk.1 hk.2 rfl dX0_append_16
        · rw [if_neg c15] at h
          cases h
theorem yX0_append_ok {x0 : Option Nat} {x1 : Int32} {x2 : Int32} {x3 : Option Nat} {G : GS} {r : Int32} {G1 : GS} (h : fX0_append_0 x0 x1 x2 x3 G = some (r, G1)) : zRuns yX0_append (wsW_ yX0_append cX0_append 5 (some Jvm.ClassFile.FieldType.int) [(0, 10, 13, 13), (0, 10, 17, 21), (0, 10, 21, 15)]) [vR x0, vI x1, vI x2, vR x3] (.inl (some (vI r)), G, G1, 11) :=
  zentryW (M := mX0_append) (by decide +kernel) ⟨rfl, rfl, rfl⟩ (Nat.le_of_ble_eq_true rfl) (wfX0_append_0 (Nat.le_refl _) x0 x1 x2 x3 G h ⟨rfl, rfl⟩)
theorem msX0_86 : zSV RX0 86 RX1 yX1_derivations cX1_derivations 1 (some Jvm.ClassFile.FieldType.int) 0 := ⟨lw_V q2586 q1530 q1531 q123 q1532, (by decide +kernel), (by decide)⟩
abbrev mX0_derivations : zM := (cX0_derivations, RX0, 3, (some Jvm.ClassFile.FieldType.int), "derivations", [(0, 8, 11, 15)], "(LSelahGenerator;[J)I")
def fX0_derivations_0 (x0 : Option Nat) (x1 : Option Nat)  (G : GS) : Option ((Int32) × GS) :=
  x0.bind fun a1 => zk [1] G a1 <| zb3 (fX1_derivations_0 a1 G) (fun v5 G6 => x1.bind fun a9 => (zsL G6 51 a9 (0 : Int32) v5.toInt64).bind fun G11 => some (0, G11)) (fun X7 G8 => if X7 = "java/lang/IllegalStateException" then (some (1, G8)) else none)
theorem wfX0_derivations_0 {F : zF} (hd : 903 ≤ F.2.2.2) (x0 : Option Nat) (x1 : Option Nat)  (G : GS) {a : (Int32) × GS} (h : fX0_derivations_0 x0 x1  G = some a) (hk : zKI F a) : J mX0_derivations F G 0 [(0, vR x0), (1, vR x1)] [] := by
  unfold fX0_derivations_0 at h
  refine j_aload_n (j := 1) dX0_derivations_0 rfl rfl ?_
  refine j_iconst (v := 0) dX0_derivations_1 (by decide) ?_
  refine j_aload_n (j := 0) dX0_derivations_2 rfl rfl ?_
  replace h := zbE h
  obtain ⟨a1, e2, h⟩ := h
  subst e2
  replace h := zkE h
  obtain ⟨e3, h⟩ := h
  replace h := zb3E h
  rcases h with ⟨v5, G6, e4, h⟩ | ⟨X7, G8, e4, h⟩
  · refine j_cont (zrV (As := []) msX0_86 (yX1_derivations_ok e4) (Nat.le_trans (Nat.le_of_ble_eq_true rfl) hd) (zk_1 _ e3) rfl rfl (Nat.le_of_ble_eq_true rfl) dX0_derivations_3) ?_
    refine j_i2l dX0_derivations_6 ?_
    replace h := zbE h
    obtain ⟨a9, e10, h⟩ := h
    subst e10
    replace h := zbE h
    obtain ⟨G11, e12, h⟩ := h
    refine j_last e12 dX0_derivations_7 ?_
    refine j_goto (tgt := 14) dX0_derivations_8 (by decide) ?_
    refine j_iconst (v := 0) dX0_derivations_14 (by decide) ?_
    obtain rfl := Option.some.inj h
    exact j_iret hk.1 hk.2 rfl dX0_derivations_15
  · refine j_thr (zrV (As := []) msX0_86 (yX1_derivations_ok e4) (Nat.le_trans (Nat.le_of_ble_eq_true rfl) hd) (zk_1 _ e3) rfl rfl (Nat.le_of_ble_eq_true rfl) dX0_derivations_3) ?_
    by_cases c15 : X7 = "java/lang/IllegalStateException"
    · rw [if_pos c15] at h
      subst c15
      refine jx_catch (n := 11) [] ⟨0, 8, 11, 15⟩ [] rfl (fun z hz => nomatch hz) rfl (by decide) q1701 (zxw 10 rfl) rfl (fun q14 => ?_)
      refine j_astore_n (lv' := [(2, vR (some q14)), (0, vR (some a1)), (1, vR x1)]) dX0_derivations_11 rfl (Nat.le_of_ble_eq_true rfl) rfl ?_
      refine j_iconst (v := 1) dX0_derivations_12 (by decide) ?_
      obtain rfl := Option.some.inj h
      exact j_iret hk.1 hk.2 rfl dX0_derivations_13
    · rw [if_neg c15] at h
      cases h
theorem yX0_derivations_ok {x0 : Option Nat} {x1 : Option Nat} {G : GS} {r : Int32} {G1 : GS} (h : fX0_derivations_0 x0 x1 G = some (r, G1)) : zRuns yX0_derivations (wsW_ yX0_derivations cX0_derivations 3 (some Jvm.ClassFile.FieldType.int) [(0, 8, 11, 15)]) [vR x0, vR x1] (.inl (some (vI r)), G, G1, 903) :=
  zentryW (M := mX0_derivations) (by decide +kernel) ⟨rfl, rfl, rfl⟩ (Nat.le_of_ble_eq_true rfl) (wfX0_derivations_0 (Nat.le_refl _) x0 x1 G h ⟨rfl, rfl⟩)
theorem msX0_80 : zSV RX0 80 RX1 yX1_errorSymbol cX1_errorSymbol 2 (some Jvm.ClassFile.FieldType.int) 1 := ⟨lw_V q2572 q2573 q2574 q123 q2575, (by decide +kernel), (by decide)⟩
abbrev mX0_errorSymbol : zM := (cX0_errorSymbol, RX0, 4, (some Jvm.ClassFile.FieldType.int), "errorSymbol", [(0, 9, 12, 13)], "(LSelahGenerator;I[J)I")
def fX0_errorSymbol_0 (x0 : Option Nat) (x1 : Int32) (x2 : Option Nat)  (G : GS) : Option ((Int32) × GS) :=
  x0.bind fun a1 => zk [1] G a1 <| zb3 (fX1_errorSymbol_0 a1 x1 G) (fun v5 G6 => x2.bind fun a9 => (zsL G6 51 a9 (0 : Int32) v5.toInt64).bind fun G11 => some (0, G11)) (fun X7 G8 => if X7 = "java/lang/IndexOutOfBoundsException" then (some (1, G8)) else none)
theorem wfX0_errorSymbol_0 {F : zF} (hd : 10 ≤ F.2.2.2) (x0 : Option Nat) (x1 : Int32) (x2 : Option Nat)  (G : GS) {a : (Int32) × GS} (h : fX0_errorSymbol_0 x0 x1 x2  G = some a) (hk : zKI F a) : J mX0_errorSymbol F G 0 [(0, vR x0), (1, vI x1), (2, vR x2)] [] := by
  unfold fX0_errorSymbol_0 at h
  refine j_aload_n (j := 2) dX0_errorSymbol_0 rfl rfl ?_
  refine j_iconst (v := 0) dX0_errorSymbol_1 (by decide) ?_
  refine j_aload_n (j := 0) dX0_errorSymbol_2 rfl rfl ?_
  refine j_iload_n (j := 1) dX0_errorSymbol_3 rfl rfl ?_
  replace h := zbE h
  obtain ⟨a1, e2, h⟩ := h
  subst e2
  replace h := zkE h
  obtain ⟨e3, h⟩ := h
  replace h := zb3E h
  rcases h with ⟨v5, G6, e4, h⟩ | ⟨X7, G8, e4, h⟩
  · refine j_cont (zrV (As := [vI x1]) msX0_80 (yX1_errorSymbol_ok e4) (Nat.le_trans (Nat.le_of_ble_eq_true rfl) hd) (zk_1 _ e3) rfl rfl (Nat.le_of_ble_eq_true rfl) dX0_errorSymbol_4) ?_
    refine j_i2l dX0_errorSymbol_7 ?_
    replace h := zbE h
    obtain ⟨a9, e10, h⟩ := h
    subst e10
    replace h := zbE h
    obtain ⟨G11, e12, h⟩ := h
    refine j_last e12 dX0_errorSymbol_8 ?_
    refine j_goto (tgt := 15) dX0_errorSymbol_9 (by decide) ?_
    refine j_iconst (v := 0) dX0_errorSymbol_15 (by decide) ?_
    obtain rfl := Option.some.inj h
    exact j_iret hk.1 hk.2 rfl dX0_errorSymbol_16
  · refine j_thr (zrV (As := [vI x1]) msX0_80 (yX1_errorSymbol_ok e4) (Nat.le_trans (Nat.le_of_ble_eq_true rfl) hd) (zk_1 _ e3) rfl rfl (Nat.le_of_ble_eq_true rfl) dX0_errorSymbol_4) ?_
    by_cases c15 : X7 = "java/lang/IndexOutOfBoundsException"
    · rw [if_pos c15] at h
      subst c15
      refine jx_catch (n := 12) [] ⟨0, 9, 12, 13⟩ [] rfl (fun z hz => nomatch hz) rfl (by decide) q1669 (zxw 5 rfl) rfl (fun q14 => ?_)
      refine j_astore_n (lv' := [(3, vR (some q14)), (0, vR (some a1)), (1, vI x1), (2, vR x2)]) dX0_errorSymbol_12 rfl (Nat.le_of_ble_eq_true rfl) rfl ?_
      refine j_iconst (v := 1) dX0_errorSymbol_13 (by decide) ?_
      obtain rfl := Option.some.inj h
      exact j_iret hk.1 hk.2 rfl dX0_errorSymbol_14
    · rw [if_neg c15] at h
      cases h
theorem yX0_errorSymbol_ok {x0 : Option Nat} {x1 : Int32} {x2 : Option Nat} {G : GS} {r : Int32} {G1 : GS} (h : fX0_errorSymbol_0 x0 x1 x2 G = some (r, G1)) : zRuns yX0_errorSymbol (wsW_ yX0_errorSymbol cX0_errorSymbol 4 (some Jvm.ClassFile.FieldType.int) [(0, 9, 12, 13)]) [vR x0, vI x1, vR x2] (.inl (some (vI r)), G, G1, 10) :=
  zentryW (M := mX0_errorSymbol) (by decide +kernel) ⟨rfl, rfl, rfl⟩ (Nat.le_of_ble_eq_true rfl) (wfX0_errorSymbol_0 (Nat.le_refl _) x0 x1 x2 G h ⟨rfl, rfl⟩)
theorem msX0_77 : zSV RX0 77 RX1 yX1_errorToken cX1_errorToken 2 (some Jvm.ClassFile.FieldType.int) 1 := ⟨lw_V q2560 q2561 q2562 q123 q2563, (by decide +kernel), (by decide)⟩
abbrev mX0_errorToken : zM := (cX0_errorToken, RX0, 4, (some Jvm.ClassFile.FieldType.int), "errorToken", [(0, 9, 12, 13)], "(LSelahGenerator;I[J)I")
def fX0_errorToken_0 (x0 : Option Nat) (x1 : Int32) (x2 : Option Nat)  (G : GS) : Option ((Int32) × GS) :=
  x0.bind fun a1 => zk [1] G a1 <| zb3 (fX1_errorToken_0 a1 x1 G) (fun v5 G6 => x2.bind fun a9 => (zsL G6 51 a9 (0 : Int32) v5.toInt64).bind fun G11 => some (0, G11)) (fun X7 G8 => if X7 = "java/lang/IndexOutOfBoundsException" then (some (1, G8)) else none)
theorem wfX0_errorToken_0 {F : zF} (hd : 10 ≤ F.2.2.2) (x0 : Option Nat) (x1 : Int32) (x2 : Option Nat)  (G : GS) {a : (Int32) × GS} (h : fX0_errorToken_0 x0 x1 x2  G = some a) (hk : zKI F a) : J mX0_errorToken F G 0 [(0, vR x0), (1, vI x1), (2, vR x2)] [] := by
  unfold fX0_errorToken_0 at h
  refine j_aload_n (j := 2) dX0_errorToken_0 rfl rfl ?_
  refine j_iconst (v := 0) dX0_errorToken_1 (by decide) ?_
  refine j_aload_n (j := 0) dX0_errorToken_2 rfl rfl ?_
  refine j_iload_n (j := 1) dX0_errorToken_3 rfl rfl ?_
  replace h := zbE h
  obtain ⟨a1, e2, h⟩ := h
  subst e2
  replace h := zkE h
  obtain ⟨e3, h⟩ := h
  replace h := zb3E h
  rcases h with ⟨v5, G6, e4, h⟩ | ⟨X7, G8, e4, h⟩
  · refine j_cont (zrV (As := [vI x1]) msX0_77 (yX1_errorToken_ok e4) (Nat.le_trans (Nat.le_of_ble_eq_true rfl) hd) (zk_1 _ e3) rfl rfl (Nat.le_of_ble_eq_true rfl) dX0_errorToken_4) ?_
    refine j_i2l dX0_errorToken_7 ?_
    replace h := zbE h
    obtain ⟨a9, e10, h⟩ := h
    subst e10
    replace h := zbE h
    obtain ⟨G11, e12, h⟩ := h
    refine j_last e12 dX0_errorToken_8 ?_
    refine j_goto (tgt := 15) dX0_errorToken_9 (by decide) ?_
    refine j_iconst (v := 0) dX0_errorToken_15 (by decide) ?_
    obtain rfl := Option.some.inj h
    exact j_iret hk.1 hk.2 rfl dX0_errorToken_16
  · refine j_thr (zrV (As := [vI x1]) msX0_77 (yX1_errorToken_ok e4) (Nat.le_trans (Nat.le_of_ble_eq_true rfl) hd) (zk_1 _ e3) rfl rfl (Nat.le_of_ble_eq_true rfl) dX0_errorToken_4) ?_
    by_cases c15 : X7 = "java/lang/IndexOutOfBoundsException"
    · rw [if_pos c15] at h
      subst c15
      refine jx_catch (n := 12) [] ⟨0, 9, 12, 13⟩ [] rfl (fun z hz => nomatch hz) rfl (by decide) q1669 (zxw 5 rfl) rfl (fun q14 => ?_)
      refine j_astore_n (lv' := [(3, vR (some q14)), (0, vR (some a1)), (1, vI x1), (2, vR x2)]) dX0_errorToken_12 rfl (Nat.le_of_ble_eq_true rfl) rfl ?_
      refine j_iconst (v := 1) dX0_errorToken_13 (by decide) ?_
      obtain rfl := Option.some.inj h
      exact j_iret hk.1 hk.2 rfl dX0_errorToken_14
    · rw [if_neg c15] at h
      cases h
theorem yX0_errorToken_ok {x0 : Option Nat} {x1 : Int32} {x2 : Option Nat} {G : GS} {r : Int32} {G1 : GS} (h : fX0_errorToken_0 x0 x1 x2 G = some (r, G1)) : zRuns yX0_errorToken (wsW_ yX0_errorToken cX0_errorToken 4 (some Jvm.ClassFile.FieldType.int) [(0, 9, 12, 13)]) [vR x0, vI x1, vR x2] (.inl (some (vI r)), G, G1, 10) :=
  zentryW (M := mX0_errorToken) (by decide +kernel) ⟨rfl, rfl, rfl⟩ (Nat.le_of_ble_eq_true rfl) (wfX0_errorToken_0 (Nat.le_refl _) x0 x1 x2 G h ⟨rfl, rfl⟩)
theorem msX0_68 : zSVW RX0 68 RX1 yX1_factorOut cX1_factorOut 3 (some Jvm.ClassFile.FieldType.int) [(12, 16, 19, 183)] 0 := ⟨lw_VW q2323 q2324 q2325 q123 q2326, (by decide +kernel), (by decide)⟩
abbrev mX0_factorOut : zM := (cX0_factorOut, RX0, 3, (some Jvm.ClassFile.FieldType.int), "factorOut", [(0, 8, 11, 15)], "(LSelahGenerator;[J)I")
def fX0_factorOut_0 (x0 : Option Nat) (x1 : Option Nat)  (G : GS) : Option ((Int32) × GS) :=
  x0.bind fun a1 => zk [1] G a1 <| zb3 (fX1_factorOut_0 a1 G) (fun v5 G6 => x1.bind fun a9 => (zsL G6 51 a9 (0 : Int32) v5.toInt64).bind fun G11 => some (0, G11)) (fun X7 G8 => if X7 = "java/lang/IllegalStateException" then (some (1, G8)) else none)
theorem wfX0_factorOut_0 {F : zF} (hd : 12 ≤ F.2.2.2) (x0 : Option Nat) (x1 : Option Nat)  (G : GS) {a : (Int32) × GS} (h : fX0_factorOut_0 x0 x1  G = some a) (hk : zKI F a) : J mX0_factorOut F G 0 [(0, vR x0), (1, vR x1)] [] := by
  unfold fX0_factorOut_0 at h
  refine j_aload_n (j := 1) dX0_factorOut_0 rfl rfl ?_
  refine j_iconst (v := 0) dX0_factorOut_1 (by decide) ?_
  refine j_aload_n (j := 0) dX0_factorOut_2 rfl rfl ?_
  replace h := zbE h
  obtain ⟨a1, e2, h⟩ := h
  subst e2
  replace h := zkE h
  obtain ⟨e3, h⟩ := h
  replace h := zb3E h
  rcases h with ⟨v5, G6, e4, h⟩ | ⟨X7, G8, e4, h⟩
  · refine j_cont (zrVW (As := []) msX0_68 (yX1_factorOut_ok e4) (Nat.le_trans (Nat.le_of_ble_eq_true rfl) hd) (zk_1 _ e3) rfl rfl (Nat.le_of_ble_eq_true rfl) dX0_factorOut_3) ?_
    refine j_i2l dX0_factorOut_6 ?_
    replace h := zbE h
    obtain ⟨a9, e10, h⟩ := h
    subst e10
    replace h := zbE h
    obtain ⟨G11, e12, h⟩ := h
    refine j_last e12 dX0_factorOut_7 ?_
    refine j_goto (tgt := 14) dX0_factorOut_8 (by decide) ?_
    refine j_iconst (v := 0) dX0_factorOut_14 (by decide) ?_
    obtain rfl := Option.some.inj h
    exact j_iret hk.1 hk.2 rfl dX0_factorOut_15
  · refine j_thr (zrVW (As := []) msX0_68 (yX1_factorOut_ok e4) (Nat.le_trans (Nat.le_of_ble_eq_true rfl) hd) (zk_1 _ e3) rfl rfl (Nat.le_of_ble_eq_true rfl) dX0_factorOut_3) ?_
    by_cases c15 : X7 = "java/lang/IllegalStateException"
    · rw [if_pos c15] at h
      subst c15
      refine jx_catch (n := 11) [] ⟨0, 8, 11, 15⟩ [] rfl (fun z hz => nomatch hz) rfl (by decide) q1701 (zxw 10 rfl) rfl (fun q14 => ?_)
      refine j_astore_n (lv' := [(2, vR (some q14)), (0, vR (some a1)), (1, vR x1)]) dX0_factorOut_11 rfl (Nat.le_of_ble_eq_true rfl) rfl ?_
      refine j_iconst (v := 1) dX0_factorOut_12 (by decide) ?_
      obtain rfl := Option.some.inj h
      exact j_iret hk.1 hk.2 rfl dX0_factorOut_13
    · rw [if_neg c15] at h
      cases h
theorem yX0_factorOut_ok {x0 : Option Nat} {x1 : Option Nat} {G : GS} {r : Int32} {G1 : GS} (h : fX0_factorOut_0 x0 x1 G = some (r, G1)) : zRuns yX0_factorOut (wsW_ yX0_factorOut cX0_factorOut 3 (some Jvm.ClassFile.FieldType.int) [(0, 8, 11, 15)]) [vR x0, vR x1] (.inl (some (vI r)), G, G1, 12) :=
  zentryW (M := mX0_factorOut) (by decide +kernel) ⟨rfl, rfl, rfl⟩ (Nat.le_of_ble_eq_true rfl) (wfX0_factorOut_0 (Nat.le_refl _) x0 x1 G h ⟨rfl, rfl⟩)
theorem msX0_39 : zSV RX0 39 RX1 yX1_firstOf cX1_firstOf 2 (some Jvm.ClassFile.FieldType.int) 1 := ⟨lw_V q1875 q1876 q1877 q123 q1878, (by decide +kernel), (by decide)⟩
abbrev mX0_firstOf : zM := (cX0_firstOf, RX0, 4, (some Jvm.ClassFile.FieldType.int), "firstOf", [(0, 9, 12, 13)], "(LSelahGenerator;I[J)I")
def fX0_firstOf_0 (x0 : Option Nat) (x1 : Int32) (x2 : Option Nat)  (G : GS) : Option ((Int32) × GS) :=
  x0.bind fun a1 => zk [1] G a1 <| zb3 (fX1_firstOf_0 a1 x1 G) (fun v5 G6 => x2.bind fun a9 => (zsL G6 51 a9 (0 : Int32) v5.toInt64).bind fun G11 => some (0, G11)) (fun X7 G8 => if X7 = "java/lang/IndexOutOfBoundsException" then (some (1, G8)) else none)
theorem wfX0_firstOf_0 {F : zF} (hd : 53 ≤ F.2.2.2) (x0 : Option Nat) (x1 : Int32) (x2 : Option Nat)  (G : GS) {a : (Int32) × GS} (h : fX0_firstOf_0 x0 x1 x2  G = some a) (hk : zKI F a) : J mX0_firstOf F G 0 [(0, vR x0), (1, vI x1), (2, vR x2)] [] := by
  unfold fX0_firstOf_0 at h
  refine j_aload_n (j := 2) dX0_firstOf_0 rfl rfl ?_
  refine j_iconst (v := 0) dX0_firstOf_1 (by decide) ?_
  refine j_aload_n (j := 0) dX0_firstOf_2 rfl rfl ?_
  refine j_iload_n (j := 1) dX0_firstOf_3 rfl rfl ?_
  replace h := zbE h
  obtain ⟨a1, e2, h⟩ := h
  subst e2
  replace h := zkE h
  obtain ⟨e3, h⟩ := h
  replace h := zb3E h
  rcases h with ⟨v5, G6, e4, h⟩ | ⟨X7, G8, e4, h⟩
  · refine j_cont (zrV (As := [vI x1]) msX0_39 (yX1_firstOf_ok e4) (Nat.le_trans (Nat.le_of_ble_eq_true rfl) hd) (zk_1 _ e3) rfl rfl (Nat.le_of_ble_eq_true rfl) dX0_firstOf_4) ?_
    refine j_i2l dX0_firstOf_7 ?_
    replace h := zbE h
    obtain ⟨a9, e10, h⟩ := h
    subst e10
    replace h := zbE h
    obtain ⟨G11, e12, h⟩ := h
    refine j_last e12 dX0_firstOf_8 ?_
    refine j_goto (tgt := 15) dX0_firstOf_9 (by decide) ?_
    refine j_iconst (v := 0) dX0_firstOf_15 (by decide) ?_
    obtain rfl := Option.some.inj h
    exact j_iret hk.1 hk.2 rfl dX0_firstOf_16
  · refine j_thr (zrV (As := [vI x1]) msX0_39 (yX1_firstOf_ok e4) (Nat.le_trans (Nat.le_of_ble_eq_true rfl) hd) (zk_1 _ e3) rfl rfl (Nat.le_of_ble_eq_true rfl) dX0_firstOf_4) ?_
    by_cases c15 : X7 = "java/lang/IndexOutOfBoundsException"
    · rw [if_pos c15] at h
      subst c15
      refine jx_catch (n := 12) [] ⟨0, 9, 12, 13⟩ [] rfl (fun z hz => nomatch hz) rfl (by decide) q1669 (zxw 5 rfl) rfl (fun q14 => ?_)
      refine j_astore_n (lv' := [(3, vR (some q14)), (0, vR (some a1)), (1, vI x1), (2, vR x2)]) dX0_firstOf_12 rfl (Nat.le_of_ble_eq_true rfl) rfl ?_
      refine j_iconst (v := 1) dX0_firstOf_13 (by decide) ?_
      obtain rfl := Option.some.inj h
      exact j_iret hk.1 hk.2 rfl dX0_firstOf_14
    · rw [if_neg c15] at h
      cases h
theorem yX0_firstOf_ok {x0 : Option Nat} {x1 : Int32} {x2 : Option Nat} {G : GS} {r : Int32} {G1 : GS} (h : fX0_firstOf_0 x0 x1 x2 G = some (r, G1)) : zRuns yX0_firstOf (wsW_ yX0_firstOf cX0_firstOf 4 (some Jvm.ClassFile.FieldType.int) [(0, 9, 12, 13)]) [vR x0, vI x1, vR x2] (.inl (some (vI r)), G, G1, 53) :=
  zentryW (M := mX0_firstOf) (by decide +kernel) ⟨rfl, rfl, rfl⟩ (Nat.le_of_ble_eq_true rfl) (wfX0_firstOf_0 (Nat.le_refl _) x0 x1 x2 G h ⟨rfl, rfl⟩)
theorem msX0_42 : zSV RX0 42 RX1 yX1_followOf cX1_followOf 2 (some Jvm.ClassFile.FieldType.int) 1 := ⟨lw_V q1882 q1883 q1884 q123 q1885, (by decide +kernel), (by decide)⟩
abbrev mX0_followOf : zM := (cX0_followOf, RX0, 4, (some Jvm.ClassFile.FieldType.int), "followOf", [(0, 9, 12, 13)], "(LSelahGenerator;I[J)I")
def fX0_followOf_0 (x0 : Option Nat) (x1 : Int32) (x2 : Option Nat)  (G : GS) : Option ((Int32) × GS) :=
  x0.bind fun a1 => zk [1] G a1 <| zb3 (fX1_followOf_0 a1 x1 G) (fun v5 G6 => x2.bind fun a9 => (zsL G6 51 a9 (0 : Int32) v5.toInt64).bind fun G11 => some (0, G11)) (fun X7 G8 => if X7 = "java/lang/IndexOutOfBoundsException" then (some (1, G8)) else none)
theorem wfX0_followOf_0 {F : zF} (hd : 53 ≤ F.2.2.2) (x0 : Option Nat) (x1 : Int32) (x2 : Option Nat)  (G : GS) {a : (Int32) × GS} (h : fX0_followOf_0 x0 x1 x2  G = some a) (hk : zKI F a) : J mX0_followOf F G 0 [(0, vR x0), (1, vI x1), (2, vR x2)] [] := by
  unfold fX0_followOf_0 at h
  refine j_aload_n (j := 2) dX0_followOf_0 rfl rfl ?_
  refine j_iconst (v := 0) dX0_followOf_1 (by decide) ?_
  refine j_aload_n (j := 0) dX0_followOf_2 rfl rfl ?_
  refine j_iload_n (j := 1) dX0_followOf_3 rfl rfl ?_
  replace h := zbE h
  obtain ⟨a1, e2, h⟩ := h
  subst e2
  replace h := zkE h
  obtain ⟨e3, h⟩ := h
  replace h := zb3E h
  rcases h with ⟨v5, G6, e4, h⟩ | ⟨X7, G8, e4, h⟩
  · refine j_cont (zrV (As := [vI x1]) msX0_42 (yX1_followOf_ok e4) (Nat.le_trans (Nat.le_of_ble_eq_true rfl) hd) (zk_1 _ e3) rfl rfl (Nat.le_of_ble_eq_true rfl) dX0_followOf_4) ?_
    refine j_i2l dX0_followOf_7 ?_
    replace h := zbE h
    obtain ⟨a9, e10, h⟩ := h
    subst e10
    replace h := zbE h
    obtain ⟨G11, e12, h⟩ := h
    refine j_last e12 dX0_followOf_8 ?_
    refine j_goto (tgt := 15) dX0_followOf_9 (by decide) ?_
    refine j_iconst (v := 0) dX0_followOf_15 (by decide) ?_
    obtain rfl := Option.some.inj h
    exact j_iret hk.1 hk.2 rfl dX0_followOf_16
  · refine j_thr (zrV (As := [vI x1]) msX0_42 (yX1_followOf_ok e4) (Nat.le_trans (Nat.le_of_ble_eq_true rfl) hd) (zk_1 _ e3) rfl rfl (Nat.le_of_ble_eq_true rfl) dX0_followOf_4) ?_
    by_cases c15 : X7 = "java/lang/IndexOutOfBoundsException"
    · rw [if_pos c15] at h
      subst c15
      refine jx_catch (n := 12) [] ⟨0, 9, 12, 13⟩ [] rfl (fun z hz => nomatch hz) rfl (by decide) q1669 (zxw 5 rfl) rfl (fun q14 => ?_)
      refine j_astore_n (lv' := [(3, vR (some q14)), (0, vR (some a1)), (1, vI x1), (2, vR x2)]) dX0_followOf_12 rfl (Nat.le_of_ble_eq_true rfl) rfl ?_
      refine j_iconst (v := 1) dX0_followOf_13 (by decide) ?_
      obtain rfl := Option.some.inj h
      exact j_iret hk.1 hk.2 rfl dX0_followOf_14
    · rw [if_neg c15] at h
      cases h
theorem yX0_followOf_ok {x0 : Option Nat} {x1 : Int32} {x2 : Option Nat} {G : GS} {r : Int32} {G1 : GS} (h : fX0_followOf_0 x0 x1 x2 G = some (r, G1)) : zRuns yX0_followOf (wsW_ yX0_followOf cX0_followOf 4 (some Jvm.ClassFile.FieldType.int) [(0, 9, 12, 13)]) [vR x0, vI x1, vR x2] (.inl (some (vI r)), G, G1, 53) :=
  zentryW (M := mX0_followOf) (by decide +kernel) ⟨rfl, rfl, rfl⟩ (Nat.le_of_ble_eq_true rfl) (wfX0_followOf_0 (Nat.le_refl _) x0 x1 x2 G h ⟨rfl, rfl⟩)
theorem msX0_74 : zSV RX0 74 RX1 yX1_give cX1_give 3 (some Jvm.ClassFile.FieldType.int) 1 := ⟨lw_V q2498 q2499 q2500 q123 q2501, (by decide +kernel), (by decide)⟩
abbrev mX0_give : zM := (cX0_give, RX0, 4, (some Jvm.ClassFile.FieldType.int), "give", [(0, 9, 12, 13), (0, 9, 15, 15)], "(LSelahGenerator;I[J)I")
def fX0_give_0 (x0 : Option Nat) (x1 : Int32) (x2 : Option Nat)  (G : GS) : Option ((Int32) × GS) :=
  x0.bind fun a1 => zk [1] G a1 <| zb3 (fX1_give_0 a1 x1 G) (fun v5 G6 => x2.bind fun a9 => (zsL G6 51 a9 (0 : Int32) v5.toInt64).bind fun G11 => some (0, G11)) (fun X7 G8 => if X7 = "java/lang/IllegalStateException" then (some (2, G8)) else (if X7 = "java/lang/IndexOutOfBoundsException" then (some (1, G8)) else none))
theorem wfX0_give_0 {F : zF} (hd : 57 ≤ F.2.2.2) (x0 : Option Nat) (x1 : Int32) (x2 : Option Nat)  (G : GS) {a : (Int32) × GS} (h : fX0_give_0 x0 x1 x2  G = some a) (hk : zKI F a) : J mX0_give F G 0 [(0, vR x0), (1, vI x1), (2, vR x2)] [] := by
  unfold fX0_give_0 at h
  refine j_aload_n (j := 2) dX0_give_0 rfl rfl ?_
  refine j_iconst (v := 0) dX0_give_1 (by decide) ?_
  refine j_aload_n (j := 0) dX0_give_2 rfl rfl ?_
  refine j_iload_n (j := 1) dX0_give_3 rfl rfl ?_
  replace h := zbE h
  obtain ⟨a1, e2, h⟩ := h
  subst e2
  replace h := zkE h
  obtain ⟨e3, h⟩ := h
  replace h := zb3E h
  rcases h with ⟨v5, G6, e4, h⟩ | ⟨X7, G8, e4, h⟩
  · refine j_cont (zrV (As := [vI x1]) msX0_74 (yX1_give_ok e4) (Nat.le_trans (Nat.le_of_ble_eq_true rfl) hd) (zk_1 _ e3) rfl rfl (Nat.le_of_ble_eq_true rfl) dX0_give_4) ?_
    refine j_i2l dX0_give_7 ?_
    replace h := zbE h
    obtain ⟨a9, e10, h⟩ := h
    subst e10
    replace h := zbE h
    obtain ⟨G11, e12, h⟩ := h
    refine j_last e12 dX0_give_8 ?_
    refine j_goto (tgt := 18) dX0_give_9 (by decide) ?_
    refine j_iconst (v := 0) dX0_give_18 (by decide) ?_
    obtain rfl := Option.some.inj h
    exact j_iret hk.1 hk.2 rfl dX0_give_19
  · refine j_thr (zrV (As := [vI x1]) msX0_74 (yX1_give_ok e4) (Nat.le_trans (Nat.le_of_ble_eq_true rfl) hd) (zk_1 _ e3) rfl rfl (Nat.le_of_ble_eq_true rfl) dX0_give_4) ?_
    by_cases c17 : X7 = "java/lang/IllegalStateException"
    · rw [if_pos c17] at h
      subst c17
      refine jx_catch (n := 15) [⟨0, 9, 12, 13⟩] ⟨0, 9, 15, 15⟩ [] rfl (fun z hz => by
    simp only [List.mem_cons, List.not_mem_nil, or_false] at hz
    subst hz
    · exact Or.inr ⟨by decide, _, q1669, by simp [zncs]⟩) rfl (by decide) q1701 (zxw 10 rfl) rfl (fun q16 => ?_)
      refine j_astore_n (lv' := [(3, vR (some q16)), (0, vR (some a1)), (1, vI x1), (2, vR x2)]) dX0_give_15 rfl (Nat.le_of_ble_eq_true rfl) rfl ?_
      refine j_iconst (v := 2) dX0_give_16 (by decide) ?_
      obtain rfl := Option.some.inj h
      exact j_iret hk.1 hk.2 rfl dX0_give_17
    · rw [if_neg c17] at h
      by_cases c15 : X7 = "java/lang/IndexOutOfBoundsException"
      · rw [if_pos c15] at h
        subst c15
        refine jx_catch (n := 12) [] ⟨0, 9, 12, 13⟩ [⟨0, 9, 15, 15⟩] rfl (fun z hz => nomatch hz) rfl (by decide) q1669 (zxw 5 rfl) rfl (fun q14 => ?_)
        refine j_astore_n (lv' := [(3, vR (some q14)), (0, vR (some a1)), (1, vI x1), (2, vR x2)]) dX0_give_12 rfl (Nat.le_of_ble_eq_true rfl) rfl ?_
        refine j_iconst (v := 1) dX0_give_13 (by decide) ?_
        obtain rfl := Option.some.inj h
        exact j_iret hk.1 hk.2 rfl dX0_give_14
      · rw [if_neg c15] at h
        cases h
theorem yX0_give_ok {x0 : Option Nat} {x1 : Int32} {x2 : Option Nat} {G : GS} {r : Int32} {G1 : GS} (h : fX0_give_0 x0 x1 x2 G = some (r, G1)) : zRuns yX0_give (wsW_ yX0_give cX0_give 4 (some Jvm.ClassFile.FieldType.int) [(0, 9, 12, 13), (0, 9, 15, 15)]) [vR x0, vI x1, vR x2] (.inl (some (vI r)), G, G1, 57) :=
  zentryW (M := mX0_give) (by decide +kernel) ⟨rfl, rfl, rfl⟩ (Nat.le_of_ble_eq_true rfl) (wfX0_give_0 (Nat.le_refl _) x0 x1 x2 G h ⟨rfl, rfl⟩)
theorem msX0_61 : zSV RX0 61 RX1 yX1_isLeftRecursive cX1_isLeftRecursive 2 (some Jvm.ClassFile.FieldType.boolean) 1 := ⟨lw_V q1957 q1958 q1959 q123 q1960, (by decide +kernel), (by decide)⟩
abbrev mX0_isLeftRecursive : zM := (cX0_isLeftRecursive, RX0, 4, (some Jvm.ClassFile.FieldType.int), "isLeftRecursive", [(0, 16, 19, 13)], "(LSelahGenerator;I[J)I")
def fX0_isLeftRecursive_15  (s0 : Option Nat) (s1 : Int32) (s2 : Int64) (G : GS) : Option ((Int32) × GS) :=
  s0.bind fun a1 => (zsL G 51 a1 s1 s2).bind fun G3 => some (0, G3)
theorem wfX0_isLeftRecursive_15 {F : zF} (hd : 53 ≤ F.2.2.2)  (s0 : Option Nat) (s1 : Int32) (s2 : Int64) (G : GS) {a : (Int32) × GS} (h : fX0_isLeftRecursive_15  s0 s1 s2 G = some a) (hk : zKI F a) : J mX0_isLeftRecursive F G 15 [] [vL s2, vI s1, vR s0] := by
  unfold fX0_isLeftRecursive_15 at h
  replace h := zbE h
  obtain ⟨a1, e2, h⟩ := h
  subst e2
  replace h := zbE h
  obtain ⟨G3, e4, h⟩ := h
  refine j_last e4 dX0_isLeftRecursive_15 ?_
  refine j_goto (tgt := 22) dX0_isLeftRecursive_16 (by decide) ?_
  refine j_iconst (v := 0) dX0_isLeftRecursive_22 (by decide) ?_
  obtain rfl := Option.some.inj h
  exact j_iret hk.1 hk.2 rfl dX0_isLeftRecursive_23
def fX0_isLeftRecursive_0 (x0 : Option Nat) (x1 : Int32) (x2 : Option Nat)  (G : GS) : Option ((Int32) × GS) :=
  x0.bind fun a1 => zk [1] G a1 <| zb3 (fX1_isLeftRecursive_0 a1 x1 G) (fun v5 G6 => if v5 = 0 then (fX0_isLeftRecursive_15 x2 0 0 G6) else (fX0_isLeftRecursive_15 x2 0 1 G6)) (fun X7 G8 => if X7 = "java/lang/IndexOutOfBoundsException" then (some (1, G8)) else none)
theorem wfX0_isLeftRecursive_0 {F : zF} (hd : 53 ≤ F.2.2.2) (x0 : Option Nat) (x1 : Int32) (x2 : Option Nat)  (G : GS) {a : (Int32) × GS} (h : fX0_isLeftRecursive_0 x0 x1 x2  G = some a) (hk : zKI F a) : J mX0_isLeftRecursive F G 0 [(0, vR x0), (1, vI x1), (2, vR x2)] [] := by
  unfold fX0_isLeftRecursive_0 at h
  refine j_aload_n (j := 2) dX0_isLeftRecursive_0 rfl rfl ?_
  refine j_iconst (v := 0) dX0_isLeftRecursive_1 (by decide) ?_
  refine j_aload_n (j := 0) dX0_isLeftRecursive_2 rfl rfl ?_
  refine j_iload_n (j := 1) dX0_isLeftRecursive_3 rfl rfl ?_
  replace h := zbE h
  obtain ⟨a1, e2, h⟩ := h
  subst e2
  replace h := zkE h
  obtain ⟨e3, h⟩ := h
  replace h := zb3E h
  rcases h with ⟨v5, G6, e4, h⟩ | ⟨X7, G8, e4, h⟩
  · refine j_cont (zrV (As := [vI x1]) msX0_61 (yX1_isLeftRecursive_ok e4) (Nat.le_trans (Nat.le_of_ble_eq_true rfl) hd) (zk_1 _ e3) rfl rfl (Nat.le_of_ble_eq_true rfl) dX0_isLeftRecursive_4) ?_
    refine j_if_eq (tgt := 14) dX0_isLeftRecursive_7 (by decide) (fun c9 => ?_) (fun c9 => ?_)
    · rw [if_pos c9] at h
      refine j_lconst (v := 0) dX0_isLeftRecursive_14 rfl ?_
      exact J.sub (zall [] rfl) (wfX0_isLeftRecursive_15 hd  x2 0 0 G6 h hk)
    · rw [if_neg c9] at h
      refine j_lconst (v := 1) dX0_isLeftRecursive_10 rfl ?_
      refine j_goto (tgt := 15) dX0_isLeftRecursive_11 (by decide) ?_
      exact J.sub (zall [] rfl) (wfX0_isLeftRecursive_15 hd  x2 0 1 G6 h hk)
  · refine j_thr (zrV (As := [vI x1]) msX0_61 (yX1_isLeftRecursive_ok e4) (Nat.le_trans (Nat.le_of_ble_eq_true rfl) hd) (zk_1 _ e3) rfl rfl (Nat.le_of_ble_eq_true rfl) dX0_isLeftRecursive_4) ?_
    by_cases c12 : X7 = "java/lang/IndexOutOfBoundsException"
    · rw [if_pos c12] at h
      subst c12
      refine jx_catch (n := 19) [] ⟨0, 16, 19, 13⟩ [] rfl (fun z hz => nomatch hz) rfl (by decide) q1669 (zxw 5 rfl) rfl (fun q11 => ?_)
      refine j_astore_n (lv' := [(3, vR (some q11)), (0, vR (some a1)), (1, vI x1), (2, vR x2)]) dX0_isLeftRecursive_19 rfl (Nat.le_of_ble_eq_true rfl) rfl ?_
      refine j_iconst (v := 1) dX0_isLeftRecursive_20 (by decide) ?_
      obtain rfl := Option.some.inj h
      exact j_iret hk.1 hk.2 rfl dX0_isLeftRecursive_21
    · rw [if_neg c12] at h
      cases h
theorem yX0_isLeftRecursive_ok {x0 : Option Nat} {x1 : Int32} {x2 : Option Nat} {G : GS} {r : Int32} {G1 : GS} (h : fX0_isLeftRecursive_0 x0 x1 x2 G = some (r, G1)) : zRuns yX0_isLeftRecursive (wsW_ yX0_isLeftRecursive cX0_isLeftRecursive 4 (some Jvm.ClassFile.FieldType.int) [(0, 16, 19, 13)]) [vR x0, vI x1, vR x2] (.inl (some (vI r)), G, G1, 53) :=
  zentryW (M := mX0_isLeftRecursive) (by decide +kernel) ⟨rfl, rfl, rfl⟩ (Nat.le_of_ble_eq_true rfl) (wfX0_isLeftRecursive_0 (Nat.le_refl _) x0 x1 x2 G h ⟨rfl, rfl⟩)
theorem msX0_35 : zSV RX0 35 RX1 yX1_isNullable cX1_isNullable 2 (some Jvm.ClassFile.FieldType.boolean) 1 := ⟨lw_V q1867 q1868 q1869 q123 q1870, (by decide +kernel), (by decide)⟩
abbrev mX0_isNullable : zM := (cX0_isNullable, RX0, 4, (some Jvm.ClassFile.FieldType.int), "isNullable", [(0, 16, 19, 13)], "(LSelahGenerator;I[J)I")
def fX0_isNullable_15  (s0 : Option Nat) (s1 : Int32) (s2 : Int64) (G : GS) : Option ((Int32) × GS) :=
  s0.bind fun a1 => (zsL G 51 a1 s1 s2).bind fun G3 => some (0, G3)
theorem wfX0_isNullable_15 {F : zF} (hd : 53 ≤ F.2.2.2)  (s0 : Option Nat) (s1 : Int32) (s2 : Int64) (G : GS) {a : (Int32) × GS} (h : fX0_isNullable_15  s0 s1 s2 G = some a) (hk : zKI F a) : J mX0_isNullable F G 15 [] [vL s2, vI s1, vR s0] := by
  unfold fX0_isNullable_15 at h
  replace h := zbE h
  obtain ⟨a1, e2, h⟩ := h
  subst e2
  replace h := zbE h
  obtain ⟨G3, e4, h⟩ := h
  refine j_last e4 dX0_isNullable_15 ?_
  refine j_goto (tgt := 22) dX0_isNullable_16 (by decide) ?_
  refine j_iconst (v := 0) dX0_isNullable_22 (by decide) ?_
  obtain rfl := Option.some.inj h
  exact j_iret hk.1 hk.2 rfl dX0_isNullable_23
def fX0_isNullable_0 (x0 : Option Nat) (x1 : Int32) (x2 : Option Nat)  (G : GS) : Option ((Int32) × GS) :=
  x0.bind fun a1 => zk [1] G a1 <| zb3 (fX1_isNullable_0 a1 x1 G) (fun v5 G6 => if v5 = 0 then (fX0_isNullable_15 x2 0 0 G6) else (fX0_isNullable_15 x2 0 1 G6)) (fun X7 G8 => if X7 = "java/lang/IndexOutOfBoundsException" then (some (1, G8)) else none)
theorem wfX0_isNullable_0 {F : zF} (hd : 53 ≤ F.2.2.2) (x0 : Option Nat) (x1 : Int32) (x2 : Option Nat)  (G : GS) {a : (Int32) × GS} (h : fX0_isNullable_0 x0 x1 x2  G = some a) (hk : zKI F a) : J mX0_isNullable F G 0 [(0, vR x0), (1, vI x1), (2, vR x2)] [] := by
  unfold fX0_isNullable_0 at h
  refine j_aload_n (j := 2) dX0_isNullable_0 rfl rfl ?_
  refine j_iconst (v := 0) dX0_isNullable_1 (by decide) ?_
  refine j_aload_n (j := 0) dX0_isNullable_2 rfl rfl ?_
  refine j_iload_n (j := 1) dX0_isNullable_3 rfl rfl ?_
  replace h := zbE h
  obtain ⟨a1, e2, h⟩ := h
  subst e2
  replace h := zkE h
  obtain ⟨e3, h⟩ := h
  replace h := zb3E h
  rcases h with ⟨v5, G6, e4, h⟩ | ⟨X7, G8, e4, h⟩
  · refine j_cont (zrV (As := [vI x1]) msX0_35 (yX1_isNullable_ok e4) (Nat.le_trans (Nat.le_of_ble_eq_true rfl) hd) (zk_1 _ e3) rfl rfl (Nat.le_of_ble_eq_true rfl) dX0_isNullable_4) ?_
    refine j_if_eq (tgt := 14) dX0_isNullable_7 (by decide) (fun c9 => ?_) (fun c9 => ?_)
    · rw [if_pos c9] at h
      refine j_lconst (v := 0) dX0_isNullable_14 rfl ?_
      exact J.sub (zall [] rfl) (wfX0_isNullable_15 hd  x2 0 0 G6 h hk)
    · rw [if_neg c9] at h
      refine j_lconst (v := 1) dX0_isNullable_10 rfl ?_
      refine j_goto (tgt := 15) dX0_isNullable_11 (by decide) ?_
      exact J.sub (zall [] rfl) (wfX0_isNullable_15 hd  x2 0 1 G6 h hk)
  · refine j_thr (zrV (As := [vI x1]) msX0_35 (yX1_isNullable_ok e4) (Nat.le_trans (Nat.le_of_ble_eq_true rfl) hd) (zk_1 _ e3) rfl rfl (Nat.le_of_ble_eq_true rfl) dX0_isNullable_4) ?_
    by_cases c12 : X7 = "java/lang/IndexOutOfBoundsException"
    · rw [if_pos c12] at h
      subst c12
      refine jx_catch (n := 19) [] ⟨0, 16, 19, 13⟩ [] rfl (fun z hz => nomatch hz) rfl (by decide) q1669 (zxw 5 rfl) rfl (fun q11 => ?_)
      refine j_astore_n (lv' := [(3, vR (some q11)), (0, vR (some a1)), (1, vI x1), (2, vR x2)]) dX0_isNullable_19 rfl (Nat.le_of_ble_eq_true rfl) rfl ?_
      refine j_iconst (v := 1) dX0_isNullable_20 (by decide) ?_
      obtain rfl := Option.some.inj h
      exact j_iret hk.1 hk.2 rfl dX0_isNullable_21
    · rw [if_neg c12] at h
      cases h
theorem yX0_isNullable_ok {x0 : Option Nat} {x1 : Int32} {x2 : Option Nat} {G : GS} {r : Int32} {G1 : GS} (h : fX0_isNullable_0 x0 x1 x2 G = some (r, G1)) : zRuns yX0_isNullable (wsW_ yX0_isNullable cX0_isNullable 4 (some Jvm.ClassFile.FieldType.int) [(0, 16, 19, 13)]) [vR x0, vI x1, vR x2] (.inl (some (vI r)), G, G1, 53) :=
  zentryW (M := mX0_isNullable) (by decide +kernel) ⟨rfl, rfl, rfl⟩ (Nat.le_of_ble_eq_true rfl) (wfX0_isNullable_0 (Nat.le_refl _) x0 x1 x2 G h ⟨rfl, rfl⟩)
theorem msX0_26 : zSV RX0 26 RX1 yX1_leftOf cX1_leftOf 2 (some Jvm.ClassFile.FieldType.int) 1 := ⟨lw_V q1846 q1847 q1848 q123 q1849, (by decide +kernel), (by decide)⟩
abbrev mX0_leftOf : zM := (cX0_leftOf, RX0, 4, (some Jvm.ClassFile.FieldType.int), "leftOf", [(0, 9, 12, 13)], "(LSelahGenerator;I[J)I")
def fX0_leftOf_0 (x0 : Option Nat) (x1 : Int32) (x2 : Option Nat)  (G : GS) : Option ((Int32) × GS) :=
  x0.bind fun a1 => zk [1] G a1 <| zb3 (fX1_leftOf_0 a1 x1 G) (fun v5 G6 => x2.bind fun a9 => (zsL G6 51 a9 (0 : Int32) v5.toInt64).bind fun G11 => some (0, G11)) (fun X7 G8 => if X7 = "java/lang/IndexOutOfBoundsException" then (some (1, G8)) else none)
theorem wfX0_leftOf_0 {F : zF} (hd : 11 ≤ F.2.2.2) (x0 : Option Nat) (x1 : Int32) (x2 : Option Nat)  (G : GS) {a : (Int32) × GS} (h : fX0_leftOf_0 x0 x1 x2  G = some a) (hk : zKI F a) : J mX0_leftOf F G 0 [(0, vR x0), (1, vI x1), (2, vR x2)] [] := by
  unfold fX0_leftOf_0 at h
  refine j_aload_n (j := 2) dX0_leftOf_0 rfl rfl ?_
  refine j_iconst (v := 0) dX0_leftOf_1 (by decide) ?_
  refine j_aload_n (j := 0) dX0_leftOf_2 rfl rfl ?_
  refine j_iload_n (j := 1) dX0_leftOf_3 rfl rfl ?_
  replace h := zbE h
  obtain ⟨a1, e2, h⟩ := h
  subst e2
  replace h := zkE h
  obtain ⟨e3, h⟩ := h
  replace h := zb3E h
  rcases h with ⟨v5, G6, e4, h⟩ | ⟨X7, G8, e4, h⟩
  · refine j_cont (zrV (As := [vI x1]) msX0_26 (yX1_leftOf_ok e4) (Nat.le_trans (Nat.le_of_ble_eq_true rfl) hd) (zk_1 _ e3) rfl rfl (Nat.le_of_ble_eq_true rfl) dX0_leftOf_4) ?_
    refine j_i2l dX0_leftOf_7 ?_
    replace h := zbE h
    obtain ⟨a9, e10, h⟩ := h
    subst e10
    replace h := zbE h
    obtain ⟨G11, e12, h⟩ := h
    refine j_last e12 dX0_leftOf_8 ?_
    refine j_goto (tgt := 15) dX0_leftOf_9 (by decide) ?_
    refine j_iconst (v := 0) dX0_leftOf_15 (by decide) ?_
    obtain rfl := Option.some.inj h
    exact j_iret hk.1 hk.2 rfl dX0_leftOf_16
  · refine j_thr (zrV (As := [vI x1]) msX0_26 (yX1_leftOf_ok e4) (Nat.le_trans (Nat.le_of_ble_eq_true rfl) hd) (zk_1 _ e3) rfl rfl (Nat.le_of_ble_eq_true rfl) dX0_leftOf_4) ?_
    by_cases c15 : X7 = "java/lang/IndexOutOfBoundsException"
    · rw [if_pos c15] at h
      subst c15
      refine jx_catch (n := 12) [] ⟨0, 9, 12, 13⟩ [] rfl (fun z hz => nomatch hz) rfl (by decide) q1669 (zxw 5 rfl) rfl (fun q14 => ?_)
      refine j_astore_n (lv' := [(3, vR (some q14)), (0, vR (some a1)), (1, vI x1), (2, vR x2)]) dX0_leftOf_12 rfl (Nat.le_of_ble_eq_true rfl) rfl ?_
      refine j_iconst (v := 1) dX0_leftOf_13 (by decide) ?_
      obtain rfl := Option.some.inj h
      exact j_iret hk.1 hk.2 rfl dX0_leftOf_14
    · rw [if_neg c15] at h
      cases h
theorem yX0_leftOf_ok {x0 : Option Nat} {x1 : Int32} {x2 : Option Nat} {G : GS} {r : Int32} {G1 : GS} (h : fX0_leftOf_0 x0 x1 x2 G = some (r, G1)) : zRuns yX0_leftOf (wsW_ yX0_leftOf cX0_leftOf 4 (some Jvm.ClassFile.FieldType.int) [(0, 9, 12, 13)]) [vR x0, vI x1, vR x2] (.inl (some (vI r)), G, G1, 11) :=
  zentryW (M := mX0_leftOf) (by decide +kernel) ⟨rfl, rfl, rfl⟩ (Nat.le_of_ble_eq_true rfl) (wfX0_leftOf_0 (Nat.le_refl _) x0 x1 x2 G h ⟨rfl, rfl⟩)
theorem msX0_29 : zSV RX0 29 RX1 yX1_lengthOf cX1_lengthOf 2 (some Jvm.ClassFile.FieldType.int) 1 := ⟨lw_V q1853 q1854 q1855 q123 q1856, (by decide +kernel), (by decide)⟩
abbrev mX0_lengthOf : zM := (cX0_lengthOf, RX0, 4, (some Jvm.ClassFile.FieldType.int), "lengthOf", [(0, 9, 12, 13)], "(LSelahGenerator;I[J)I")
def fX0_lengthOf_0 (x0 : Option Nat) (x1 : Int32) (x2 : Option Nat)  (G : GS) : Option ((Int32) × GS) :=
  x0.bind fun a1 => zk [1] G a1 <| zb3 (fX1_lengthOf_0 a1 x1 G) (fun v5 G6 => x2.bind fun a9 => (zsL G6 51 a9 (0 : Int32) v5.toInt64).bind fun G11 => some (0, G11)) (fun X7 G8 => if X7 = "java/lang/IndexOutOfBoundsException" then (some (1, G8)) else none)
theorem wfX0_lengthOf_0 {F : zF} (hd : 11 ≤ F.2.2.2) (x0 : Option Nat) (x1 : Int32) (x2 : Option Nat)  (G : GS) {a : (Int32) × GS} (h : fX0_lengthOf_0 x0 x1 x2  G = some a) (hk : zKI F a) : J mX0_lengthOf F G 0 [(0, vR x0), (1, vI x1), (2, vR x2)] [] := by
  unfold fX0_lengthOf_0 at h
  refine j_aload_n (j := 2) dX0_lengthOf_0 rfl rfl ?_
  refine j_iconst (v := 0) dX0_lengthOf_1 (by decide) ?_
  refine j_aload_n (j := 0) dX0_lengthOf_2 rfl rfl ?_
  refine j_iload_n (j := 1) dX0_lengthOf_3 rfl rfl ?_
  replace h := zbE h
  obtain ⟨a1, e2, h⟩ := h
  subst e2
  replace h := zkE h
  obtain ⟨e3, h⟩ := h
  replace h := zb3E h
  rcases h with ⟨v5, G6, e4, h⟩ | ⟨X7, G8, e4, h⟩
  · refine j_cont (zrV (As := [vI x1]) msX0_29 (yX1_lengthOf_ok e4) (Nat.le_trans (Nat.le_of_ble_eq_true rfl) hd) (zk_1 _ e3) rfl rfl (Nat.le_of_ble_eq_true rfl) dX0_lengthOf_4) ?_
    refine j_i2l dX0_lengthOf_7 ?_
    replace h := zbE h
    obtain ⟨a9, e10, h⟩ := h
    subst e10
    replace h := zbE h
    obtain ⟨G11, e12, h⟩ := h
    refine j_last e12 dX0_lengthOf_8 ?_
    refine j_goto (tgt := 15) dX0_lengthOf_9 (by decide) ?_
    refine j_iconst (v := 0) dX0_lengthOf_15 (by decide) ?_
    obtain rfl := Option.some.inj h
    exact j_iret hk.1 hk.2 rfl dX0_lengthOf_16
  · refine j_thr (zrV (As := [vI x1]) msX0_29 (yX1_lengthOf_ok e4) (Nat.le_trans (Nat.le_of_ble_eq_true rfl) hd) (zk_1 _ e3) rfl rfl (Nat.le_of_ble_eq_true rfl) dX0_lengthOf_4) ?_
    by_cases c15 : X7 = "java/lang/IndexOutOfBoundsException"
    · rw [if_pos c15] at h
      subst c15
      refine jx_catch (n := 12) [] ⟨0, 9, 12, 13⟩ [] rfl (fun z hz => nomatch hz) rfl (by decide) q1669 (zxw 5 rfl) rfl (fun q14 => ?_)
      refine j_astore_n (lv' := [(3, vR (some q14)), (0, vR (some a1)), (1, vI x1), (2, vR x2)]) dX0_lengthOf_12 rfl (Nat.le_of_ble_eq_true rfl) rfl ?_
      refine j_iconst (v := 1) dX0_lengthOf_13 (by decide) ?_
      obtain rfl := Option.some.inj h
      exact j_iret hk.1 hk.2 rfl dX0_lengthOf_14
    · rw [if_neg c15] at h
      cases h
theorem yX0_lengthOf_ok {x0 : Option Nat} {x1 : Int32} {x2 : Option Nat} {G : GS} {r : Int32} {G1 : GS} (h : fX0_lengthOf_0 x0 x1 x2 G = some (r, G1)) : zRuns yX0_lengthOf (wsW_ yX0_lengthOf cX0_lengthOf 4 (some Jvm.ClassFile.FieldType.int) [(0, 9, 12, 13)]) [vR x0, vI x1, vR x2] (.inl (some (vI r)), G, G1, 11) :=
  zentryW (M := mX0_lengthOf) (by decide +kernel) ⟨rfl, rfl, rfl⟩ (Nat.le_of_ble_eq_true rfl) (wfX0_lengthOf_0 (Nat.le_refl _) x0 x1 x2 G h ⟨rfl, rfl⟩)
theorem msX0_54 : zSV RX0 54 RX1 yX1_pairCount cX1_pairCount 2 (some Jvm.ClassFile.FieldType.int) 1 := ⟨lw_V q1934 q1935 q1936 q123 q1937, (by decide +kernel), (by decide)⟩
abbrev mX0_pairCount : zM := (cX0_pairCount, RX0, 4, (some Jvm.ClassFile.FieldType.int), "pairCount", [(0, 9, 12, 13)], "(LSelahGenerator;I[J)I")
def fX0_pairCount_0 (x0 : Option Nat) (x1 : Int32) (x2 : Option Nat)  (G : GS) : Option ((Int32) × GS) :=
  x0.bind fun a1 => zk [1] G a1 <| zb3 (fX1_pairCount_0 a1 x1 G) (fun v5 G6 => x2.bind fun a9 => (zsL G6 51 a9 (0 : Int32) v5.toInt64).bind fun G11 => some (0, G11)) (fun X7 G8 => if X7 = "java/lang/IndexOutOfBoundsException" then (some (1, G8)) else none)
theorem wfX0_pairCount_0 {F : zF} (hd : 11 ≤ F.2.2.2) (x0 : Option Nat) (x1 : Int32) (x2 : Option Nat)  (G : GS) {a : (Int32) × GS} (h : fX0_pairCount_0 x0 x1 x2  G = some a) (hk : zKI F a) : J mX0_pairCount F G 0 [(0, vR x0), (1, vI x1), (2, vR x2)] [] := by
  unfold fX0_pairCount_0 at h
  refine j_aload_n (j := 2) dX0_pairCount_0 rfl rfl ?_
  refine j_iconst (v := 0) dX0_pairCount_1 (by decide) ?_
  refine j_aload_n (j := 0) dX0_pairCount_2 rfl rfl ?_
  refine j_iload_n (j := 1) dX0_pairCount_3 rfl rfl ?_
  replace h := zbE h
  obtain ⟨a1, e2, h⟩ := h
  subst e2
  replace h := zkE h
  obtain ⟨e3, h⟩ := h
  replace h := zb3E h
  rcases h with ⟨v5, G6, e4, h⟩ | ⟨X7, G8, e4, h⟩
  · refine j_cont (zrV (As := [vI x1]) msX0_54 (yX1_pairCount_ok e4) (Nat.le_trans (Nat.le_of_ble_eq_true rfl) hd) (zk_1 _ e3) rfl rfl (Nat.le_of_ble_eq_true rfl) dX0_pairCount_4) ?_
    refine j_i2l dX0_pairCount_7 ?_
    replace h := zbE h
    obtain ⟨a9, e10, h⟩ := h
    subst e10
    replace h := zbE h
    obtain ⟨G11, e12, h⟩ := h
    refine j_last e12 dX0_pairCount_8 ?_
    refine j_goto (tgt := 15) dX0_pairCount_9 (by decide) ?_
    refine j_iconst (v := 0) dX0_pairCount_15 (by decide) ?_
    obtain rfl := Option.some.inj h
    exact j_iret hk.1 hk.2 rfl dX0_pairCount_16
  · refine j_thr (zrV (As := [vI x1]) msX0_54 (yX1_pairCount_ok e4) (Nat.le_trans (Nat.le_of_ble_eq_true rfl) hd) (zk_1 _ e3) rfl rfl (Nat.le_of_ble_eq_true rfl) dX0_pairCount_4) ?_
    by_cases c15 : X7 = "java/lang/IndexOutOfBoundsException"
    · rw [if_pos c15] at h
      subst c15
      refine jx_catch (n := 12) [] ⟨0, 9, 12, 13⟩ [] rfl (fun z hz => nomatch hz) rfl (by decide) q1669 (zxw 5 rfl) rfl (fun q14 => ?_)
      refine j_astore_n (lv' := [(3, vR (some q14)), (0, vR (some a1)), (1, vI x1), (2, vR x2)]) dX0_pairCount_12 rfl (Nat.le_of_ble_eq_true rfl) rfl ?_
      refine j_iconst (v := 1) dX0_pairCount_13 (by decide) ?_
      obtain rfl := Option.some.inj h
      exact j_iret hk.1 hk.2 rfl dX0_pairCount_14
    · rw [if_neg c15] at h
      cases h
theorem yX0_pairCount_ok {x0 : Option Nat} {x1 : Int32} {x2 : Option Nat} {G : GS} {r : Int32} {G1 : GS} (h : fX0_pairCount_0 x0 x1 x2 G = some (r, G1)) : zRuns yX0_pairCount (wsW_ yX0_pairCount cX0_pairCount 4 (some Jvm.ClassFile.FieldType.int) [(0, 9, 12, 13)]) [vR x0, vI x1, vR x2] (.inl (some (vI r)), G, G1, 11) :=
  zentryW (M := mX0_pairCount) (by decide +kernel) ⟨rfl, rfl, rfl⟩ (Nat.le_of_ble_eq_true rfl) (wfX0_pairCount_0 (Nat.le_refl _) x0 x1 x2 G h ⟨rfl, rfl⟩)
theorem msX0_51 : zSV RX0 51 RX1 yX1_predicted cX1_predicted 3 (some Jvm.ClassFile.FieldType.int) 2 := ⟨lw_V q1903 q1904 q1905 q123 q1906, (by decide +kernel), (by decide)⟩
abbrev mX0_predicted : zM := (cX0_predicted, RX0, 5, (some Jvm.ClassFile.FieldType.int), "predicted", [(0, 10, 13, 13)], "(LSelahGenerator;II[J)I")
def fX0_predicted_0 (x0 : Option Nat) (x1 : Int32) (x2 : Int32) (x3 : Option Nat)  (G : GS) : Option ((Int32) × GS) :=
  x0.bind fun a1 => zk [1] G a1 <| zb3 (fX1_predicted_0 a1 x1 x2 G) (fun v5 G6 => x3.bind fun a9 => (zsL G6 51 a9 (0 : Int32) v5.toInt64).bind fun G11 => some (0, G11)) (fun X7 G8 => if X7 = "java/lang/IndexOutOfBoundsException" then (some (1, G8)) else none)
theorem wfX0_predicted_0 {F : zF} (hd : 53 ≤ F.2.2.2) (x0 : Option Nat) (x1 : Int32) (x2 : Int32) (x3 : Option Nat)  (G : GS) {a : (Int32) × GS} (h : fX0_predicted_0 x0 x1 x2 x3  G = some a) (hk : zKI F a) : J mX0_predicted F G 0 [(0, vR x0), (1, vI x1), (2, vI x2), (3, vR x3)] [] := by
  unfold fX0_predicted_0 at h
  refine j_aload_n (j := 3) dX0_predicted_0 rfl rfl ?_
  refine j_iconst (v := 0) dX0_predicted_1 (by decide) ?_
  refine j_aload_n (j := 0) dX0_predicted_2 rfl rfl ?_
  refine j_iload_n (j := 1) dX0_predicted_3 rfl rfl ?_
  refine j_iload_n (j := 2) dX0_predicted_4 rfl rfl ?_
  replace h := zbE h
  obtain ⟨a1, e2, h⟩ := h
  subst e2
  replace h := zkE h
  obtain ⟨e3, h⟩ := h
  replace h := zb3E h
  rcases h with ⟨v5, G6, e4, h⟩ | ⟨X7, G8, e4, h⟩
  · refine j_cont (zrV (As := [vI x1, vI x2]) msX0_51 (yX1_predicted_ok e4) (Nat.le_trans (Nat.le_of_ble_eq_true rfl) hd) (zk_1 _ e3) rfl rfl (Nat.le_of_ble_eq_true rfl) dX0_predicted_5) ?_
    refine j_i2l dX0_predicted_8 ?_
    replace h := zbE h
    obtain ⟨a9, e10, h⟩ := h
    subst e10
    replace h := zbE h
    obtain ⟨G11, e12, h⟩ := h
    refine j_last e12 dX0_predicted_9 ?_
    refine j_goto (tgt := 17) dX0_predicted_10 (by decide) ?_
    refine j_iconst (v := 0) dX0_predicted_17 (by decide) ?_
    obtain rfl := Option.some.inj h
    exact j_iret hk.1 hk.2 rfl dX0_predicted_18
  · refine j_thr (zrV (As := [vI x1, vI x2]) msX0_51 (yX1_predicted_ok e4) (Nat.le_trans (Nat.le_of_ble_eq_true rfl) hd) (zk_1 _ e3) rfl rfl (Nat.le_of_ble_eq_true rfl) dX0_predicted_5) ?_
    by_cases c15 : X7 = "java/lang/IndexOutOfBoundsException"
    · rw [if_pos c15] at h
      subst c15
      refine jx_catch (n := 13) [] ⟨0, 10, 13, 13⟩ [] rfl (fun z hz => nomatch hz) rfl (by decide) q1669 (zxw 5 rfl) rfl (fun q14 => ?_)
      refine j_astore (lv' := [(4, vR (some q14)), (0, vR (some a1)), (1, vI x1), (2, vI x2), (3, vR x3)]) dX0_predicted_13 (Nat.le_of_ble_eq_true rfl) rfl ?_
      refine j_iconst (v := 1) dX0_predicted_15 (by decide) ?_
      obtain rfl := Option.some.inj h
      exact j_iret hk.1 hk.2 rfl dX0_predicted_16
    · rw [if_neg c15] at h
      cases h
theorem yX0_predicted_ok {x0 : Option Nat} {x1 : Int32} {x2 : Int32} {x3 : Option Nat} {G : GS} {r : Int32} {G1 : GS} (h : fX0_predicted_0 x0 x1 x2 x3 G = some (r, G1)) : zRuns yX0_predicted (wsW_ yX0_predicted cX0_predicted 5 (some Jvm.ClassFile.FieldType.int) [(0, 10, 13, 13)]) [vR x0, vI x1, vI x2, vR x3] (.inl (some (vI r)), G, G1, 53) :=
  zentryW (M := mX0_predicted) (by decide +kernel) ⟨rfl, rfl, rfl⟩ (Nat.le_of_ble_eq_true rfl) (wfX0_predicted_0 (Nat.le_refl _) x0 x1 x2 x3 G h ⟨rfl, rfl⟩)
theorem msX0_57 : zSV RX0 57 RX1 yX1_predictedByPair cX1_predictedByPair 4 (some Jvm.ClassFile.FieldType.int) 3 := ⟨lw_V q1945 q1946 q1947 q123 q1948, (by decide +kernel), (by decide)⟩
abbrev mX0_predictedByPair : zM := (cX0_predictedByPair, RX0, 6, (some Jvm.ClassFile.FieldType.int), "predictedByPair", [(0, 12, 15, 13)], "(LSelahGenerator;III[J)I")
def fX0_predictedByPair_0 (x0 : Option Nat) (x1 : Int32) (x2 : Int32) (x3 : Int32) (x4 : Option Nat)  (G : GS) : Option ((Int32) × GS) :=
  x0.bind fun a1 => zk [1] G a1 <| zb3 (fX1_predictedByPair_0 a1 x1 x2 x3 G) (fun v5 G6 => x4.bind fun a9 => (zsL G6 51 a9 (0 : Int32) v5.toInt64).bind fun G11 => some (0, G11)) (fun X7 G8 => if X7 = "java/lang/IndexOutOfBoundsException" then (some (1, G8)) else none)
theorem wfX0_predictedByPair_0 {F : zF} (hd : 11 ≤ F.2.2.2) (x0 : Option Nat) (x1 : Int32) (x2 : Int32) (x3 : Int32) (x4 : Option Nat)  (G : GS) {a : (Int32) × GS} (h : fX0_predictedByPair_0 x0 x1 x2 x3 x4  G = some a) (hk : zKI F a) : J mX0_predictedByPair F G 0 [(0, vR x0), (1, vI x1), (2, vI x2), (3, vI x3), (4, vR x4)] [] := by
  unfold fX0_predictedByPair_0 at h
  refine j_aload (j := 4) dX0_predictedByPair_0 rfl ?_
  refine j_iconst (v := 0) dX0_predictedByPair_2 (by decide) ?_
  refine j_aload_n (j := 0) dX0_predictedByPair_3 rfl rfl ?_
  refine j_iload_n (j := 1) dX0_predictedByPair_4 rfl rfl ?_
  refine j_iload_n (j := 2) dX0_predictedByPair_5 rfl rfl ?_
  refine j_iload_n (j := 3) dX0_predictedByPair_6 rfl rfl ?_
  replace h := zbE h
  obtain ⟨a1, e2, h⟩ := h
  subst e2
  replace h := zkE h
  obtain ⟨e3, h⟩ := h
  replace h := zb3E h
  rcases h with ⟨v5, G6, e4, h⟩ | ⟨X7, G8, e4, h⟩
  · refine j_cont (zrV (As := [vI x1, vI x2, vI x3]) msX0_57 (yX1_predictedByPair_ok e4) (Nat.le_trans (Nat.le_of_ble_eq_true rfl) hd) (zk_1 _ e3) rfl rfl (Nat.le_of_ble_eq_true rfl) dX0_predictedByPair_7) ?_
    refine j_i2l dX0_predictedByPair_10 ?_
    replace h := zbE h
    obtain ⟨a9, e10, h⟩ := h
    subst e10
    replace h := zbE h
    obtain ⟨G11, e12, h⟩ := h
    refine j_last e12 dX0_predictedByPair_11 ?_
    refine j_goto (tgt := 19) dX0_predictedByPair_12 (by decide) ?_
    refine j_iconst (v := 0) dX0_predictedByPair_19 (by decide) ?_
    obtain rfl := Option.some.inj h
    exact j_iret hk.1 hk.2 rfl dX0_predictedByPair_20
  · refine j_thr (zrV (As := [vI x1, vI x2, vI x3]) msX0_57 (yX1_predictedByPair_ok e4) (Nat.le_trans (Nat.le_of_ble_eq_true rfl) hd) (zk_1 _ e3) rfl rfl (Nat.le_of_ble_eq_true rfl) dX0_predictedByPair_7) ?_
    by_cases c15 : X7 = "java/lang/IndexOutOfBoundsException"
    · rw [if_pos c15] at h
      subst c15
      refine jx_catch (n := 15) [] ⟨0, 12, 15, 13⟩ [] rfl (fun z hz => nomatch hz) rfl (by decide) q1669 (zxw 5 rfl) rfl (fun q14 => ?_)
      refine j_astore (lv' := [(5, vR (some q14)), (0, vR (some a1)), (1, vI x1), (2, vI x2), (3, vI x3), (4, vR x4)]) dX0_predictedByPair_15 (Nat.le_of_ble_eq_true rfl) rfl ?_
      refine j_iconst (v := 1) dX0_predictedByPair_17 (by decide) ?_
      obtain rfl := Option.some.inj h
      exact j_iret hk.1 hk.2 rfl dX0_predictedByPair_18
    · rw [if_neg c15] at h
      cases h
theorem yX0_predictedByPair_ok {x0 : Option Nat} {x1 : Int32} {x2 : Int32} {x3 : Int32} {x4 : Option Nat} {G : GS} {r : Int32} {G1 : GS} (h : fX0_predictedByPair_0 x0 x1 x2 x3 x4 G = some (r, G1)) : zRuns yX0_predictedByPair (wsW_ yX0_predictedByPair cX0_predictedByPair 6 (some Jvm.ClassFile.FieldType.int) [(0, 12, 15, 13)]) [vR x0, vI x1, vI x2, vI x3, vR x4] (.inl (some (vI r)), G, G1, 11) :=
  zentryW (M := mX0_predictedByPair) (by decide +kernel) ⟨rfl, rfl, rfl⟩ (Nat.le_of_ble_eq_true rfl) (wfX0_predictedByPair_0 (Nat.le_refl _) x0 x1 x2 x3 x4 G h ⟨rfl, rfl⟩)
theorem msX0_48 : zSV RX0 48 RX1 yX1_predictionOf cX1_predictionOf 2 (some Jvm.ClassFile.FieldType.int) 1 := ⟨lw_V q1896 q1897 q1898 q123 q1899, (by decide +kernel), (by decide)⟩
abbrev mX0_predictionOf : zM := (cX0_predictionOf, RX0, 4, (some Jvm.ClassFile.FieldType.int), "predictionOf", [(0, 9, 12, 13)], "(LSelahGenerator;I[J)I")
def fX0_predictionOf_0 (x0 : Option Nat) (x1 : Int32) (x2 : Option Nat)  (G : GS) : Option ((Int32) × GS) :=
  x0.bind fun a1 => zk [1] G a1 <| zb3 (fX1_predictionOf_0 a1 x1 G) (fun v5 G6 => x2.bind fun a9 => (zsL G6 51 a9 (0 : Int32) v5.toInt64).bind fun G11 => some (0, G11)) (fun X7 G8 => if X7 = "java/lang/IndexOutOfBoundsException" then (some (1, G8)) else none)
theorem wfX0_predictionOf_0 {F : zF} (hd : 53 ≤ F.2.2.2) (x0 : Option Nat) (x1 : Int32) (x2 : Option Nat)  (G : GS) {a : (Int32) × GS} (h : fX0_predictionOf_0 x0 x1 x2  G = some a) (hk : zKI F a) : J mX0_predictionOf F G 0 [(0, vR x0), (1, vI x1), (2, vR x2)] [] := by
  unfold fX0_predictionOf_0 at h
  refine j_aload_n (j := 2) dX0_predictionOf_0 rfl rfl ?_
  refine j_iconst (v := 0) dX0_predictionOf_1 (by decide) ?_
  refine j_aload_n (j := 0) dX0_predictionOf_2 rfl rfl ?_
  refine j_iload_n (j := 1) dX0_predictionOf_3 rfl rfl ?_
  replace h := zbE h
  obtain ⟨a1, e2, h⟩ := h
  subst e2
  replace h := zkE h
  obtain ⟨e3, h⟩ := h
  replace h := zb3E h
  rcases h with ⟨v5, G6, e4, h⟩ | ⟨X7, G8, e4, h⟩
  · refine j_cont (zrV (As := [vI x1]) msX0_48 (yX1_predictionOf_ok e4) (Nat.le_trans (Nat.le_of_ble_eq_true rfl) hd) (zk_1 _ e3) rfl rfl (Nat.le_of_ble_eq_true rfl) dX0_predictionOf_4) ?_
    refine j_i2l dX0_predictionOf_7 ?_
    replace h := zbE h
    obtain ⟨a9, e10, h⟩ := h
    subst e10
    replace h := zbE h
    obtain ⟨G11, e12, h⟩ := h
    refine j_last e12 dX0_predictionOf_8 ?_
    refine j_goto (tgt := 15) dX0_predictionOf_9 (by decide) ?_
    refine j_iconst (v := 0) dX0_predictionOf_15 (by decide) ?_
    obtain rfl := Option.some.inj h
    exact j_iret hk.1 hk.2 rfl dX0_predictionOf_16
  · refine j_thr (zrV (As := [vI x1]) msX0_48 (yX1_predictionOf_ok e4) (Nat.le_trans (Nat.le_of_ble_eq_true rfl) hd) (zk_1 _ e3) rfl rfl (Nat.le_of_ble_eq_true rfl) dX0_predictionOf_4) ?_
    by_cases c15 : X7 = "java/lang/IndexOutOfBoundsException"
    · rw [if_pos c15] at h
      subst c15
      refine jx_catch (n := 12) [] ⟨0, 9, 12, 13⟩ [] rfl (fun z hz => nomatch hz) rfl (by decide) q1669 (zxw 5 rfl) rfl (fun q14 => ?_)
      refine j_astore_n (lv' := [(3, vR (some q14)), (0, vR (some a1)), (1, vI x1), (2, vR x2)]) dX0_predictionOf_12 rfl (Nat.le_of_ble_eq_true rfl) rfl ?_
      refine j_iconst (v := 1) dX0_predictionOf_13 (by decide) ?_
      obtain rfl := Option.some.inj h
      exact j_iret hk.1 hk.2 rfl dX0_predictionOf_14
    · rw [if_neg c15] at h
      cases h
theorem yX0_predictionOf_ok {x0 : Option Nat} {x1 : Int32} {x2 : Option Nat} {G : GS} {r : Int32} {G1 : GS} (h : fX0_predictionOf_0 x0 x1 x2 G = some (r, G1)) : zRuns yX0_predictionOf (wsW_ yX0_predictionOf cX0_predictionOf 4 (some Jvm.ClassFile.FieldType.int) [(0, 9, 12, 13)]) [vR x0, vI x1, vR x2] (.inl (some (vI r)), G, G1, 53) :=
  zentryW (M := mX0_predictionOf) (by decide +kernel) ⟨rfl, rfl, rfl⟩ (Nat.le_of_ble_eq_true rfl) (wfX0_predictionOf_0 (Nat.le_refl _) x0 x1 x2 G h ⟨rfl, rfl⟩)
theorem msX0_64 : zSVW RX0 64 RX1 yX1_removeLeftRecursion cX1_removeLeftRecursion 3 (some Jvm.ClassFile.FieldType.int) [(12, 16, 19, 183)] 0 := ⟨lw_VW q1964 q1965 q1966 q123 q1967, (by decide +kernel), (by decide)⟩
abbrev mX0_removeLeftRecursion : zM := (cX0_removeLeftRecursion, RX0, 3, (some Jvm.ClassFile.FieldType.int), "removeLeftRecursion", [(0, 8, 11, 15)], "(LSelahGenerator;[J)I")
def fX0_removeLeftRecursion_0 (x0 : Option Nat) (x1 : Option Nat)  (G : GS) : Option ((Int32) × GS) :=
  x0.bind fun a1 => zk [1] G a1 <| zb3 (fX1_removeLeftRecursion_0 a1 G) (fun v5 G6 => x1.bind fun a9 => (zsL G6 51 a9 (0 : Int32) v5.toInt64).bind fun G11 => some (0, G11)) (fun X7 G8 => if X7 = "java/lang/IllegalStateException" then (some (1, G8)) else none)
theorem wfX0_removeLeftRecursion_0 {F : zF} (hd : 24 ≤ F.2.2.2) (x0 : Option Nat) (x1 : Option Nat)  (G : GS) {a : (Int32) × GS} (h : fX0_removeLeftRecursion_0 x0 x1  G = some a) (hk : zKI F a) : J mX0_removeLeftRecursion F G 0 [(0, vR x0), (1, vR x1)] [] := by
  unfold fX0_removeLeftRecursion_0 at h
  refine j_aload_n (j := 1) dX0_removeLeftRecursion_0 rfl rfl ?_
  refine j_iconst (v := 0) dX0_removeLeftRecursion_1 (by decide) ?_
  refine j_aload_n (j := 0) dX0_removeLeftRecursion_2 rfl rfl ?_
  replace h := zbE h
  obtain ⟨a1, e2, h⟩ := h
  subst e2
  replace h := zkE h
  obtain ⟨e3, h⟩ := h
  replace h := zb3E h
  rcases h with ⟨v5, G6, e4, h⟩ | ⟨X7, G8, e4, h⟩
  · refine j_cont (zrVW (As := []) msX0_64 (yX1_removeLeftRecursion_ok e4) (Nat.le_trans (Nat.le_of_ble_eq_true rfl) hd) (zk_1 _ e3) rfl rfl (Nat.le_of_ble_eq_true rfl) dX0_removeLeftRecursion_3) ?_
    refine j_i2l dX0_removeLeftRecursion_6 ?_
    replace h := zbE h
    obtain ⟨a9, e10, h⟩ := h
    subst e10
    replace h := zbE h
    obtain ⟨G11, e12, h⟩ := h
    refine j_last e12 dX0_removeLeftRecursion_7 ?_
    refine j_goto (tgt := 14) dX0_removeLeftRecursion_8 (by decide) ?_
    refine j_iconst (v := 0) dX0_removeLeftRecursion_14 (by decide) ?_
    obtain rfl := Option.some.inj h
    exact j_iret hk.1 hk.2 rfl dX0_removeLeftRecursion_15
  · refine j_thr (zrVW (As := []) msX0_64 (yX1_removeLeftRecursion_ok e4) (Nat.le_trans (Nat.le_of_ble_eq_true rfl) hd) (zk_1 _ e3) rfl rfl (Nat.le_of_ble_eq_true rfl) dX0_removeLeftRecursion_3) ?_
    by_cases c15 : X7 = "java/lang/IllegalStateException"
    · rw [if_pos c15] at h
      subst c15
      refine jx_catch (n := 11) [] ⟨0, 8, 11, 15⟩ [] rfl (fun z hz => nomatch hz) rfl (by decide) q1701 (zxw 10 rfl) rfl (fun q14 => ?_)
      refine j_astore_n (lv' := [(2, vR (some q14)), (0, vR (some a1)), (1, vR x1)]) dX0_removeLeftRecursion_11 rfl (Nat.le_of_ble_eq_true rfl) rfl ?_
      refine j_iconst (v := 1) dX0_removeLeftRecursion_12 (by decide) ?_
      obtain rfl := Option.some.inj h
      exact j_iret hk.1 hk.2 rfl dX0_removeLeftRecursion_13
    · rw [if_neg c15] at h
      cases h
theorem yX0_removeLeftRecursion_ok {x0 : Option Nat} {x1 : Option Nat} {G : GS} {r : Int32} {G1 : GS} (h : fX0_removeLeftRecursion_0 x0 x1 G = some (r, G1)) : zRuns yX0_removeLeftRecursion (wsW_ yX0_removeLeftRecursion cX0_removeLeftRecursion 3 (some Jvm.ClassFile.FieldType.int) [(0, 8, 11, 15)]) [vR x0, vR x1] (.inl (some (vI r)), G, G1, 24) :=
  zentryW (M := mX0_removeLeftRecursion) (by decide +kernel) ⟨rfl, rfl, rfl⟩ (Nat.le_of_ble_eq_true rfl) (wfX0_removeLeftRecursion_0 (Nat.le_refl _) x0 x1 G h ⟨rfl, rfl⟩)
theorem msX0_23 : zSV RX0 23 RX1 yX1_removeRule cX1_removeRule 3 (some Jvm.ClassFile.FieldType.int) 1 := ⟨lw_V q1825 q1826 q1827 q123 q1828, (by decide +kernel), (by decide)⟩
abbrev mX0_removeRule : zM := (cX0_removeRule, RX0, 4, (some Jvm.ClassFile.FieldType.int), "removeRule", [(0, 9, 12, 13)], "(LSelahGenerator;I[J)I")
def fX0_removeRule_0 (x0 : Option Nat) (x1 : Int32) (x2 : Option Nat)  (G : GS) : Option ((Int32) × GS) :=
  x0.bind fun a1 => zk [1] G a1 <| zb3 (fX1_removeRule_0 a1 x1 G) (fun v5 G6 => x2.bind fun a9 => (zsL G6 51 a9 (0 : Int32) v5.toInt64).bind fun G11 => some (0, G11)) (fun X7 G8 => if X7 = "java/lang/IndexOutOfBoundsException" then (some (1, G8)) else none)
theorem wfX0_removeRule_0 {F : zF} (hd : 10 ≤ F.2.2.2) (x0 : Option Nat) (x1 : Int32) (x2 : Option Nat)  (G : GS) {a : (Int32) × GS} (h : fX0_removeRule_0 x0 x1 x2  G = some a) (hk : zKI F a) : J mX0_removeRule F G 0 [(0, vR x0), (1, vI x1), (2, vR x2)] [] := by
  unfold fX0_removeRule_0 at h
  refine j_aload_n (j := 2) dX0_removeRule_0 rfl rfl ?_
  refine j_iconst (v := 0) dX0_removeRule_1 (by decide) ?_
  refine j_aload_n (j := 0) dX0_removeRule_2 rfl rfl ?_
  refine j_iload_n (j := 1) dX0_removeRule_3 rfl rfl ?_
  replace h := zbE h
  obtain ⟨a1, e2, h⟩ := h
  subst e2
  replace h := zkE h
  obtain ⟨e3, h⟩ := h
  replace h := zb3E h
  rcases h with ⟨v5, G6, e4, h⟩ | ⟨X7, G8, e4, h⟩
  · refine j_cont (zrV (As := [vI x1]) msX0_23 (yX1_removeRule_ok e4) (Nat.le_trans (Nat.le_of_ble_eq_true rfl) hd) (zk_1 _ e3) rfl rfl (Nat.le_of_ble_eq_true rfl) dX0_removeRule_4) ?_
    refine j_i2l dX0_removeRule_7 ?_
    replace h := zbE h
    obtain ⟨a9, e10, h⟩ := h
    subst e10
    replace h := zbE h
    obtain ⟨G11, e12, h⟩ := h
    refine j_last e12 dX0_removeRule_8 ?_
    refine j_goto (tgt := 15) dX0_removeRule_9 (by decide) ?_
    refine j_iconst (v := 0) dX0_removeRule_15 (by decide) ?_
    obtain rfl := Option.some.inj h
    exact j_iret hk.1 hk.2 rfl dX0_removeRule_16
  · refine j_thr (zrV (As := [vI x1]) msX0_23 (yX1_removeRule_ok e4) (Nat.le_trans (Nat.le_of_ble_eq_true rfl) hd) (zk_1 _ e3) rfl rfl (Nat.le_of_ble_eq_true rfl) dX0_removeRule_4) ?_
    by_cases c15 : X7 = "java/lang/IndexOutOfBoundsException"
    · rw [if_pos c15] at h
      subst c15
      refine jx_catch (n := 12) [] ⟨0, 9, 12, 13⟩ [] rfl (fun z hz => nomatch hz) rfl (by decide) q1669 (zxw 5 rfl) rfl (fun q14 => ?_)
      refine j_astore_n (lv' := [(3, vR (some q14)), (0, vR (some a1)), (1, vI x1), (2, vR x2)]) dX0_removeRule_12 rfl (Nat.le_of_ble_eq_true rfl) rfl ?_
      refine j_iconst (v := 1) dX0_removeRule_13 (by decide) ?_
      obtain rfl := Option.some.inj h
      exact j_iret hk.1 hk.2 rfl dX0_removeRule_14
    · rw [if_neg c15] at h
      cases h
theorem yX0_removeRule_ok {x0 : Option Nat} {x1 : Int32} {x2 : Option Nat} {G : GS} {r : Int32} {G1 : GS} (h : fX0_removeRule_0 x0 x1 x2 G = some (r, G1)) : zRuns yX0_removeRule (wsW_ yX0_removeRule cX0_removeRule 4 (some Jvm.ClassFile.FieldType.int) [(0, 9, 12, 13)]) [vR x0, vI x1, vR x2] (.inl (some (vI r)), G, G1, 10) :=
  zentryW (M := mX0_removeRule) (by decide +kernel) ⟨rfl, rfl, rfl⟩ (Nat.le_of_ble_eq_true rfl) (wfX0_removeRule_0 (Nat.le_refl _) x0 x1 x2 G h ⟨rfl, rfl⟩)
theorem msX0_45 : zSV RX0 45 RX1 yX1_shortestOf cX1_shortestOf 2 (some Jvm.ClassFile.FieldType.int) 1 := ⟨lw_V q1889 q1890 q1891 q123 q1892, (by decide +kernel), (by decide)⟩
abbrev mX0_shortestOf : zM := (cX0_shortestOf, RX0, 4, (some Jvm.ClassFile.FieldType.int), "shortestOf", [(0, 9, 12, 13)], "(LSelahGenerator;I[J)I")
def fX0_shortestOf_0 (x0 : Option Nat) (x1 : Int32) (x2 : Option Nat)  (G : GS) : Option ((Int32) × GS) :=
  x0.bind fun a1 => zk [1] G a1 <| zb3 (fX1_shortestOf_0 a1 x1 G) (fun v5 G6 => x2.bind fun a9 => (zsL G6 51 a9 (0 : Int32) v5.toInt64).bind fun G11 => some (0, G11)) (fun X7 G8 => if X7 = "java/lang/IndexOutOfBoundsException" then (some (1, G8)) else none)
theorem wfX0_shortestOf_0 {F : zF} (hd : 53 ≤ F.2.2.2) (x0 : Option Nat) (x1 : Int32) (x2 : Option Nat)  (G : GS) {a : (Int32) × GS} (h : fX0_shortestOf_0 x0 x1 x2  G = some a) (hk : zKI F a) : J mX0_shortestOf F G 0 [(0, vR x0), (1, vI x1), (2, vR x2)] [] := by
  unfold fX0_shortestOf_0 at h
  refine j_aload_n (j := 2) dX0_shortestOf_0 rfl rfl ?_
  refine j_iconst (v := 0) dX0_shortestOf_1 (by decide) ?_
  refine j_aload_n (j := 0) dX0_shortestOf_2 rfl rfl ?_
  refine j_iload_n (j := 1) dX0_shortestOf_3 rfl rfl ?_
  replace h := zbE h
  obtain ⟨a1, e2, h⟩ := h
  subst e2
  replace h := zkE h
  obtain ⟨e3, h⟩ := h
  replace h := zb3E h
  rcases h with ⟨v5, G6, e4, h⟩ | ⟨X7, G8, e4, h⟩
  · refine j_cont (zrV (As := [vI x1]) msX0_45 (yX1_shortestOf_ok e4) (Nat.le_trans (Nat.le_of_ble_eq_true rfl) hd) (zk_1 _ e3) rfl rfl (Nat.le_of_ble_eq_true rfl) dX0_shortestOf_4) ?_
    refine j_i2l dX0_shortestOf_7 ?_
    replace h := zbE h
    obtain ⟨a9, e10, h⟩ := h
    subst e10
    replace h := zbE h
    obtain ⟨G11, e12, h⟩ := h
    refine j_last e12 dX0_shortestOf_8 ?_
    refine j_goto (tgt := 15) dX0_shortestOf_9 (by decide) ?_
    refine j_iconst (v := 0) dX0_shortestOf_15 (by decide) ?_
    obtain rfl := Option.some.inj h
    exact j_iret hk.1 hk.2 rfl dX0_shortestOf_16
  · refine j_thr (zrV (As := [vI x1]) msX0_45 (yX1_shortestOf_ok e4) (Nat.le_trans (Nat.le_of_ble_eq_true rfl) hd) (zk_1 _ e3) rfl rfl (Nat.le_of_ble_eq_true rfl) dX0_shortestOf_4) ?_
    by_cases c15 : X7 = "java/lang/IndexOutOfBoundsException"
    · rw [if_pos c15] at h
      subst c15
      refine jx_catch (n := 12) [] ⟨0, 9, 12, 13⟩ [] rfl (fun z hz => nomatch hz) rfl (by decide) q1669 (zxw 5 rfl) rfl (fun q14 => ?_)
      refine j_astore_n (lv' := [(3, vR (some q14)), (0, vR (some a1)), (1, vI x1), (2, vR x2)]) dX0_shortestOf_12 rfl (Nat.le_of_ble_eq_true rfl) rfl ?_
      refine j_iconst (v := 1) dX0_shortestOf_13 (by decide) ?_
      obtain rfl := Option.some.inj h
      exact j_iret hk.1 hk.2 rfl dX0_shortestOf_14
    · rw [if_neg c15] at h
      cases h
theorem yX0_shortestOf_ok {x0 : Option Nat} {x1 : Int32} {x2 : Option Nat} {G : GS} {r : Int32} {G1 : GS} (h : fX0_shortestOf_0 x0 x1 x2 G = some (r, G1)) : zRuns yX0_shortestOf (wsW_ yX0_shortestOf cX0_shortestOf 4 (some Jvm.ClassFile.FieldType.int) [(0, 9, 12, 13)]) [vR x0, vI x1, vR x2] (.inl (some (vI r)), G, G1, 53) :=
  zentryW (M := mX0_shortestOf) (by decide +kernel) ⟨rfl, rfl, rfl⟩ (Nat.le_of_ble_eq_true rfl) (wfX0_shortestOf_0 (Nat.le_refl _) x0 x1 x2 G h ⟨rfl, rfl⟩)
theorem msX0_71 : zSV RX0 71 RX1 yX1_start cX1_start 2 (some Jvm.ClassFile.FieldType.int) 1 := ⟨lw_V q2404 q2405 q2406 q123 q2407, (by decide +kernel), (by decide)⟩
abbrev mX0_start : zM := (cX0_start, RX0, 4, (some Jvm.ClassFile.FieldType.int), "start", [(0, 9, 12, 21), (0, 9, 15, 15)], "(LSelahGenerator;I[J)I")
def fX0_start_0 (x0 : Option Nat) (x1 : Int32) (x2 : Option Nat)  (G : GS) : Option ((Int32) × GS) :=
  x0.bind fun a1 => zk [1] G a1 <| zb3 (fX1_start_0 a1 x1 G) (fun v5 G6 => x2.bind fun a9 => (zsL G6 51 a9 (0 : Int32) v5.toInt64).bind fun G11 => some (0, G11)) (fun X7 G8 => if X7 = "java/lang/IllegalArgumentException" then (some (1, G8)) else (if X7 = "java/lang/IllegalStateException" then (some (2, G8)) else none))
theorem wfX0_start_0 {F : zF} (hd : 54 ≤ F.2.2.2) (x0 : Option Nat) (x1 : Int32) (x2 : Option Nat)  (G : GS) {a : (Int32) × GS} (h : fX0_start_0 x0 x1 x2  G = some a) (hk : zKI F a) : J mX0_start F G 0 [(0, vR x0), (1, vI x1), (2, vR x2)] [] := by
  unfold fX0_start_0 at h
  refine j_aload_n (j := 2) dX0_start_0 rfl rfl ?_
  refine j_iconst (v := 0) dX0_start_1 (by decide) ?_
  refine j_aload_n (j := 0) dX0_start_2 rfl rfl ?_
  refine j_iload_n (j := 1) dX0_start_3 rfl rfl ?_
  replace h := zbE h
  obtain ⟨a1, e2, h⟩ := h
  subst e2
  replace h := zkE h
  obtain ⟨e3, h⟩ := h
  replace h := zb3E h
  rcases h with ⟨v5, G6, e4, h⟩ | ⟨X7, G8, e4, h⟩
  · refine j_cont (zrV (As := [vI x1]) msX0_71 (yX1_start_ok e4) (Nat.le_trans (Nat.le_of_ble_eq_true rfl) hd) (zk_1 _ e3) rfl rfl (Nat.le_of_ble_eq_true rfl) dX0_start_4) ?_
    refine j_i2l dX0_start_7 ?_
    replace h := zbE h
    obtain ⟨a9, e10, h⟩ := h
    subst e10
    replace h := zbE h
    obtain ⟨G11, e12, h⟩ := h
    refine j_last e12 dX0_start_8 ?_
    refine j_goto (tgt := 18) dX0_start_9 (by decide) ?_
    refine j_iconst (v := 0) dX0_start_18 (by decide) ?_
    obtain rfl := Option.some.inj h
    exact j_iret hk.1 hk.2 rfl dX0_start_19
  · refine j_thr (zrV (As := [vI x1]) msX0_71 (yX1_start_ok e4) (Nat.le_trans (Nat.le_of_ble_eq_true rfl) hd) (zk_1 _ e3) rfl rfl (Nat.le_of_ble_eq_true rfl) dX0_start_4) ?_
    by_cases c17 : X7 = "java/lang/IllegalArgumentException"
    · rw [if_pos c17] at h
      subst c17
      refine jx_catch (n := 12) [] ⟨0, 9, 12, 21⟩ [⟨0, 9, 15, 15⟩] rfl (fun z hz => nomatch hz) rfl (by decide) q1783 (zxw 12 rfl) rfl (fun q16 => ?_)
      refine j_astore_n (lv' := [(3, vR (some q16)), (0, vR (some a1)), (1, vI x1), (2, vR x2)]) dX0_start_12 rfl (Nat.le_of_ble_eq_true rfl) rfl ?_
      refine j_iconst (v := 1) dX0_start_13 (by decide) ?_
      obtain rfl := Option.some.inj h
      exact j_iret hk.1 hk.2 rfl dX0_start_14
    · rw [if_neg c17] at h
      by_cases c15 : X7 = "java/lang/IllegalStateException"
      · rw [if_pos c15] at h
        subst c15
        refine jx_catch (n := 15) [⟨0, 9, 12, 21⟩] ⟨0, 9, 15, 15⟩ [] rfl (fun z hz => by
    simp only [List.mem_cons, List.not_mem_nil, or_false] at hz
    subst hz
    · exact Or.inr ⟨by decide, _, q1783, by simp [zncs]⟩) rfl (by decide) q1701 (zxw 10 rfl) rfl (fun q14 => ?_)
        refine j_astore_n (lv' := [(3, vR (some q14)), (0, vR (some a1)), (1, vI x1), (2, vR x2)]) dX0_start_15 rfl (Nat.le_of_ble_eq_true rfl) rfl ?_
        refine j_iconst (v := 2) dX0_start_16 (by decide) ?_
        obtain rfl := Option.some.inj h
        exact j_iret hk.1 hk.2 rfl dX0_start_17
      · rw [if_neg c15] at h
        cases h
theorem yX0_start_ok {x0 : Option Nat} {x1 : Int32} {x2 : Option Nat} {G : GS} {r : Int32} {G1 : GS} (h : fX0_start_0 x0 x1 x2 G = some (r, G1)) : zRuns yX0_start (wsW_ yX0_start cX0_start 4 (some Jvm.ClassFile.FieldType.int) [(0, 9, 12, 21), (0, 9, 15, 15)]) [vR x0, vI x1, vR x2] (.inl (some (vI r)), G, G1, 54) :=
  zentryW (M := mX0_start) (by decide +kernel) ⟨rfl, rfl, rfl⟩ (Nat.le_of_ble_eq_true rfl) (wfX0_start_0 (Nat.le_refl _) x0 x1 x2 G h ⟨rfl, rfl⟩)
theorem msX0_32 : zSV RX0 32 RX1 yX1_symbolAt cX1_symbolAt 4 (some Jvm.ClassFile.FieldType.int) 2 := ⟨lw_V q1860 q1861 q1862 q123 q1863, (by decide +kernel), (by decide)⟩
abbrev mX0_symbolAt : zM := (cX0_symbolAt, RX0, 5, (some Jvm.ClassFile.FieldType.int), "symbolAt", [(0, 10, 13, 13)], "(LSelahGenerator;II[J)I")
def fX0_symbolAt_0 (x0 : Option Nat) (x1 : Int32) (x2 : Int32) (x3 : Option Nat)  (G : GS) : Option ((Int32) × GS) :=
  x0.bind fun a1 => zk [1] G a1 <| zb3 (fX1_symbolAt_0 a1 x1 x2 G) (fun v5 G6 => x3.bind fun a9 => (zsL G6 51 a9 (0 : Int32) v5.toInt64).bind fun G11 => some (0, G11)) (fun X7 G8 => if X7 = "java/lang/IndexOutOfBoundsException" then (some (1, G8)) else none)
theorem wfX0_symbolAt_0 {F : zF} (hd : 11 ≤ F.2.2.2) (x0 : Option Nat) (x1 : Int32) (x2 : Int32) (x3 : Option Nat)  (G : GS) {a : (Int32) × GS} (h : fX0_symbolAt_0 x0 x1 x2 x3  G = some a) (hk : zKI F a) : J mX0_symbolAt F G 0 [(0, vR x0), (1, vI x1), (2, vI x2), (3, vR x3)] [] := by
  unfold fX0_symbolAt_0 at h
  refine j_aload_n (j := 3) dX0_symbolAt_0 rfl rfl ?_
  refine j_iconst (v := 0) dX0_symbolAt_1 (by decide) ?_
  refine j_aload_n (j := 0) dX0_symbolAt_2 rfl rfl ?_
  refine j_iload_n (j := 1) dX0_symbolAt_3 rfl rfl ?_
  refine j_iload_n (j := 2) dX0_symbolAt_4 rfl rfl ?_
  replace h := zbE h
  obtain ⟨a1, e2, h⟩ := h
  subst e2
  replace h := zkE h
  obtain ⟨e3, h⟩ := h
  replace h := zb3E h
  rcases h with ⟨v5, G6, e4, h⟩ | ⟨X7, G8, e4, h⟩
  · refine j_cont (zrV (As := [vI x1, vI x2]) msX0_32 (yX1_symbolAt_ok e4) (Nat.le_trans (Nat.le_of_ble_eq_true rfl) hd) (zk_1 _ e3) rfl rfl (Nat.le_of_ble_eq_true rfl) dX0_symbolAt_5) ?_
    refine j_i2l dX0_symbolAt_8 ?_
    replace h := zbE h
    obtain ⟨a9, e10, h⟩ := h
    subst e10
    replace h := zbE h
    obtain ⟨G11, e12, h⟩ := h
    refine j_last e12 dX0_symbolAt_9 ?_
    refine j_goto (tgt := 17) dX0_symbolAt_10 (by decide) ?_
    refine j_iconst (v := 0) dX0_symbolAt_17 (by decide) ?_
    obtain rfl := Option.some.inj h
    exact j_iret hk.1 hk.2 rfl dX0_symbolAt_18
  · refine j_thr (zrV (As := [vI x1, vI x2]) msX0_32 (yX1_symbolAt_ok e4) (Nat.le_trans (Nat.le_of_ble_eq_true rfl) hd) (zk_1 _ e3) rfl rfl (Nat.le_of_ble_eq_true rfl) dX0_symbolAt_5) ?_
    by_cases c15 : X7 = "java/lang/IndexOutOfBoundsException"
    · rw [if_pos c15] at h
      subst c15
      refine jx_catch (n := 13) [] ⟨0, 10, 13, 13⟩ [] rfl (fun z hz => nomatch hz) rfl (by decide) q1669 (zxw 5 rfl) rfl (fun q14 => ?_)
      refine j_astore (lv' := [(4, vR (some q14)), (0, vR (some a1)), (1, vI x1), (2, vI x2), (3, vR x3)]) dX0_symbolAt_13 (Nat.le_of_ble_eq_true rfl) rfl ?_
      refine j_iconst (v := 1) dX0_symbolAt_15 (by decide) ?_
      obtain rfl := Option.some.inj h
      exact j_iret hk.1 hk.2 rfl dX0_symbolAt_16
    · rw [if_neg c15] at h
      cases h
theorem yX0_symbolAt_ok {x0 : Option Nat} {x1 : Int32} {x2 : Int32} {x3 : Option Nat} {G : GS} {r : Int32} {G1 : GS} (h : fX0_symbolAt_0 x0 x1 x2 x3 G = some (r, G1)) : zRuns yX0_symbolAt (wsW_ yX0_symbolAt cX0_symbolAt 5 (some Jvm.ClassFile.FieldType.int) [(0, 10, 13, 13)]) [vR x0, vI x1, vI x2, vR x3] (.inl (some (vI r)), G, G1, 11) :=
  zentryW (M := mX0_symbolAt) (by decide +kernel) ⟨rfl, rfl, rfl⟩ (Nat.le_of_ble_eq_true rfl) (wfX0_symbolAt_0 (Nat.le_refl _) x0 x1 x2 x3 G h ⟨rfl, rfl⟩)
theorem msX0_83 : zSV RX0 83 RX1 yX1_wasSkipped cX1_wasSkipped 2 (some Jvm.ClassFile.FieldType.boolean) 1 := ⟨lw_V q2579 q2580 q2581 q123 q2582, (by decide +kernel), (by decide)⟩
abbrev mX0_wasSkipped : zM := (cX0_wasSkipped, RX0, 4, (some Jvm.ClassFile.FieldType.int), "wasSkipped", [(0, 16, 19, 13)], "(LSelahGenerator;I[J)I")
def fX0_wasSkipped_15  (s0 : Option Nat) (s1 : Int32) (s2 : Int64) (G : GS) : Option ((Int32) × GS) :=
  s0.bind fun a1 => (zsL G 51 a1 s1 s2).bind fun G3 => some (0, G3)
theorem wfX0_wasSkipped_15 {F : zF} (hd : 10 ≤ F.2.2.2)  (s0 : Option Nat) (s1 : Int32) (s2 : Int64) (G : GS) {a : (Int32) × GS} (h : fX0_wasSkipped_15  s0 s1 s2 G = some a) (hk : zKI F a) : J mX0_wasSkipped F G 15 [] [vL s2, vI s1, vR s0] := by
  unfold fX0_wasSkipped_15 at h
  replace h := zbE h
  obtain ⟨a1, e2, h⟩ := h
  subst e2
  replace h := zbE h
  obtain ⟨G3, e4, h⟩ := h
  refine j_last e4 dX0_wasSkipped_15 ?_
  refine j_goto (tgt := 22) dX0_wasSkipped_16 (by decide) ?_
  refine j_iconst (v := 0) dX0_wasSkipped_22 (by decide) ?_
  obtain rfl := Option.some.inj h
  exact j_iret hk.1 hk.2 rfl dX0_wasSkipped_23
def fX0_wasSkipped_0 (x0 : Option Nat) (x1 : Int32) (x2 : Option Nat)  (G : GS) : Option ((Int32) × GS) :=
  x0.bind fun a1 => zk [1] G a1 <| zb3 (fX1_wasSkipped_0 a1 x1 G) (fun v5 G6 => if v5 = 0 then (fX0_wasSkipped_15 x2 0 0 G6) else (fX0_wasSkipped_15 x2 0 1 G6)) (fun X7 G8 => if X7 = "java/lang/IndexOutOfBoundsException" then (some (1, G8)) else none)
theorem wfX0_wasSkipped_0 {F : zF} (hd : 10 ≤ F.2.2.2) (x0 : Option Nat) (x1 : Int32) (x2 : Option Nat)  (G : GS) {a : (Int32) × GS} (h : fX0_wasSkipped_0 x0 x1 x2  G = some a) (hk : zKI F a) : J mX0_wasSkipped F G 0 [(0, vR x0), (1, vI x1), (2, vR x2)] [] := by
  unfold fX0_wasSkipped_0 at h
  refine j_aload_n (j := 2) dX0_wasSkipped_0 rfl rfl ?_
  refine j_iconst (v := 0) dX0_wasSkipped_1 (by decide) ?_
  refine j_aload_n (j := 0) dX0_wasSkipped_2 rfl rfl ?_
  refine j_iload_n (j := 1) dX0_wasSkipped_3 rfl rfl ?_
  replace h := zbE h
  obtain ⟨a1, e2, h⟩ := h
  subst e2
  replace h := zkE h
  obtain ⟨e3, h⟩ := h
  replace h := zb3E h
  rcases h with ⟨v5, G6, e4, h⟩ | ⟨X7, G8, e4, h⟩
  · refine j_cont (zrV (As := [vI x1]) msX0_83 (yX1_wasSkipped_ok e4) (Nat.le_trans (Nat.le_of_ble_eq_true rfl) hd) (zk_1 _ e3) rfl rfl (Nat.le_of_ble_eq_true rfl) dX0_wasSkipped_4) ?_
    refine j_if_eq (tgt := 14) dX0_wasSkipped_7 (by decide) (fun c9 => ?_) (fun c9 => ?_)
    · rw [if_pos c9] at h
      refine j_lconst (v := 0) dX0_wasSkipped_14 rfl ?_
      exact J.sub (zall [] rfl) (wfX0_wasSkipped_15 hd  x2 0 0 G6 h hk)
    · rw [if_neg c9] at h
      refine j_lconst (v := 1) dX0_wasSkipped_10 rfl ?_
      refine j_goto (tgt := 15) dX0_wasSkipped_11 (by decide) ?_
      exact J.sub (zall [] rfl) (wfX0_wasSkipped_15 hd  x2 0 1 G6 h hk)
  · refine j_thr (zrV (As := [vI x1]) msX0_83 (yX1_wasSkipped_ok e4) (Nat.le_trans (Nat.le_of_ble_eq_true rfl) hd) (zk_1 _ e3) rfl rfl (Nat.le_of_ble_eq_true rfl) dX0_wasSkipped_4) ?_
    by_cases c12 : X7 = "java/lang/IndexOutOfBoundsException"
    · rw [if_pos c12] at h
      subst c12
      refine jx_catch (n := 19) [] ⟨0, 16, 19, 13⟩ [] rfl (fun z hz => nomatch hz) rfl (by decide) q1669 (zxw 5 rfl) rfl (fun q11 => ?_)
      refine j_astore_n (lv' := [(3, vR (some q11)), (0, vR (some a1)), (1, vI x1), (2, vR x2)]) dX0_wasSkipped_19 rfl (Nat.le_of_ble_eq_true rfl) rfl ?_
      refine j_iconst (v := 1) dX0_wasSkipped_20 (by decide) ?_
      obtain rfl := Option.some.inj h
      exact j_iret hk.1 hk.2 rfl dX0_wasSkipped_21
    · rw [if_neg c12] at h
      cases h
theorem yX0_wasSkipped_ok {x0 : Option Nat} {x1 : Int32} {x2 : Option Nat} {G : GS} {r : Int32} {G1 : GS} (h : fX0_wasSkipped_0 x0 x1 x2 G = some (r, G1)) : zRuns yX0_wasSkipped (wsW_ yX0_wasSkipped cX0_wasSkipped 4 (some Jvm.ClassFile.FieldType.int) [(0, 16, 19, 13)]) [vR x0, vI x1, vR x2] (.inl (some (vI r)), G, G1, 10) :=
  zentryW (M := mX0_wasSkipped) (by decide +kernel) ⟨rfl, rfl, rfl⟩ (Nat.le_of_ble_eq_true rfl) (wfX0_wasSkipped_0 (Nat.le_refl _) x0 x1 x2 G h ⟨rfl, rfl⟩)
theorem msX0_89 : zSV RX0 89 RX1 yX1_writeRule cX1_writeRule 7 (some Jvm.ClassFile.FieldType.int) 1 := ⟨lw_V q2590 q2591 q2592 q123 q2593, (by decide +kernel), (by decide)⟩
abbrev mX0_writeRule : zM := (cX0_writeRule, RX0, 4, (some Jvm.ClassFile.FieldType.int), "writeRule", [(0, 9, 12, 13)], "(LSelahGenerator;I[J)I")
def fX0_writeRule_0 (x0 : Option Nat) (x1 : Int32) (x2 : Option Nat)  (G : GS) : Option ((Int32) × GS) :=
  x0.bind fun a1 => zk [1] G a1 <| zb3 (fX1_writeRule_0 a1 x1 G) (fun v5 G6 => x2.bind fun a9 => (zsL G6 51 a9 (0 : Int32) v5.toInt64).bind fun G11 => some (0, G11)) (fun X7 G8 => if X7 = "java/lang/IndexOutOfBoundsException" then (some (1, G8)) else none)
theorem wfX0_writeRule_0 {F : zF} (hd : 24 ≤ F.2.2.2) (x0 : Option Nat) (x1 : Int32) (x2 : Option Nat)  (G : GS) {a : (Int32) × GS} (h : fX0_writeRule_0 x0 x1 x2  G = some a) (hk : zKI F a) : J mX0_writeRule F G 0 [(0, vR x0), (1, vI x1), (2, vR x2)] [] := by
  unfold fX0_writeRule_0 at h
  refine j_aload_n (j := 2) dX0_writeRule_0 rfl rfl ?_
  refine j_iconst (v := 0) dX0_writeRule_1 (by decide) ?_
  refine j_aload_n (j := 0) dX0_writeRule_2 rfl rfl ?_
  refine j_iload_n (j := 1) dX0_writeRule_3 rfl rfl ?_
  replace h := zbE h
  obtain ⟨a1, e2, h⟩ := h
  subst e2
  replace h := zkE h
  obtain ⟨e3, h⟩ := h
  replace h := zb3E h
  rcases h with ⟨v5, G6, e4, h⟩ | ⟨X7, G8, e4, h⟩
  · refine j_cont (zrV (As := [vI x1]) msX0_89 (yX1_writeRule_ok e4) (Nat.le_trans (Nat.le_of_ble_eq_true rfl) hd) (zk_1 _ e3) rfl rfl (Nat.le_of_ble_eq_true rfl) dX0_writeRule_4) ?_
    refine j_i2l dX0_writeRule_7 ?_
    replace h := zbE h
    obtain ⟨a9, e10, h⟩ := h
    subst e10
    replace h := zbE h
    obtain ⟨G11, e12, h⟩ := h
    refine j_last e12 dX0_writeRule_8 ?_
    refine j_goto (tgt := 15) dX0_writeRule_9 (by decide) ?_
    refine j_iconst (v := 0) dX0_writeRule_15 (by decide) ?_
    obtain rfl := Option.some.inj h
    exact j_iret hk.1 hk.2 rfl dX0_writeRule_16
  · refine j_thr (zrV (As := [vI x1]) msX0_89 (yX1_writeRule_ok e4) (Nat.le_trans (Nat.le_of_ble_eq_true rfl) hd) (zk_1 _ e3) rfl rfl (Nat.le_of_ble_eq_true rfl) dX0_writeRule_4) ?_
    by_cases c15 : X7 = "java/lang/IndexOutOfBoundsException"
    · rw [if_pos c15] at h
      subst c15
      refine jx_catch (n := 12) [] ⟨0, 9, 12, 13⟩ [] rfl (fun z hz => nomatch hz) rfl (by decide) q1669 (zxw 5 rfl) rfl (fun q14 => ?_)
      refine j_astore_n (lv' := [(3, vR (some q14)), (0, vR (some a1)), (1, vI x1), (2, vR x2)]) dX0_writeRule_12 rfl (Nat.le_of_ble_eq_true rfl) rfl ?_
      refine j_iconst (v := 1) dX0_writeRule_13 (by decide) ?_
      obtain rfl := Option.some.inj h
      exact j_iret hk.1 hk.2 rfl dX0_writeRule_14
    · rw [if_neg c15] at h
      cases h
theorem yX0_writeRule_ok {x0 : Option Nat} {x1 : Int32} {x2 : Option Nat} {G : GS} {r : Int32} {G1 : GS} (h : fX0_writeRule_0 x0 x1 x2 G = some (r, G1)) : zRuns yX0_writeRule (wsW_ yX0_writeRule cX0_writeRule 4 (some Jvm.ClassFile.FieldType.int) [(0, 9, 12, 13)]) [vR x0, vI x1, vR x2] (.inl (some (vI r)), G, G1, 24) :=
  zentryW (M := mX0_writeRule) (by decide +kernel) ⟨rfl, rfl, rfl⟩ (Nat.le_of_ble_eq_true rfl) (wfX0_writeRule_0 (Nat.le_refl _) x0 x1 x2 G h ⟨rfl, rfl⟩)
end
