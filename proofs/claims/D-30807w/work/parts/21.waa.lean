/-! printed: functions and walks -/
set_option maxRecDepth 100000
noncomputable section
abbrev mJ0_init : zM := (cJ0_init, RJ0, 1, none, "<init>", [], "()V")
def fJ0_init_0 (t : Nat)  (G : GS) : Option (GS) :=
  some G
theorem wfJ0_init_0 {F : zF} (hd : 2 ≤ F.2.2.2) (t : Nat)  (G : GS) {a : GS} (h : fJ0_init_0 t  G = some a) (hk : zKV F a) : J mJ0_init F G 0 [(0, vR (some t))] [] := by
  unfold fJ0_init_0 at h
  refine j_aload_n (j := 0) dJ0_init_0 rfl rfl ?_
  refine j_objinit q194 q181 q182 (Nat.le_trans (Nat.le_of_ble_eq_true rfl) hd) (Nat.le_of_ble_eq_true rfl) dJ0_init_1 ?_
  obtain rfl := Option.some.inj h
  exact j_vret hk.1 hk.2 rfl dJ0_init_4
theorem yJ0_init_ok {t : Nat} {G : GS} {G1 : GS} (h : fJ0_init_0 t G = some G1) : zRuns yJ0_init (ws_ yJ0_init cJ0_init 1 none) [vR (some t)] (.inl none, G, G1, 2) :=
  zentry (M := mJ0_init) (plainFor_of_name (by decide +kernel)) ⟨rfl, rfl, rfl, rfl⟩ (Nat.le_of_ble_eq_true rfl) (wfJ0_init_0 (Nat.le_refl _) t G h ⟨rfl, rfl⟩)
theorem fpJ1_7_J2 : zFP RJ1 7 11 0 (.int) false := ⟨(RJ2, TJ2, 3, tyJ2), rfl, by decide, in_J2, tyJ2_ok, nmJ2, rfl, rfl, (by decide), "java/util/AbstractList", Or.inl rfl, q201⟩
theorem msJ1_1 : zSI RJ1 1 yJ0_init cJ0_init 1 0 := ⟨q193, q124, q191, q192, rfl, (by decide +kernel), (by decide)⟩
abbrev mJ1_init : zM := (cJ1_init, RJ1, 1, none, "<init>", [], "()V")
def fJ1_init_0 (t : Nat)  (G : GS) : Option (GS) :=
  (fJ0_init_0 t G).bind fun G2 => (zpI G2 12 t 0 0).bind fun G3 => some G3
theorem wfJ1_init_0 {F : zF} (hd : 3 ≤ F.2.2.2) (t : Nat)  (G : GS) {a : GS} (h : fJ1_init_0 t  G = some a) (hk : zKV F a) : J mJ1_init F G 0 [(0, vR (some t))] [] := by
  unfold fJ1_init_0 at h
  refine j_aload_n (j := 0) dJ1_init_0 rfl rfl ?_
  replace h := zbE h
  obtain ⟨G2, e1, h⟩ := h
  refine j_cont (zrI (As := []) msJ1_1 (yJ0_init_ok e1) (Nat.le_trans (Nat.le_of_ble_eq_true rfl) hd) rfl rfl (Nat.le_of_ble_eq_true rfl) dJ1_init_1) ?_
  refine j_aload_n (j := 0) dJ1_init_4 rfl rfl ?_
  refine j_iconst (v := 0) dJ1_init_5 (by decide) ?_
  replace h := zbE h
  obtain ⟨G3, e4, h⟩ := h
  refine j_putI fpJ1_7_J2 (Or.inl rfl) rfl dJ1_init_6 e4 ?_
  obtain rfl := Option.some.inj h
  exact j_vret hk.1 hk.2 rfl dJ1_init_9
theorem yJ1_init_ok {t : Nat} {G : GS} {G1 : GS} (h : fJ1_init_0 t G = some G1) : zRuns yJ1_init (ws_ yJ1_init cJ1_init 1 none) [vR (some t)] (.inl none, G, G1, 3) :=
  zentry (M := mJ1_init) (plainFor_of_name (by decide +kernel)) ⟨rfl, rfl, rfl, rfl⟩ (Nat.le_of_ble_eq_true rfl) (wfJ1_init_0 (Nat.le_refl _) t G h ⟨rfl, rfl⟩)
theorem fpJ2_9_J2 : zFP RJ2 9 11 1 (.array (.object "java/lang/Object")) false := ⟨(RJ2, TJ2, 3, tyJ2), rfl, by decide, in_J2, tyJ2_ok, nmJ2, rfl, rfl, (by decide), "java/util/ArrayList", Or.inl rfl, q197⟩
theorem msJ2_1 : zSI RJ2 1 yJ1_init cJ1_init 1 0 := ⟨q190, q125, q188, q189, rfl, (by decide +kernel), (by decide)⟩
abbrev mJ2_init : zM := (cJ2_init, RJ2, 1, none, "<init>", [], "()V")
def fJ2_init_0 (t : Nat)  (G : GS) : Option (GS) :=
  (fJ1_init_0 t G).bind fun G2 => (zpR G2 12 t 1 (some (gS G2 0))).bind fun G3 => some G3
theorem wfJ2_init_0 {F : zF} (hd : 4 ≤ F.2.2.2) (t : Nat)  (G : GS) {a : GS} (h : fJ2_init_0 t  G = some a) (hk : zKV F a) : J mJ2_init F G 0 [(0, vR (some t))] [] := by
  unfold fJ2_init_0 at h
  refine j_aload_n (j := 0) dJ2_init_0 rfl rfl ?_
  replace h := zbE h
  obtain ⟨G2, e1, h⟩ := h
  refine j_cont (zrI (As := []) msJ2_1 (yJ1_init_ok e1) (Nat.le_trans (Nat.le_of_ble_eq_true rfl) hd) rfl rfl (Nat.le_of_ble_eq_true rfl) dJ2_init_1) ?_
  refine j_aload_n (j := 0) dJ2_init_4 rfl rfl ?_
  refine j_gets (i := 0) (x := vR (some (gS G2 0))) rfl rfl q195 dJ2_init_5 ?_
  replace h := zbE h
  obtain ⟨G3, e4, h⟩ := h
  refine j_putR fpJ2_9_J2 (Or.inl rfl) (Or.inr ⟨_, rfl⟩) dJ2_init_8 e4 ?_
  obtain rfl := Option.some.inj h
  exact j_vret hk.1 hk.2 rfl dJ2_init_11
theorem yJ2_init_ok {t : Nat} {G : GS} {G1 : GS} (h : fJ2_init_0 t G = some G1) : zRuns yJ2_init (ws_ yJ2_init cJ2_init 1 none) [vR (some t)] (.inl none, G, G1, 4) :=
  zentry (M := mJ2_init) (plainFor_of_name (by decide +kernel)) ⟨rfl, rfl, rfl, rfl⟩ (Nat.le_of_ble_eq_true rfl) (wfJ2_init_0 (Nat.le_refl _) t G h ⟨rfl, rfl⟩)
abbrev mJ6_newBytesLength : zM := (cJ6_newBytesLength, RJ6, 1, (some Jvm.ClassFile.FieldType.int), "newBytesLength", [], "(I)I")
def fJ6_newBytesLength_0 (x0 : Int32)  (G : GS) : Option ((Int32) × GS) :=
  if 0 ≤ x0 then (if x0 < 1073741823 then (some ((x0 <<< ((1 : Int32) &&& 31)), G)) else none) else none
theorem wfJ6_newBytesLength_0 {F : zF} (hd : 1 ≤ F.2.2.2) (x0 : Int32)  (G : GS) {a : (Int32) × GS} (h : fJ6_newBytesLength_0 x0  G = some a) (hk : zKI F a) : J mJ6_newBytesLength F G 0 [(0, vI x0)] [] := by
  unfold fJ6_newBytesLength_0 at h
  refine j_iload_n (j := 0) dJ6_newBytesLength_0 rfl rfl ?_
  refine j_if_ge (tgt := 12) dJ6_newBytesLength_1 (by decide) (fun c1 => ?_) (fun c1 => ?_)
  · rw [if_pos c1] at h
    refine j_iload_n (j := 0) dJ6_newBytesLength_12 rfl rfl ?_
    refine j_ldc (v := 1073741823) q229 dJ6_newBytesLength_13 ?_
    refine j_icmp_lt (tgt := 55) dJ6_newBytesLength_15 (by decide) (fun c2 => ?_) (fun c2 => ?_)
    · rw [if_pos c2] at h
      refine j_iload_n (j := 0) dJ6_newBytesLength_55 rfl rfl ?_
      refine j_iconst (v := 1) dJ6_newBytesLength_56 (by decide) ?_
      refine j_ishl dJ6_newBytesLength_57 ?_
      obtain rfl := Option.some.inj h
      exact j_iret hk.1 hk.2 rfl dJ6_newBytesLength_58
    · rw [if_neg c2] at h
      cases h
  · rw [if_neg c1] at h
    cases h
theorem yJ6_newBytesLength_ok {x0 : Int32} {G : GS} {r : Int32} {G1 : GS} (h : fJ6_newBytesLength_0 x0 G = some (r, G1)) : zRuns yJ6_newBytesLength (ws_ yJ6_newBytesLength cJ6_newBytesLength 1 (some Jvm.ClassFile.FieldType.int)) [vI x0] (.inl (some (vI r)), G, G1, 1) :=
  zentry (M := mJ6_newBytesLength) (plainFor_of_name (by decide +kernel)) ⟨rfl, rfl, rfl, rfl⟩ (Nat.le_of_ble_eq_true rfl) (wfJ6_newBytesLength_0 (Nat.le_refl _) x0 G h ⟨rfl, rfl⟩)
theorem msJ6_11 : zSS RJ6 11 yJ6_newBytesLength cJ6_newBytesLength 1 (some Jvm.ClassFile.FieldType.int) 1 := ⟨lw_S q226 q227 q130 q228, (by decide +kernel), (by decide)⟩
abbrev mJ6_newBytesFor : zM := (cJ6_newBytesFor, RJ6, 1, (some (Jvm.ClassFile.FieldType.array Jvm.ClassFile.FieldType.byte)), "newBytesFor", [], "(I)[B")
def fJ6_newBytesFor_0 (x0 : Int32)  (G : GS) : Option ((Option Nat) × GS) :=
  zb2 (fJ6_newBytesLength_0 x0 G) fun v2 G3 => (zna G3 53 v2).bind fun G4 => some ((some (gz G3)), G4)
theorem wfJ6_newBytesFor_0 {F : zF} (hd : 2 ≤ F.2.2.2) (x0 : Int32)  (G : GS) {a : (Option Nat) × GS} (h : fJ6_newBytesFor_0 x0  G = some a) (hk : zKR F a) : J mJ6_newBytesFor F G 0 [(0, vI x0)] [] := by
  unfold fJ6_newBytesFor_0 at h
  refine j_iload_n (j := 0) dJ6_newBytesFor_0 rfl rfl ?_
  replace h := zb2E h
  obtain ⟨v2, G3, e1, h⟩ := h
  refine j_cont (zrS (As := [vI x0]) msJ6_11 (yJ6_newBytesLength_ok e1) (Nat.le_trans (Nat.le_of_ble_eq_true rfl) hd) rfl rfl (Nat.le_of_ble_eq_true rfl) dJ6_newBytesFor_1) ?_
  replace h := zbE h
  obtain ⟨G4, e5, h⟩ := h
  refine j_newa (t := 3) (ty := .byte) rfl rfl q244 (fun _ _ _ e1 e2 e3 => by simp only [zfv, e1, e2, e3] <;> rfl) (by decide) (fun _ _ h => h) e5 dJ6_newBytesFor_4 ?_
  obtain rfl := Option.some.inj h
  exact j_aret hk.1 hk.2 rfl (Or.inr ⟨_, rfl⟩) dJ6_newBytesFor_6
theorem yJ6_newBytesFor_ok {x0 : Int32} {G : GS} {r : Option Nat} {G1 : GS} (h : fJ6_newBytesFor_0 x0 G = some (r, G1)) : zRuns yJ6_newBytesFor (ws_ yJ6_newBytesFor cJ6_newBytesFor 1 (some (Jvm.ClassFile.FieldType.array Jvm.ClassFile.FieldType.byte))) [vI x0] (.inl (some (vR r)), G, G1, 2) :=
  zentry (M := mJ6_newBytesFor) (plainFor_of_name (by decide +kernel)) ⟨rfl, rfl, rfl, rfl⟩ (Nat.le_of_ble_eq_true rfl) (wfJ6_newBytesFor_0 (Nat.le_refl _) x0 G h ⟨rfl, rfl⟩)
theorem fpJ3_15_J4 : zFP RJ3 15 21 0 (.array (.byte)) false := ⟨(RJ4, TJ4, 4, tyJ4), rfl, by decide, in_J4, tyJ4_ok, nmJ4, rfl, rfl, (by decide), "java/lang/AbstractStringBuilder", Or.inl rfl, q230⟩
theorem fpJ3_22_J4 : zFP RJ3 22 21 1 (.byte) false := ⟨(RJ4, TJ4, 4, tyJ4), rfl, by decide, in_J4, tyJ4_ok, nmJ4, rfl, rfl, (by decide), "java/lang/AbstractStringBuilder", Or.inl rfl, q231⟩
theorem msJ3_26 : zSS RJ3 26 yJ6_newBytesFor cJ6_newBytesFor 1 (some (Jvm.ClassFile.FieldType.array Jvm.ClassFile.FieldType.byte)) 1 := ⟨lw_S q223 q224 q130 q225, (by decide +kernel), (by decide)⟩
abbrev mJ3_init : zM := (cJ3_init, RJ3, 2, none, "<init>", [], "(I)V")
def fJ3_init_0 (t : Nat) (x1 : Int32)  (G : GS) : Option (GS) :=
  if (1 : Int32) = 0 then (zb2 (fJ6_newBytesFor_0 x1 G) fun r3 G4 => (zpR G4 22 t 0 r3).bind fun G5 => (zpB G5 22 t 1 1).bind fun G7 => some G7) else ((zna G 53 x1).bind fun G9 => (zpR G9 22 t 0 (some (gz G))).bind fun G11 => (zpB G11 22 t 1 0).bind fun G13 => some G13)
theorem wfJ3_init_0 {F : zF} (hd : 3 ≤ F.2.2.2) (t : Nat) (x1 : Int32)  (G : GS) {a : GS} (h : fJ3_init_0 t x1  G = some a) (hk : zKV F a) : J mJ3_init F G 0 [(0, vR (some t)), (1, vI x1)] [] := by
  unfold fJ3_init_0 at h
  refine j_aload_n (j := 0) dJ3_init_0 rfl rfl ?_
  refine j_objinit q220 q181 q182 (Nat.le_trans (Nat.le_of_ble_eq_true rfl) hd) (Nat.le_of_ble_eq_true rfl) dJ3_init_1 ?_
  refine j_gets (i := 6) (x := vI 1) rfl rfl q221 dJ3_init_4 ?_
  refine j_if_eq (tgt := 25) dJ3_init_7 (by decide) (fun c1 => ?_) (fun c1 => ?_)
  · rw [if_pos c1] at h
    refine j_aload_n (j := 0) dJ3_init_25 rfl rfl ?_
    refine j_iload_n (j := 1) dJ3_init_26 rfl rfl ?_
    replace h := zb2E h
    obtain ⟨r3, G4, e2, h⟩ := h
    refine j_cont (zrS (As := [vI x1]) msJ3_26 (yJ6_newBytesFor_ok e2) (Nat.le_trans (Nat.le_of_ble_eq_true rfl) hd) rfl rfl (Nat.le_of_ble_eq_true rfl) dJ3_init_27) ?_
    replace h := zbE h
    obtain ⟨G5, e6, h⟩ := h
    refine j_putR fpJ3_15_J4 (Or.inl rfl) (Or.inr ⟨_, rfl⟩) dJ3_init_30 e6 ?_
    refine j_aload_n (j := 0) dJ3_init_33 rfl rfl ?_
    refine j_iconst (v := 1) dJ3_init_34 (by decide) ?_
    replace h := zbE h
    obtain ⟨G7, e8, h⟩ := h
    refine j_putB fpJ3_22_J4 (Or.inl rfl) rfl dJ3_init_35 e8 ?_
    obtain rfl := Option.some.inj h
    exact j_vret hk.1 hk.2 rfl dJ3_init_38
  · rw [if_neg c1] at h
    refine j_aload_n (j := 0) dJ3_init_10 rfl rfl ?_
    refine j_iload_n (j := 1) dJ3_init_11 rfl rfl ?_
    replace h := zbE h
    obtain ⟨G9, e10, h⟩ := h
    refine j_newa (t := 3) (ty := .byte) rfl rfl q244 (fun _ _ _ e1 e2 e3 => by simp only [zfv, e1, e2, e3] <;> rfl) (by decide) (fun _ _ h => h) e10 dJ3_init_12 ?_
    replace h := zbE h
    obtain ⟨G11, e12, h⟩ := h
    refine j_putR fpJ3_15_J4 (Or.inl rfl) (Or.inr ⟨_, rfl⟩) dJ3_init_14 e12 ?_
    refine j_aload_n (j := 0) dJ3_init_17 rfl rfl ?_
    refine j_iconst (v := 0) dJ3_init_18 (by decide) ?_
    replace h := zbE h
    obtain ⟨G13, e14, h⟩ := h
    refine j_putB fpJ3_22_J4 (Or.inl rfl) rfl dJ3_init_19 e14 ?_
    refine j_goto (tgt := 38) dJ3_init_22 (by decide) ?_
    obtain rfl := Option.some.inj h
    exact j_vret hk.1 hk.2 rfl dJ3_init_38
theorem yJ3_init_ok {t : Nat} {x1 : Int32} {G : GS} {G1 : GS} (h : fJ3_init_0 t x1 G = some G1) : zRuns yJ3_init (ws_ yJ3_init cJ3_init 2 none) [vR (some t), vI x1] (.inl none, G, G1, 3) :=
  zentry (M := mJ3_init) (plainFor_of_name (by decide +kernel)) ⟨rfl, rfl, rfl, rfl⟩ (Nat.le_of_ble_eq_true rfl) (wfJ3_init_0 (Nat.le_refl _) t x1 G h ⟨rfl, rfl⟩)
theorem msJ4_1 : zSI RJ4 1 yJ3_init cJ3_init 2 1 := ⟨q219, q127, q217, q218, rfl, (by decide +kernel), (by decide)⟩
abbrev mJ4_init : zM := (cJ4_init, RJ4, 1, none, "<init>", [], "()V")
def fJ4_init_0 (t : Nat)  (G : GS) : Option (GS) :=
  (fJ3_init_0 t 16 G).bind fun G2 => some G2
theorem wfJ4_init_0 {F : zF} (hd : 4 ≤ F.2.2.2) (t : Nat)  (G : GS) {a : GS} (h : fJ4_init_0 t  G = some a) (hk : zKV F a) : J mJ4_init F G 0 [(0, vR (some t))] [] := by
  unfold fJ4_init_0 at h
  refine j_aload_n (j := 0) dJ4_init_0 rfl rfl ?_
  refine j_bipush (v := 16) dJ4_init_1 (by decide) ?_
  replace h := zbE h
  obtain ⟨G2, e1, h⟩ := h
  refine j_cont (zrI (As := [vI 16]) msJ4_1 (yJ3_init_ok e1) (Nat.le_trans (Nat.le_of_ble_eq_true rfl) hd) rfl rfl (Nat.le_of_ble_eq_true rfl) dJ4_init_3) ?_
  obtain rfl := Option.some.inj h
  exact j_vret hk.1 hk.2 rfl dJ4_init_6
theorem yJ4_init_ok {t : Nat} {G : GS} {G1 : GS} (h : fJ4_init_0 t G = some G1) : zRuns yJ4_init (ws_ yJ4_init cJ4_init 1 none) [vR (some t)] (.inl none, G, G1, 4) :=
  zentry (M := mJ4_init) (plainFor_of_name (by decide +kernel)) ⟨rfl, rfl, rfl, rfl⟩ (Nat.le_of_ble_eq_true rfl) (wfJ4_init_0 (Nat.le_refl _) t G h ⟨rfl, rfl⟩)
theorem fpX1_16_X1 : zFP RX1 16 0 0 (.object "java/util/List") false := ⟨(RX1, TX1, 5, tyX1), rfl, by decide, in_X1, tyX1_ok, nmX1, rfl, rfl, (by decide), "SelahGenerator", Or.inl rfl, q245⟩
theorem fpX1_23_X1 : zFP RX1 23 0 4 (.object "java/lang/StringBuilder") true := ⟨(RX1, TX1, 5, tyX1), rfl, by decide, in_X1, tyX1_ok, nmX1, rfl, rfl, (by intro _; rfl), "SelahGenerator", Or.inl rfl, q251⟩
theorem msX1_15 : zSI RX1 15 yJ2_init cJ2_init 1 0 := ⟨q187, q126, q185, q186, rfl, (by decide +kernel), (by decide)⟩
theorem msX1_22 : zSI RX1 22 yJ4_init cJ4_init 1 0 := ⟨q216, q128, q214, q215, rfl, (by decide +kernel), (by decide)⟩
abbrev mX1_init : zM := (cX1_init, RX1, 1, none, "<init>", [], "()V")
def fX1_init_0 (t : Nat)  (G : GS) : Option (GS) :=
  zl (al G 12 0 3) fun G1 => (fJ2_init_0 (gz G) G1).bind fun G4 => (zpR G4 1 t 0 (some (gz G))).bind fun G5 => zl (al G5 22 0 4) fun G7 => (fJ4_init_0 (gz G5) G7).bind fun G10 => (zpR G10 1 t 4 (some (gz G5))).bind fun G11 => some G11
theorem wfX1_init_0 {F : zF} (hd : 5 ≤ F.2.2.2) (t : Nat)  (G : GS) {a : GS} (h : fX1_init_0 t  G = some a) (hk : zKV F a) : J mX1_init F G 0 [(0, vR (some t))] [] := by
  unfold fX1_init_0 at h
  refine j_aload_n (j := 0) dX1_init_0 rfl rfl ?_
  refine j_objinit q180 q181 q182 (Nat.le_trans (Nat.le_of_ble_eq_true rfl) hd) (Nat.le_of_ble_eq_true rfl) dX1_init_1 ?_
  refine j_aload_n (j := 0) dX1_init_4 rfl rfl ?_
  replace h := zlE h
  obtain ⟨G1, e2, h⟩ := h
  refine j_new (c := 11) (n := 3) (r := (RJ2, TJ2, 3, tyJ2)) rfl rfl in_J2 tyJ2_ok nwJ2 q183 q184 q126 dX1_init_5 ?_
  rw [show al G (11 + 1) 0 3 = G1 from e2.symm]
  refine j_dup dX1_init_8 rfl ?_
  replace h := zbE h
  obtain ⟨G4, e3, h⟩ := h
  refine j_cont (zrI (As := []) msX1_15 (yJ2_init_ok e3) (Nat.le_trans (Nat.le_of_ble_eq_true rfl) hd) rfl rfl (Nat.le_of_ble_eq_true rfl) dX1_init_9) ?_
  replace h := zbE h
  obtain ⟨G5, e6, h⟩ := h
  refine j_putR fpX1_16_X1 (Or.inl rfl) (Or.inl ⟨_, rfl⟩) dX1_init_12 e6 ?_
  refine j_aload_n (j := 0) dX1_init_15 rfl rfl ?_
  replace h := zlE h
  obtain ⟨G7, e8, h⟩ := h
  refine j_new (c := 21) (n := 4) (r := (RJ4, TJ4, 4, tyJ4)) rfl rfl in_J4 tyJ4_ok nwJ4 q212 q213 q128 dX1_init_16 ?_
  rw [show al G5 (21 + 1) 0 4 = G7 from e8.symm]
  refine j_dup dX1_init_19 rfl ?_
  replace h := zbE h
  obtain ⟨G10, e9, h⟩ := h
  refine j_cont (zrI (As := []) msX1_22 (yJ4_init_ok e9) (Nat.le_trans (Nat.le_of_ble_eq_true rfl) hd) rfl rfl (Nat.le_of_ble_eq_true rfl) dX1_init_20) ?_
  replace h := zbE h
  obtain ⟨G11, e12, h⟩ := h
  refine j_putR fpX1_23_X1 (Or.inr rfl) (Or.inl ⟨_, rfl⟩) dX1_init_23 e12 ?_
  obtain rfl := Option.some.inj h
  exact j_vret hk.1 hk.2 rfl dX1_init_26
theorem yX1_init_ok {t : Nat} {G : GS} {G1 : GS} (h : fX1_init_0 t G = some G1) : zRuns yX1_init (ws_ yX1_init cX1_init 1 none) [vR (some t)] (.inl none, G, G1, 5) :=
  zentry (M := mX1_init) (plainFor_of_name (by decide +kernel)) ⟨rfl, rfl, rfl, rfl⟩ (Nat.le_of_ble_eq_true rfl) (wfX1_init_0 (Nat.le_refl _) t G h ⟨rfl, rfl⟩)
abbrev mX1_isIn : zM := (cX1_isIn, RX1, 3, (some Jvm.ClassFile.FieldType.boolean), "isIn", [], "(III)Z")
def fX1_isIn_14   (G : GS) : Option (Int32) :=
  zcond (zbb 0) (some 0)
theorem wfX1_isIn_14 {F : zF} (hd : 1 ≤ F.2.2.2)   (G : GS) {a : Int32} (h : fX1_isIn_14   G = some a) (hk : zKPI F G a) : J mX1_isIn F G 14 [] [] := by
  unfold fX1_isIn_14 at h
  refine j_iconst (v := 0) dX1_isIn_14 (by decide) ?_
  replace h := zcondE h
  obtain ⟨e1, h⟩ := h
  obtain rfl := Option.some.inj h
  exact j_zret hk.1 hk.2 rfl (zbb_n e1) dX1_isIn_15
def fX1_isIn_0 (x0 : Int32) (x1 : Int32) (x2 : Int32)  (G : GS) : Option (Int32) :=
  if x0 < x1 then (fX1_isIn_14 G) else (if x2 < x0 then (fX1_isIn_14 G) else (zcond (zbb 1) (some 1)))
theorem wfX1_isIn_0 {F : zF} (hd : 1 ≤ F.2.2.2) (x0 : Int32) (x1 : Int32) (x2 : Int32)  (G : GS) {a : Int32} (h : fX1_isIn_0 x0 x1 x2  G = some a) (hk : zKPI F G a) : J mX1_isIn F G 0 [(0, vI x0), (1, vI x1), (2, vI x2)] [] := by
  unfold fX1_isIn_0 at h
  refine j_iload_n (j := 0) dX1_isIn_0 rfl rfl ?_
  refine j_iload_n (j := 1) dX1_isIn_1 rfl rfl ?_
  refine j_icmp_lt (tgt := 14) dX1_isIn_2 (by decide) (fun c1 => ?_) (fun c1 => ?_)
  · rw [if_pos c1] at h
    exact J.sub (zall [] rfl) (wfX1_isIn_14 hd   G h hk)
  · rw [if_neg c1] at h
    refine j_iload_n (j := 0) dX1_isIn_5 rfl rfl ?_
    refine j_iload_n (j := 2) dX1_isIn_6 rfl rfl ?_
    refine j_icmp_gt (tgt := 14) dX1_isIn_7 (by decide) (fun c2 => ?_) (fun c2 => ?_)
    · rw [if_pos c2] at h
      exact J.sub (zall [] rfl) (wfX1_isIn_14 hd   G h hk)
    · rw [if_neg c2] at h
      refine j_iconst (v := 1) dX1_isIn_10 (by decide) ?_
      refine j_goto (tgt := 15) dX1_isIn_11 (by decide) ?_
      replace h := zcondE h
      obtain ⟨e3, h⟩ := h
      obtain rfl := Option.some.inj h
      exact j_zret hk.1 hk.2 rfl (zbb_n e3) dX1_isIn_15
theorem yX1_isIn_ok {x0 : Int32} {x1 : Int32} {x2 : Int32} {G : GS} {r : Int32} (h : fX1_isIn_0 x0 x1 x2 G = some r) : zRuns yX1_isIn (ws_ yX1_isIn cX1_isIn 3 (some Jvm.ClassFile.FieldType.boolean)) [vI x0, vI x1, vI x2] (.inl (some (vI r)), G, G, 1) :=
  zentry (M := mX1_isIn) (plainFor_of_name (by decide +kernel)) ⟨rfl, rfl, rfl, rfl⟩ (Nat.le_of_ble_eq_true rfl) (wfX1_isIn_0 (Nat.le_refl _) x0 x1 x2 G h ⟨rfl, rfl⟩)
theorem exX1_47_49 : zEX RX1 47 49 "java/lang/IndexOutOfBoundsException" ["java/lang/RuntimeException", "java/lang/Exception"] := zEX.of q1712 q135 (by decide +kernel) (by decide +kernel) (by decide +kernel) (by decide +kernel) (by decide)
theorem msX1_3 : zSS RX1 3 yX1_isIn cX1_isIn 3 (some Jvm.ClassFile.FieldType.boolean) 3 := ⟨lw_S q403 q404 q123 q405, (by decide +kernel), (by decide)⟩
abbrev mX1_valid : zM := (cX1_valid, RX1, 3, (some Jvm.ClassFile.FieldType.int), "valid", [], "(III)I")
def fX1_valid_0 (x0 : Int32) (x1 : Int32) (x2 : Int32)  (G : GS) : Option (((Int32) ⊕ String) × GS) :=
  (fX1_isIn_0 x0 x1 x2 G).bind fun v2 => if v2 = 0 then (zl (al G 0 0 6) fun G4 => some (.inr "java/lang/IndexOutOfBoundsException", G4)) else (some (.inl x0, G))
theorem wfX1_valid_0 {F : zF} (hd : 7 ≤ F.2.2.2) (x0 : Int32) (x1 : Int32) (x2 : Int32)  (G : GS) {a : ((Int32) ⊕ String) × GS} (h : fX1_valid_0 x0 x1 x2  G = some a) (hk : zKXI F a) : J mX1_valid F G 0 [(0, vI x0), (1, vI x1), (2, vI x2)] [] := by
  unfold fX1_valid_0 at h
  refine j_iload_n (j := 0) dX1_valid_0 rfl rfl ?_
  refine j_iload_n (j := 1) dX1_valid_1 rfl rfl ?_
  refine j_iload_n (j := 2) dX1_valid_2 rfl rfl ?_
  replace h := zbE h
  obtain ⟨v2, e1, h⟩ := h
  refine j_cont (zrS (As := [vI x0, vI x1, vI x2]) msX1_3 (yX1_isIn_ok e1) (Nat.le_trans (Nat.le_of_ble_eq_true rfl) hd) rfl rfl (Nat.le_of_ble_eq_true rfl) dX1_valid_3) ?_
  refine j_if_ne (tgt := 17) dX1_valid_6 (by decide) (fun c3 => ?_) (fun c3 => ?_)
  · rw [if_pos c3] at h
    replace h := zlE h
    obtain ⟨G4, e5, h⟩ := h
    refine j_throw exX1_47_49 dX1_valid_9 dX1_valid_12 dX1_valid_13 dX1_valid_16 (Nat.le_trans (Nat.le_of_ble_eq_true rfl) hd) (Nat.le_of_ble_eq_true rfl) ?_
    rw [show al G 0 0 6 = G4 from e5.symm]
    obtain rfl := Option.some.inj h
    exact jx_out hk.1 hk.2 (by decide)
  · rw [if_neg c3] at h
    refine j_iload_n (j := 0) dX1_valid_17 rfl rfl ?_
    obtain rfl := Option.some.inj h
    exact j_iret hk.1 hk.2 rfl dX1_valid_18
theorem yX1_valid_ok {x0 : Int32} {x1 : Int32} {x2 : Int32} {G : GS} {r : (Int32) ⊕ String} {G1 : GS} (h : fX1_valid_0 x0 x1 x2 G = some (r, G1)) : zRuns yX1_valid (ws_ yX1_valid cX1_valid 3 (some Jvm.ClassFile.FieldType.int)) [vI x0, vI x1, vI x2] (zout (fun v => some (vI v)) r, G, G1, 7) :=
  zentry (M := mX1_valid) (plainFor_of_name (by decide +kernel)) ⟨rfl, rfl, rfl, rfl⟩ (Nat.le_of_ble_eq_true rfl) (wfX1_valid_0 (Nat.le_refl _) x0 x1 x2 G h ⟨rfl, rfl⟩)
theorem msX1_50 : zSS RX1 50 yX1_valid cX1_valid 3 (some Jvm.ClassFile.FieldType.int) 3 := ⟨lw_S q1709 q1710 q123 q1711, (by decide +kernel), (by decide)⟩
abbrev mX1_index : zM := (cX1_index, RX1, 1, (some Jvm.ClassFile.FieldType.int), "index", [], "(I)I")
def fX1_index_0 (x0 : Int32)  (G : GS) : Option (((Int32) ⊕ String) × GS) :=
  zb3 (fX1_valid_0 x0 20 31 G) (fun v2 G3 => some (.inl (v2 - 20), G3)) (fun X4 G5 => some (.inr X4, G5))
theorem wfX1_index_0 {F : zF} (hd : 8 ≤ F.2.2.2) (x0 : Int32)  (G : GS) {a : ((Int32) ⊕ String) × GS} (h : fX1_index_0 x0  G = some a) (hk : zKXI F a) : J mX1_index F G 0 [(0, vI x0)] [] := by
  unfold fX1_index_0 at h
  refine j_iload_n (j := 0) dX1_index_0 rfl rfl ?_
  refine j_bipush (v := 20) dX1_index_1 (by decide) ?_
  refine j_bipush (v := 31) dX1_index_3 (by decide) ?_
  replace h := zb3E h
  rcases h with ⟨v2, G3, e1, h⟩ | ⟨X4, G5, e1, h⟩
  · refine j_cont (zrS (As := [vI x0, vI 20, vI 31]) msX1_50 (yX1_valid_ok e1) (Nat.le_trans (Nat.le_of_ble_eq_true rfl) hd) rfl rfl (Nat.le_of_ble_eq_true rfl) dX1_index_5) ?_
    refine j_bipush (v := 20) dX1_index_8 (by decide) ?_
    refine j_isub dX1_index_10 ?_
    obtain rfl := Option.some.inj h
    exact j_iret hk.1 hk.2 rfl dX1_index_11
  · refine j_thr (zrS (As := [vI x0, vI 20, vI 31]) msX1_50 (yX1_valid_ok e1) (Nat.le_trans (Nat.le_of_ble_eq_true rfl) hd) rfl rfl (Nat.le_of_ble_eq_true rfl) dX1_index_5) ?_
    obtain rfl := Option.some.inj h
    exact jx_out hk.1 hk.2 (by decide)
theorem yX1_index_ok {x0 : Int32} {G : GS} {r : (Int32) ⊕ String} {G1 : GS} (h : fX1_index_0 x0 G = some (r, G1)) : zRuns yX1_index (ws_ yX1_index cX1_index 1 (some Jvm.ClassFile.FieldType.int)) [vI x0] (zout (fun v => some (vI v)) r, G, G1, 8) :=
  zentry (M := mX1_index) (plainFor_of_name (by decide +kernel)) ⟨rfl, rfl, rfl, rfl⟩ (Nat.le_of_ble_eq_true rfl) (wfX1_index_0 (Nat.le_refl _) x0 G h ⟨rfl, rfl⟩)
theorem fgJ2_48 : zFG RJ2 48 11 2 (.int) := ⟨(RJ2, TJ2, 3, tyJ2), rfl, by decide, in_J2, rfl, "java/util/ArrayList", Or.inl rfl, Or.inl q200⟩
abbrev mJ2_size : zM := (cJ2_size, RJ2, 1, (some Jvm.ClassFile.FieldType.int), "size", [], "()I")
def fJ2_size_0 (t : Nat)  (G : GS) : Option (Int32) :=
  (zgI G 12 t 2).bind fun v1 => some v1
theorem wfJ2_size_0 {F : zF} (hd : 1 ≤ F.2.2.2) (t : Nat)  (G : GS) {a : Int32} (h : fJ2_size_0 t  G = some a) (hk : zKPI F G a) : J mJ2_size F G 0 [(0, vR (some t))] [] := by
  unfold fJ2_size_0 at h
  refine j_aload_n (j := 0) dJ2_size_0 rfl rfl ?_
  replace h := zbE h
  obtain ⟨v1, e2, h⟩ := h
  refine j_getI fgJ2_48 (fun _ _ _ => rfl) dJ2_size_1 e2 ?_
  obtain rfl := Option.some.inj h
  exact j_iret hk.1 hk.2 rfl dJ2_size_4
theorem yJ2_size_ok {t : Nat} {G : GS} {r : Int32} (h : fJ2_size_0 t G = some r) : zRuns yJ2_size (ws_ yJ2_size cJ2_size 1 (some Jvm.ClassFile.FieldType.int)) [vR (some t)] (.inl (some (vI r)), G, G, 1) :=
  zentry (M := mJ2_size) (plainFor_of_name (by decide +kernel)) ⟨rfl, rfl, rfl, rfl⟩ (Nat.le_of_ble_eq_true rfl) (wfJ2_size_0 (Nat.le_refl _) t G h ⟨rfl, rfl⟩)
theorem exX1_73_75 : zEX RX1 73 75 "java/lang/IllegalStateException" ["java/lang/RuntimeException", "java/lang/Exception"] := zEX.of q1536 q137 (by decide +kernel) (by decide +kernel) (by decide +kernel) (by decide +kernel) (by decide)
abbrev mX1_may : zM := (cX1_may, RX1, 1, none, "may", [], "(Z)V")
def fX1_may_0 (x0 : Int32)  (G : GS) : Option (((Unit) ⊕ String) × GS) :=
  if x0 = 0 then (zl (al G 0 0 6) fun G2 => some (.inr "java/lang/IllegalStateException", G2)) else (some (.inl (), G))
theorem wfX1_may_0 {F : zF} (hd : 7 ≤ F.2.2.2) (x0 : Int32)  (G : GS) {a : ((Unit) ⊕ String) × GS} (h : fX1_may_0 x0  G = some a) (hk : zKXV F a) : J mX1_may F G 0 [(0, vI x0)] [] := by
  unfold fX1_may_0 at h
  refine j_iload_n (j := 0) dX1_may_0 rfl rfl ?_
  refine j_if_ne (tgt := 12) dX1_may_1 (by decide) (fun c1 => ?_) (fun c1 => ?_)
  · rw [if_pos c1] at h
    replace h := zlE h
    obtain ⟨G2, e3, h⟩ := h
    refine j_throw exX1_73_75 dX1_may_4 dX1_may_7 dX1_may_8 dX1_may_11 (Nat.le_trans (Nat.le_of_ble_eq_true rfl) hd) (Nat.le_of_ble_eq_true rfl) ?_
    rw [show al G 0 0 6 = G2 from e3.symm]
    obtain rfl := Option.some.inj h
    exact jx_out hk.1 hk.2 (by decide)
  · rw [if_neg c1] at h
    obtain rfl := Option.some.inj h
    exact j_vret hk.1 hk.2 rfl dX1_may_12
theorem yX1_may_ok {x0 : Int32} {G : GS} {r : (Unit) ⊕ String} {G1 : GS} (h : fX1_may_0 x0 G = some (r, G1)) : zRuns yX1_may (ws_ yX1_may cX1_may 1 none) [vI x0] (zout (fun _ => none) r, G, G1, 7) :=
  zentry (M := mX1_may) (plainFor_of_name (by decide +kernel)) ⟨rfl, rfl, rfl, rfl⟩ (Nat.le_of_ble_eq_true rfl) (wfX1_may_0 (Nat.le_refl _) x0 G h ⟨rfl, rfl⟩)
theorem fpX3_13_X3 : zFP RX3 13 2 1 (.array (.int)) true := ⟨(RX3, TX3, 2, tyX3), rfl, by decide, in_X3, tyX3_ok, nmX3, rfl, rfl, (by intro _; rfl), "SelahGenerator$Rule", Or.inl rfl, q1739⟩
theorem fpX3_7_X3 : zFP RX3 7 2 0 (.int) true := ⟨(RX3, TX3, 2, tyX3), rfl, by decide, in_X3, tyX3_ok, nmX3, rfl, rfl, (by intro _; rfl), "SelahGenerator$Rule", Or.inl rfl, q1732⟩
abbrev mX3_init : zM := (cX3_init, RX3, 3, none, "<init>", [], "(I[I)V")
def fX3_init_0 (t : Nat) (x1 : Int32) (x2 : Option Nat)  (G : GS) : Option (GS) :=
  (zpI G 3 t 0 x1).bind fun G1 => (zpR G1 3 t 1 x2).bind fun G3 => some G3
theorem wfX3_init_0 {F : zF} (hd : 2 ≤ F.2.2.2) (t : Nat) (x1 : Int32) (x2 : Option Nat)  (G : GS) {a : GS} (h : fX3_init_0 t x1 x2  G = some a) (hk : zKV F a) : J mX3_init F G 0 [(0, vR (some t)), (1, vI x1), (2, vR x2)] [] := by
  unfold fX3_init_0 at h
  refine j_aload_n (j := 0) dX3_init_0 rfl rfl ?_
  refine j_objinit q1731 q181 q182 (Nat.le_trans (Nat.le_of_ble_eq_true rfl) hd) (Nat.le_of_ble_eq_true rfl) dX3_init_1 ?_
  refine j_aload_n (j := 0) dX3_init_4 rfl rfl ?_
  refine j_iload_n (j := 1) dX3_init_5 rfl rfl ?_
  replace h := zbE h
  obtain ⟨G1, e2, h⟩ := h
  refine j_putI fpX3_7_X3 (Or.inr rfl) rfl dX3_init_6 e2 ?_
  refine j_aload_n (j := 0) dX3_init_9 rfl rfl ?_
  refine j_aload_n (j := 2) dX3_init_10 rfl rfl ?_
  replace h := zbE h
  obtain ⟨G3, e4, h⟩ := h
  refine j_putR fpX3_13_X3 (Or.inr rfl) (Or.inr ⟨_, rfl⟩) dX3_init_11 e4 ?_
  obtain rfl := Option.some.inj h
  exact j_vret hk.1 hk.2 rfl dX3_init_14
theorem yX3_init_ok {t : Nat} {x1 : Int32} {x2 : Option Nat} {G : GS} {G1 : GS} (h : fX3_init_0 t x1 x2 G = some G1) : zRuns yX3_init (ws_ yX3_init cX3_init 3 none) [vR (some t), vI x1, vR x2] (.inl none, G, G1, 2) :=
  zentry (M := mX3_init) (plainFor_of_name (by decide +kernel)) ⟨rfl, rfl, rfl, rfl⟩ (Nat.le_of_ble_eq_true rfl) (wfX3_init_0 (Nat.le_refl _) t x1 x2 G h ⟨rfl, rfl⟩)
abbrev mJ14_max : zM := (cJ14_max, RJ14, 2, (some Jvm.ClassFile.FieldType.int), "max", [], "(II)I")
def fJ14_max_0 (x0 : Int32) (x1 : Int32)  (G : GS) : Option (Int32) :=
  if x0 < x1 then (some x1) else (some x0)
theorem wfJ14_max_0 {F : zF} (hd : 1 ≤ F.2.2.2) (x0 : Int32) (x1 : Int32)  (G : GS) {a : Int32} (h : fJ14_max_0 x0 x1  G = some a) (hk : zKPI F G a) : J mJ14_max F G 0 [(0, vI x0), (1, vI x1)] [] := by
  unfold fJ14_max_0 at h
  refine j_iload_n (j := 0) dJ14_max_0 rfl rfl ?_
  refine j_iload_n (j := 1) dJ14_max_1 rfl rfl ?_
  refine j_icmp_lt (tgt := 9) dJ14_max_2 (by decide) (fun c1 => ?_) (fun c1 => ?_)
  · rw [if_pos c1] at h
    refine j_iload_n (j := 1) dJ14_max_9 rfl rfl ?_
    obtain rfl := Option.some.inj h
    exact j_iret hk.1 hk.2 rfl dJ14_max_10
  · rw [if_neg c1] at h
    refine j_iload_n (j := 0) dJ14_max_5 rfl rfl ?_
    refine j_goto (tgt := 10) dJ14_max_6 (by decide) ?_
    obtain rfl := Option.some.inj h
    exact j_iret hk.1 hk.2 rfl dJ14_max_10
theorem yJ14_max_ok {x0 : Int32} {x1 : Int32} {G : GS} {r : Int32} (h : fJ14_max_0 x0 x1 G = some r) : zRuns yJ14_max (ws_ yJ14_max cJ14_max 2 (some Jvm.ClassFile.FieldType.int)) [vI x0, vI x1] (.inl (some (vI r)), G, G, 1) :=
  zentry (M := mJ14_max) (by decide +kernel) ⟨rfl, rfl, rfl, rfl⟩ (Nat.le_of_ble_eq_true rfl) (wfJ14_max_0 (Nat.le_refl _) x0 x1 G h ⟨rfl, rfl⟩)
abbrev mJ13_hugeLength : zM := (cJ13_hugeLength, RJ13, 3, (some Jvm.ClassFile.FieldType.int), "hugeLength", [], "(II)I")
def fJ13_hugeLength_0 (x0 : Int32) (x1 : Int32)  (G : GS) : Option ((Int32) × GS) :=
  if 0 ≤ (x0 + x1) then (if 2147483639 < (x0 + x1) then (some ((x0 + x1), G)) else (some (2147483639, G))) else none
theorem wfJ13_hugeLength_0 {F : zF} (hd : 1 ≤ F.2.2.2) (x0 : Int32) (x1 : Int32)  (G : GS) {a : (Int32) × GS} (h : fJ13_hugeLength_0 x0 x1  G = some a) (hk : zKI F a) : J mJ13_hugeLength F G 0 [(0, vI x0), (1, vI x1)] [] := by
  unfold fJ13_hugeLength_0 at h
  refine j_iload_n (j := 0) dJ13_hugeLength_0 rfl rfl ?_
  refine j_iload_n (j := 1) dJ13_hugeLength_1 rfl rfl ?_
  refine j_iadd dJ13_hugeLength_2 ?_
  refine j_istore_n (lv' := [(2, vI (x0 + x1)), (0, vI x0), (1, vI x1)]) dJ13_hugeLength_3 rfl (Nat.le_of_ble_eq_true rfl) rfl ?_
  refine j_iload_n (j := 0) dJ13_hugeLength_4 rfl rfl ?_
  refine j_if_ge (tgt := 49) dJ13_hugeLength_5 (by decide) (fun c1 => ?_) (fun c1 => ?_)
  · rw [if_pos c1] at h
    refine j_iload_n (j := 0) dJ13_hugeLength_49 rfl rfl ?_
    refine j_ldc (v := 2147483639) q766 dJ13_hugeLength_50 ?_
    refine j_icmp_gt (tgt := 58) dJ13_hugeLength_52 (by decide) (fun c2 => ?_) (fun c2 => ?_)
    · rw [if_pos c2] at h
      refine j_iload_n (j := 0) dJ13_hugeLength_58 rfl rfl ?_
      obtain rfl := Option.some.inj h
      exact j_iret hk.1 hk.2 rfl dJ13_hugeLength_59
    · rw [if_neg c2] at h
      refine j_ldc (v := 2147483639) q766 dJ13_hugeLength_55 ?_
      obtain rfl := Option.some.inj h
      exact j_iret hk.1 hk.2 rfl dJ13_hugeLength_57
  · rw [if_neg c1] at h
    cases h
theorem yJ13_hugeLength_ok {x0 : Int32} {x1 : Int32} {G : GS} {r : Int32} {G1 : GS} (h : fJ13_hugeLength_0 x0 x1 G = some (r, G1)) : zRuns yJ13_hugeLength (ws_ yJ13_hugeLength cJ13_hugeLength 3 (some Jvm.ClassFile.FieldType.int)) [vI x0, vI x1] (.inl (some (vI r)), G, G1, 1) :=
  zentry (M := mJ13_hugeLength) (plainFor_of_name (by decide +kernel)) ⟨rfl, rfl, rfl, rfl⟩ (Nat.le_of_ble_eq_true rfl) (wfJ13_hugeLength_0 (Nat.le_refl _) x0 x1 G h ⟨rfl, rfl⟩)
theorem msJ13_194 : zSS RJ13 194 yJ14_max cJ14_max 2 (some Jvm.ClassFile.FieldType.int) 2 := ⟨lw_S q763 q764 q140 q765, (by decide +kernel), (by decide)⟩
theorem msJ13_201 : zSS RJ13 201 yJ13_hugeLength cJ13_hugeLength 3 (some Jvm.ClassFile.FieldType.int) 2 := ⟨lw_S q767 q768 q139 q769, (by decide +kernel), (by decide)⟩
abbrev mJ13_newLength : zM := (cJ13_newLength, RJ13, 4, (some Jvm.ClassFile.FieldType.int), "newLength", [], "(III)I")
def fJ13_newLength_21 (x0 : Int32) (x1 : Int32)  (G : GS) : Option ((Int32) × GS) :=
  zb2 (fJ13_hugeLength_0 x0 x1 G) fun v2 G3 => some (v2, G3)
theorem wfJ13_newLength_21 {F : zF} (hd : 2 ≤ F.2.2.2) (x0 : Int32) (x1 : Int32)  (G : GS) {a : (Int32) × GS} (h : fJ13_newLength_21 x0 x1  G = some a) (hk : zKI F a) : J mJ13_newLength F G 21 [(0, vI x0), (1, vI x1)] [] := by
  unfold fJ13_newLength_21 at h
  refine j_iload_n (j := 0) dJ13_newLength_21 rfl rfl ?_
  refine j_iload_n (j := 1) dJ13_newLength_22 rfl rfl ?_
  replace h := zb2E h
  obtain ⟨v2, G3, e1, h⟩ := h
  refine j_cont (zrS (As := [vI x0, vI x1]) msJ13_201 (yJ13_hugeLength_ok e1) (Nat.le_trans (Nat.le_of_ble_eq_true rfl) hd) rfl rfl (Nat.le_of_ble_eq_true rfl) dJ13_newLength_23) ?_
  obtain rfl := Option.some.inj h
  exact j_iret hk.1 hk.2 rfl dJ13_newLength_26
def fJ13_newLength_0 (x0 : Int32) (x1 : Int32) (x2 : Int32)  (G : GS) : Option ((Int32) × GS) :=
  (fJ14_max_0 x1 x2 G).bind fun v2 => if (x0 + v2) ≤ (0 : Int32) then (fJ13_newLength_21 x0 x1 G) else (if 2147483639 < (x0 + v2) then (fJ13_newLength_21 x0 x1 G) else (some ((x0 + v2), G)))
theorem wfJ13_newLength_0 {F : zF} (hd : 2 ≤ F.2.2.2) (x0 : Int32) (x1 : Int32) (x2 : Int32)  (G : GS) {a : (Int32) × GS} (h : fJ13_newLength_0 x0 x1 x2  G = some a) (hk : zKI F a) : J mJ13_newLength F G 0 [(0, vI x0), (1, vI x1), (2, vI x2)] [] := by
  unfold fJ13_newLength_0 at h
  refine j_iload_n (j := 0) dJ13_newLength_0 rfl rfl ?_
  refine j_iload_n (j := 1) dJ13_newLength_1 rfl rfl ?_
  refine j_iload_n (j := 2) dJ13_newLength_2 rfl rfl ?_
  replace h := zbE h
  obtain ⟨v2, e1, h⟩ := h
  refine j_cont (zrS (As := [vI x1, vI x2]) msJ13_194 (yJ14_max_ok e1) (Nat.le_trans (Nat.le_of_ble_eq_true rfl) hd) rfl rfl (Nat.le_of_ble_eq_true rfl) dJ13_newLength_3) ?_
  refine j_iadd dJ13_newLength_6 ?_
  refine j_istore_n (lv' := [(3, vI (x0 + v2)), (0, vI x0), (1, vI x1), (2, vI x2)]) dJ13_newLength_7 rfl (Nat.le_of_ble_eq_true rfl) rfl ?_
  refine j_iconst (v := 0) dJ13_newLength_8 (by decide) ?_
  refine j_iload_n (j := 0) dJ13_newLength_9 rfl rfl ?_
  refine j_icmp_ge (tgt := 21) dJ13_newLength_10 (by decide) (fun c3 => ?_) (fun c3 => ?_)
  · rw [if_pos c3] at h
    exact J.sub (zall [1, 2] rfl) (wfJ13_newLength_21 hd x0 x1  G h hk)
  · rw [if_neg c3] at h
    refine j_iload_n (j := 0) dJ13_newLength_13 rfl rfl ?_
    refine j_ldc (v := 2147483639) q766 dJ13_newLength_14 ?_
    refine j_icmp_gt (tgt := 21) dJ13_newLength_16 (by decide) (fun c4 => ?_) (fun c4 => ?_)
    · rw [if_pos c4] at h
      exact J.sub (zall [1, 2] rfl) (wfJ13_newLength_21 hd x0 x1  G h hk)
    · rw [if_neg c4] at h
      refine j_iload_n (j := 0) dJ13_newLength_19 rfl rfl ?_
      obtain rfl := Option.some.inj h
      exact j_iret hk.1 hk.2 rfl dJ13_newLength_20
theorem yJ13_newLength_ok {x0 : Int32} {x1 : Int32} {x2 : Int32} {G : GS} {r : Int32} {G1 : GS} (h : fJ13_newLength_0 x0 x1 x2 G = some (r, G1)) : zRuns yJ13_newLength (ws_ yJ13_newLength cJ13_newLength 4 (some Jvm.ClassFile.FieldType.int)) [vI x0, vI x1, vI x2] (.inl (some (vI r)), G, G1, 2) :=
  zentry (M := mJ13_newLength) (plainFor_of_name (by decide +kernel)) ⟨rfl, rfl, rfl, rfl⟩ (Nat.le_of_ble_eq_true rfl) (wfJ13_newLength_0 (Nat.le_refl _) x0 x1 x2 G h ⟨rfl, rfl⟩)
abbrev mJ14_min : zM := (cJ14_min, RJ14, 2, (some Jvm.ClassFile.FieldType.int), "min", [], "(II)I")
def fJ14_min_0 (x0 : Int32) (x1 : Int32)  (G : GS) : Option (Int32) :=
  if x1 < x0 then (some x1) else (some x0)
theorem wfJ14_min_0 {F : zF} (hd : 1 ≤ F.2.2.2) (x0 : Int32) (x1 : Int32)  (G : GS) {a : Int32} (h : fJ14_min_0 x0 x1  G = some a) (hk : zKPI F G a) : J mJ14_min F G 0 [(0, vI x0), (1, vI x1)] [] := by
  unfold fJ14_min_0 at h
  refine j_iload_n (j := 0) dJ14_min_0 rfl rfl ?_
  refine j_iload_n (j := 1) dJ14_min_1 rfl rfl ?_
  refine j_icmp_gt (tgt := 9) dJ14_min_2 (by decide) (fun c1 => ?_) (fun c1 => ?_)
  · rw [if_pos c1] at h
    refine j_iload_n (j := 1) dJ14_min_9 rfl rfl ?_
    obtain rfl := Option.some.inj h
    exact j_iret hk.1 hk.2 rfl dJ14_min_10
  · rw [if_neg c1] at h
    refine j_iload_n (j := 0) dJ14_min_5 rfl rfl ?_
    refine j_goto (tgt := 10) dJ14_min_6 (by decide) ?_
    obtain rfl := Option.some.inj h
    exact j_iret hk.1 hk.2 rfl dJ14_min_10
theorem yJ14_min_ok {x0 : Int32} {x1 : Int32} {G : GS} {r : Int32} (h : fJ14_min_0 x0 x1 G = some r) : zRuns yJ14_min (ws_ yJ14_min cJ14_min 2 (some Jvm.ClassFile.FieldType.int)) [vI x0, vI x1] (.inl (some (vI r)), G, G, 1) :=
  zentry (M := mJ14_min) (by decide +kernel) ⟨rfl, rfl, rfl, rfl⟩ (Nat.le_of_ble_eq_true rfl) (wfJ14_min_0 (Nat.le_refl _) x0 x1 G h ⟨rfl, rfl⟩)
theorem msJ15_304 : zSS RJ15 304 yJ14_min cJ14_min 2 (some Jvm.ClassFile.FieldType.int) 2 := ⟨lw_S q813 q731 q140 q732, (by decide +kernel), (by decide)⟩
abbrev mJ15_copyOf_2 : zM := (cJ15_copyOf_2, RJ15, 4, (some (Jvm.ClassFile.FieldType.array (Jvm.ClassFile.FieldType.object "java/lang/Object"))), "copyOf", [], "([Ljava/lang/Object;ILjava/lang/Class;)[Ljava/lang/Object;")
def fJ15_copyOf_2_0 (x0 : Option Nat) (x1 : Int32) (x2 : Option Nat)  (G : GS) : Option ((Option Nat) × GS) :=
  if x2 = (some (gS G 11)) then ((zna G 54 x1).bind fun G2 => x0.bind fun a4 => (zln G2 a4).bind fun v6 => (fJ14_min_0 v6 x1 G2).bind fun v9 => (zcpR G2 a4 (0 : Int32) (gz G) (0 : Int32) v9).bind fun G10 => some ((some (gz G)), G10)) else none
theorem wfJ15_copyOf_2_0 {F : zF} (hd : 2 ≤ F.2.2.2) (x0 : Option Nat) (x1 : Int32) (x2 : Option Nat)  (G : GS) {a : (Option Nat) × GS} (h : fJ15_copyOf_2_0 x0 x1 x2  G = some a) (hk : zKR F a) : J mJ15_copyOf_2 F G 0 [(0, vR x0), (1, vI x1), (2, vR x2)] [] := by
  unfold fJ15_copyOf_2_0 at h
  refine j_aload_n (j := 2) dJ15_copyOf_2_0 rfl rfl ?_
  refine j_ldcM (i := 11) (Or.inr ⟨rfl, rfl⟩) q811 dJ15_copyOf_2_1 ?_
  refine j_acmp_ne (tgt := 13) dJ15_copyOf_2_3 (by decide) (fun c1 => ?_) (fun c1 => ?_)
  · rw [if_pos c1] at h
    refine j_iload_n (j := 1) dJ15_copyOf_2_6 rfl rfl ?_
    replace h := zbE h
    obtain ⟨G2, e3, h⟩ := h
    refine j_anewa (t := 4) rfl (Or.inl rfl) q812 e3 dJ15_copyOf_2_7 ?_
    refine j_goto (tgt := 24) dJ15_copyOf_2_10 (by decide) ?_
    refine j_astore_n (lv' := [(3, vR (some (gz G))), (0, vR x0), (1, vI x1), (2, vR x2)]) dJ15_copyOf_2_24 rfl (Nat.le_of_ble_eq_true rfl) rfl ?_
    refine j_aload_n (j := 1) dJ15_copyOf_2_25 rfl rfl ?_
    refine j_iconst (v := 0) dJ15_copyOf_2_26 (by decide) ?_
    refine j_aload_n (j := 0) dJ15_copyOf_2_27 rfl rfl ?_
    refine j_iconst (v := 0) dJ15_copyOf_2_28 (by decide) ?_
    refine j_aload_n (j := 1) dJ15_copyOf_2_29 rfl rfl ?_
    replace h := zbE h
    obtain ⟨a4, e5, h⟩ := h
    subst e5
    replace h := zbE h
    obtain ⟨v6, e7, h⟩ := h
    refine j_alen e7 dJ15_copyOf_2_30 ?_
    refine j_iload_n (j := 2) dJ15_copyOf_2_31 rfl rfl ?_
    replace h := zbE h
    obtain ⟨v9, e8, h⟩ := h
    refine j_cont (zrS (As := [vI v6, vI x1]) msJ15_304 (yJ14_min_ok e8) (Nat.le_trans (Nat.le_of_ble_eq_true rfl) hd) rfl rfl (Nat.le_of_ble_eq_true rfl) dJ15_copyOf_2_32) ?_
    replace h := zbE h
    obtain ⟨G10, e11, h⟩ := h
    refine j_cpR e11 q814 q816 q815 q142 (Nat.le_trans (Nat.le_of_ble_eq_true rfl) hd) (Nat.le_of_ble_eq_true rfl) dJ15_copyOf_2_35 ?_
    refine j_aload_n (j := 0) dJ15_copyOf_2_38 rfl rfl ?_
    obtain rfl := Option.some.inj h
    exact j_aret hk.1 hk.2 rfl (Or.inr ⟨_, rfl⟩) dJ15_copyOf_2_39
  · rw [if_neg c1] at h
    refine j_aload_n (j := 2) dJ15_copyOf_2_13 rfl rfl ?_
    cases h
theorem yJ15_copyOf_2_ok {x0 : Option Nat} {x1 : Int32} {x2 : Option Nat} {G : GS} {r : Option Nat} {G1 : GS} (h : fJ15_copyOf_2_0 x0 x1 x2 G = some (r, G1)) : zRuns yJ15_copyOf_2 (ws_ yJ15_copyOf_2 cJ15_copyOf_2 4 (some (Jvm.ClassFile.FieldType.array (Jvm.ClassFile.FieldType.object "java/lang/Object")))) [vR x0, vI x1, vR x2] (.inl (some (vR r)), G, G1, 2) :=
  zentry (M := mJ15_copyOf_2) (plainFor_of_name (by decide +kernel)) ⟨rfl, rfl, rfl, rfl⟩ (Nat.le_of_ble_eq_true rfl) (wfJ15_copyOf_2_0 (Nat.le_refl _) x0 x1 x2 G h ⟨rfl, rfl⟩)
theorem msJ15_300 : zSS RJ15 300 yJ15_copyOf_2 cJ15_copyOf_2 4 (some (Jvm.ClassFile.FieldType.array (Jvm.ClassFile.FieldType.object "java/lang/Object"))) 3 := ⟨lw_S q808 q809 q141 q810, (by decide +kernel), (by decide)⟩
abbrev mJ15_copyOf : zM := (cJ15_copyOf, RJ15, 2, (some (Jvm.ClassFile.FieldType.array (Jvm.ClassFile.FieldType.object "java/lang/Object"))), "copyOf", [], "([Ljava/lang/Object;I)[Ljava/lang/Object;")
def fJ15_copyOf_0 (x0 : Option Nat) (x1 : Int32)  (G : GS) : Option ((Option Nat) × GS) :=
  x0.bind fun a1 => zk [54, 62] G a1 <| zb2 (fJ15_copyOf_2_0 (some a1) x1 (some (gS G 11)) G) fun r5 G6 => some (r5, G6)
theorem wfJ15_copyOf_0 {F : zF} (hd : 3 ≤ F.2.2.2) (x0 : Option Nat) (x1 : Int32)  (G : GS) {a : (Option Nat) × GS} (h : fJ15_copyOf_0 x0 x1  G = some a) (hk : zKR F a) : J mJ15_copyOf F G 0 [(0, vR x0), (1, vI x1)] [] := by
  unfold fJ15_copyOf_0 at h
  refine j_aload_n (j := 0) dJ15_copyOf_0 rfl rfl ?_
  refine j_iload_n (j := 1) dJ15_copyOf_1 rfl rfl ?_
  refine j_aload_n (j := 0) dJ15_copyOf_2 rfl rfl ?_
  replace h := zbE h
  obtain ⟨a1, e2, h⟩ := h
  subst e2
  replace h := zkE h
  obtain ⟨e3, h⟩ := h
  refine j_getC e3 q773 (zxw 42 rfl) q3326 q774 q807 (Nat.le_trans (Nat.le_of_ble_eq_true rfl) hd) (Nat.le_of_ble_eq_true rfl) dJ15_copyOf_3 ?_
  replace h := zb2E h
  obtain ⟨r5, G6, e4, h⟩ := h
  refine j_cont (zrS (As := [vR (some a1), vI x1, vR (some (gS G 11))]) msJ15_300 (yJ15_copyOf_2_ok e4) (Nat.le_trans (Nat.le_of_ble_eq_true rfl) hd) rfl rfl (Nat.le_of_ble_eq_true rfl) dJ15_copyOf_6) ?_
  obtain rfl := Option.some.inj h
  exact j_aret hk.1 hk.2 rfl (Or.inr ⟨_, rfl⟩) dJ15_copyOf_9
theorem yJ15_copyOf_ok {x0 : Option Nat} {x1 : Int32} {G : GS} {r : Option Nat} {G1 : GS} (h : fJ15_copyOf_0 x0 x1 G = some (r, G1)) : zRuns yJ15_copyOf (ws_ yJ15_copyOf cJ15_copyOf 2 (some (Jvm.ClassFile.FieldType.array (Jvm.ClassFile.FieldType.object "java/lang/Object")))) [vR x0, vI x1] (.inl (some (vR r)), G, G1, 3) :=
  zentry (M := mJ15_copyOf) (plainFor_of_name (by decide +kernel)) ⟨rfl, rfl, rfl, rfl⟩ (Nat.le_of_ble_eq_true rfl) (wfJ15_copyOf_0 (Nat.le_refl _) x0 x1 G h ⟨rfl, rfl⟩)
theorem fgJ2_9 : zFG RJ2 9 11 1 (.array (.object "java/lang/Object")) := ⟨(RJ2, TJ2, 3, tyJ2), rfl, by decide, in_J2, rfl, "java/util/ArrayList", Or.inl rfl, Or.inl q197⟩
theorem msJ2_66 : zSS RJ2 66 yJ15_copyOf cJ15_copyOf 2 (some (Jvm.ClassFile.FieldType.array (Jvm.ClassFile.FieldType.object "java/lang/Object"))) 2 := ⟨lw_S q1773 q771 q141 q772, (by decide +kernel), (by decide)⟩
theorem msJ2_73 : zSS RJ2 73 yJ13_newLength cJ13_newLength 4 (some Jvm.ClassFile.FieldType.int) 3 := ⟨lw_S q1772 q761 q139 q762, (by decide +kernel), (by decide)⟩
theorem msJ2_79 : zSS RJ2 79 yJ14_max cJ14_max 2 (some Jvm.ClassFile.FieldType.int) 2 := ⟨lw_S q1774 q764 q140 q765, (by decide +kernel), (by decide)⟩
abbrev mJ2_grow_2 : zM := (cJ2_grow_2, RJ2, 4, (some (Jvm.ClassFile.FieldType.array (Jvm.ClassFile.FieldType.object "java/lang/Object"))), "grow", [], "(I)[Ljava/lang/Object;")
def fJ2_grow_2_20 (t : Nat) (x1 : Int32) (x2 : Int32)  (G : GS) : Option ((Option Nat) × GS) :=
  zb2 (fJ13_newLength_0 x2 (x1 - x2) (x2 >>> ((1 : Int32) &&& 31)) G) fun v2 G3 => (zgR G3 12 t 1).bind fun r4 => zb2 (fJ15_copyOf_0 r4 v2 G3) fun r7 G8 => (zpR G8 12 t 1 r7).bind fun G9 => some (r7, G9)
theorem wfJ2_grow_2_20 {F : zF} (hd : 4 ≤ F.2.2.2) (t : Nat) (x1 : Int32) (x2 : Int32)  (G : GS) {a : (Option Nat) × GS} (h : fJ2_grow_2_20 t x1 x2  G = some a) (hk : zKR F a) : J mJ2_grow_2 F G 20 [(0, vR (some t)), (1, vI x1), (2, vI x2)] [] := by
  unfold fJ2_grow_2_20 at h
  refine j_iload_n (j := 2) dJ2_grow_2_20 rfl rfl ?_
  refine j_iload_n (j := 1) dJ2_grow_2_21 rfl rfl ?_
  refine j_iload_n (j := 2) dJ2_grow_2_22 rfl rfl ?_
  refine j_isub dJ2_grow_2_23 ?_
  refine j_iload_n (j := 2) dJ2_grow_2_24 rfl rfl ?_
  refine j_iconst (v := 1) dJ2_grow_2_25 (by decide) ?_
  refine j_ishr dJ2_grow_2_26 ?_
  replace h := zb2E h
  obtain ⟨v2, G3, e1, h⟩ := h
  refine j_cont (zrS (As := [vI x2, vI (x1 - x2), vI (x2 >>> ((1 : Int32) &&& 31))]) msJ2_73 (yJ13_newLength_ok e1) (Nat.le_trans (Nat.le_of_ble_eq_true rfl) hd) rfl rfl (Nat.le_of_ble_eq_true rfl) dJ2_grow_2_27) ?_
  refine j_istore_n (lv' := [(3, vI v2), (0, vR (some t)), (1, vI x1), (2, vI x2)]) dJ2_grow_2_30 rfl (Nat.le_of_ble_eq_true rfl) rfl ?_
  refine j_aload_n (j := 1) dJ2_grow_2_31 rfl rfl ?_
  refine j_aload_n (j := 1) dJ2_grow_2_32 rfl rfl ?_
  replace h := zbE h
  obtain ⟨r4, e5, h⟩ := h
  refine j_getR fgJ2_9 (fun _ _ _ => rfl) dJ2_grow_2_33 e5 ?_
  refine j_iload_n (j := 0) dJ2_grow_2_36 rfl rfl ?_
  replace h := zb2E h
  obtain ⟨r7, G8, e6, h⟩ := h
  refine j_cont (zrS (As := [vR r4, vI v2]) msJ2_66 (yJ15_copyOf_ok e6) (Nat.le_trans (Nat.le_of_ble_eq_true rfl) hd) rfl rfl (Nat.le_of_ble_eq_true rfl) dJ2_grow_2_37) ?_
  refine j_dup_x1 dJ2_grow_2_40 rfl rfl ?_
  replace h := zbE h
  obtain ⟨G9, e10, h⟩ := h
  refine j_putR fpJ2_9_J2 (Or.inl rfl) (Or.inr ⟨_, rfl⟩) dJ2_grow_2_41 e10 ?_
  obtain rfl := Option.some.inj h
  exact j_aret hk.1 hk.2 rfl (Or.inr ⟨_, rfl⟩) dJ2_grow_2_44
def fJ2_grow_2_0 (t : Nat) (x1 : Int32)  (G : GS) : Option ((Option Nat) × GS) :=
  (zgR G 12 t 1).bind fun r1 => r1.bind fun a3 => (zln G a3).bind fun v5 => if 0 < v5 then (fJ2_grow_2_20 t x1 v5 G) else ((zgR G 12 t 1).bind fun r8 => if r8 = (some (gS G 0)) then ((fJ14_max_0 10 x1 G).bind fun v12 => (zna G 54 v12).bind fun G13 => (zpR G13 12 t 1 (some (gz G))).bind fun G15 => some ((some (gz G)), G15)) else (fJ2_grow_2_20 t x1 v5 G))
theorem wfJ2_grow_2_0 {F : zF} (hd : 4 ≤ F.2.2.2) (t : Nat) (x1 : Int32)  (G : GS) {a : (Option Nat) × GS} (h : fJ2_grow_2_0 t x1  G = some a) (hk : zKR F a) : J mJ2_grow_2 F G 0 [(0, vR (some t)), (1, vI x1)] [] := by
  unfold fJ2_grow_2_0 at h
  refine j_aload_n (j := 0) dJ2_grow_2_0 rfl rfl ?_
  replace h := zbE h
  obtain ⟨r1, e2, h⟩ := h
  refine j_getR fgJ2_9 (fun _ _ _ => rfl) dJ2_grow_2_1 e2 ?_
  replace h := zbE h
  obtain ⟨a3, e4, h⟩ := h
  subst e4
  replace h := zbE h
  obtain ⟨v5, e6, h⟩ := h
  refine j_alen e6 dJ2_grow_2_4 ?_
  refine j_istore_n (lv' := [(2, vI v5), (0, vR (some t)), (1, vI x1)]) dJ2_grow_2_5 rfl (Nat.le_of_ble_eq_true rfl) rfl ?_
  refine j_iload_n (j := 0) dJ2_grow_2_6 rfl rfl ?_
  refine j_if_gt (tgt := 20) dJ2_grow_2_7 (by decide) (fun c7 => ?_) (fun c7 => ?_)
  · rw [if_pos c7] at h
    exact J.sub (zall [1, 2, 0] rfl) (wfJ2_grow_2_20 hd t x1 v5  G h hk)
  · rw [if_neg c7] at h
    refine j_aload_n (j := 1) dJ2_grow_2_10 rfl rfl ?_
    replace h := zbE h
    obtain ⟨r8, e9, h⟩ := h
    refine j_getR fgJ2_9 (fun _ _ _ => rfl) dJ2_grow_2_11 e9 ?_
    refine j_gets (i := 0) (x := vR (some (gS G 0))) rfl rfl q195 dJ2_grow_2_14 ?_
    refine j_acmp_eq (tgt := 45) dJ2_grow_2_17 (by decide) (fun c10 => ?_) (fun c10 => ?_)
    · rw [if_pos c10] at h
      refine j_aload_n (j := 1) dJ2_grow_2_45 rfl rfl ?_
      refine j_bipush (v := 10) dJ2_grow_2_46 (by decide) ?_
      refine j_iload_n (j := 2) dJ2_grow_2_48 rfl rfl ?_
      replace h := zbE h
      obtain ⟨v12, e11, h⟩ := h
      refine j_cont (zrS (As := [vI 10, vI x1]) msJ2_79 (yJ14_max_ok e11) (Nat.le_trans (Nat.le_of_ble_eq_true rfl) hd) rfl rfl (Nat.le_of_ble_eq_true rfl) dJ2_grow_2_49) ?_
      replace h := zbE h
      obtain ⟨G13, e14, h⟩ := h
      refine j_anewa (t := 4) rfl (Or.inl rfl) q1775 e14 dJ2_grow_2_52 ?_
      refine j_dup_x1 dJ2_grow_2_55 rfl rfl ?_
      replace h := zbE h
      obtain ⟨G15, e16, h⟩ := h
      refine j_putR fpJ2_9_J2 (Or.inl rfl) (Or.inr ⟨_, rfl⟩) dJ2_grow_2_56 e16 ?_
      obtain rfl := Option.some.inj h
      exact j_aret hk.1 hk.2 rfl (Or.inr ⟨_, rfl⟩) dJ2_grow_2_59
    · rw [if_neg c10] at h
      exact J.sub (zall [1, 2, 0] rfl) (wfJ2_grow_2_20 hd t x1 v5  G h hk)
theorem yJ2_grow_2_ok {t : Nat} {x1 : Int32} {G : GS} {r : Option Nat} {G1 : GS} (h : fJ2_grow_2_0 t x1 G = some (r, G1)) : zRuns yJ2_grow_2 (ws_ yJ2_grow_2 cJ2_grow_2 4 (some (Jvm.ClassFile.FieldType.array (Jvm.ClassFile.FieldType.object "java/lang/Object")))) [vR (some t), vI x1] (.inl (some (vR r)), G, G1, 4) :=
  zentry (M := mJ2_grow_2) (plainFor_of_name (by decide +kernel)) ⟨rfl, rfl, rfl, rfl⟩ (Nat.le_of_ble_eq_true rfl) (wfJ2_grow_2_0 (Nat.le_refl _) t x1 G h ⟨rfl, rfl⟩)
theorem zk_12 : ∀ k, [12].contains k = true → zKc k = some "java/util/ArrayList" := fun k h => by rw [zKc_one h]; rfl
theorem msJ2_69 : zSV RJ2 69 RJ2 yJ2_grow_2 cJ2_grow_2 4 (some (Jvm.ClassFile.FieldType.array (Jvm.ClassFile.FieldType.object "java/lang/Object"))) 1 := ⟨lw_V q1768 q1770 qs34 q126 q1771, (by decide +kernel), (by decide)⟩
abbrev mJ2_grow : zM := (cJ2_grow, RJ2, 1, (some (Jvm.ClassFile.FieldType.array (Jvm.ClassFile.FieldType.object "java/lang/Object"))), "grow", [], "()[Ljava/lang/Object;")
def fJ2_grow_0 (t : Nat)  (G : GS) : Option ((Option Nat) × GS) :=
  (zgI G 12 t 2).bind fun v1 => zk [12] G t <| zb2 (fJ2_grow_2_0 t (v1 + 1) G) fun r5 G6 => some (r5, G6)
theorem wfJ2_grow_0 {F : zF} (hd : 5 ≤ F.2.2.2) (t : Nat)  (G : GS) {a : (Option Nat) × GS} (h : fJ2_grow_0 t  G = some a) (hk : zKR F a) : J mJ2_grow F G 0 [(0, vR (some t))] [] := by
  unfold fJ2_grow_0 at h
  refine j_aload_n (j := 0) dJ2_grow_0 rfl rfl ?_
  refine j_aload_n (j := 0) dJ2_grow_1 rfl rfl ?_
  replace h := zbE h
  obtain ⟨v1, e2, h⟩ := h
  refine j_getI fgJ2_48 (fun _ _ _ => rfl) dJ2_grow_2 e2 ?_
  refine j_iconst (v := 1) dJ2_grow_5 (by decide) ?_
  refine j_iadd dJ2_grow_6 ?_
  replace h := zkE h
  obtain ⟨e3, h⟩ := h
  replace h := zb2E h
  obtain ⟨r5, G6, e4, h⟩ := h
  refine j_cont (zrV (As := [vI (v1 + 1)]) msJ2_69 (yJ2_grow_2_ok e4) (Nat.le_trans (Nat.le_of_ble_eq_true rfl) hd) (zk_12 _ e3) rfl rfl (Nat.le_of_ble_eq_true rfl) dJ2_grow_7) ?_
  obtain rfl := Option.some.inj h
  exact j_aret hk.1 hk.2 rfl (Or.inr ⟨_, rfl⟩) dJ2_grow_10
theorem yJ2_grow_ok {t : Nat} {G : GS} {r : Option Nat} {G1 : GS} (h : fJ2_grow_0 t G = some (r, G1)) : zRuns yJ2_grow (ws_ yJ2_grow cJ2_grow 1 (some (Jvm.ClassFile.FieldType.array (Jvm.ClassFile.FieldType.object "java/lang/Object")))) [vR (some t)] (.inl (some (vR r)), G, G1, 5) :=
  zentry (M := mJ2_grow) (plainFor_of_name (by decide +kernel)) ⟨rfl, rfl, rfl, rfl⟩ (Nat.le_of_ble_eq_true rfl) (wfJ2_grow_0 (Nat.le_refl _) t G h ⟨rfl, rfl⟩)
theorem fpJ2_48_J2 : zFP RJ2 48 11 2 (.int) false := ⟨(RJ2, TJ2, 3, tyJ2), rfl, by decide, in_J2, tyJ2_ok, nmJ2, rfl, rfl, (by decide), "java/util/ArrayList", Or.inl rfl, q200⟩
theorem msJ2_129 : zSV RJ2 129 RJ2 yJ2_grow cJ2_grow 1 (some (Jvm.ClassFile.FieldType.array (Jvm.ClassFile.FieldType.object "java/lang/Object"))) 0 := ⟨lw_V q1764 q1766 qs33 q126 q1767, (by decide +kernel), (by decide)⟩
abbrev mJ2_add_2 : zM := (cJ2_add_2, RJ2, 4, none, "add", [], "(Ljava/lang/Object;[Ljava/lang/Object;I)V")
def fJ2_add_2_11 (t : Nat) (x1 : Option Nat) (x2 : Option Nat) (x3 : Int32)  (G : GS) : Option (GS) :=
  x2.bind fun a1 => (zsR G 54 a1 x3 x1 [3, 6, 10, 21, 61]).bind fun G3 => (zpI G3 12 t 2 (x3 + 1)).bind fun G5 => some G5
theorem wfJ2_add_2_11 {F : zF} (hd : 6 ≤ F.2.2.2) (t : Nat) (x1 : Option Nat) (x2 : Option Nat) (x3 : Int32)  (G : GS) {a : GS} (h : fJ2_add_2_11 t x1 x2 x3  G = some a) (hk : zKV F a) : J mJ2_add_2 F G 11 [(0, vR (some t)), (1, vR x1), (2, vR x2), (3, vI x3)] [] := by
  unfold fJ2_add_2_11 at h
  refine j_aload_n (j := 2) dJ2_add_2_11 rfl rfl ?_
  refine j_iload_n (j := 3) dJ2_add_2_12 rfl rfl ?_
  refine j_aload_n (j := 1) dJ2_add_2_13 rfl rfl ?_
  replace h := zbE h
  obtain ⟨a1, e2, h⟩ := h
  subst e2
  replace h := zbE h
  obtain ⟨G3, e4, h⟩ := h
  refine j_aast (t := 4) rfl e4 zobjK dJ2_add_2_14 ?_
  refine j_aload_n (j := 0) dJ2_add_2_15 rfl rfl ?_
  refine j_iload_n (j := 3) dJ2_add_2_16 rfl rfl ?_
  refine j_iconst (v := 1) dJ2_add_2_17 (by decide) ?_
  refine j_iadd dJ2_add_2_18 ?_
  replace h := zbE h
  obtain ⟨G5, e6, h⟩ := h
  refine j_putI fpJ2_48_J2 (Or.inl rfl) rfl dJ2_add_2_19 e6 ?_
  obtain rfl := Option.some.inj h
  exact j_vret hk.1 hk.2 rfl dJ2_add_2_22
def fJ2_add_2_0 (t : Nat) (x1 : Option Nat) (x2 : Option Nat) (x3 : Int32)  (G : GS) : Option (GS) :=
  x2.bind fun a1 => (zln G a1).bind fun v3 => if x3 = v3 then (zk [12] G t <| zb2 (fJ2_grow_0 t G) fun r8 G9 => fJ2_add_2_11 t x1 r8 x3 G9) else (fJ2_add_2_11 t x1 (some a1) x3 G)
theorem wfJ2_add_2_0 {F : zF} (hd : 6 ≤ F.2.2.2) (t : Nat) (x1 : Option Nat) (x2 : Option Nat) (x3 : Int32)  (G : GS) {a : GS} (h : fJ2_add_2_0 t x1 x2 x3  G = some a) (hk : zKV F a) : J mJ2_add_2 F G 0 [(0, vR (some t)), (1, vR x1), (2, vR x2), (3, vI x3)] [] := by
  unfold fJ2_add_2_0 at h
  refine j_iload_n (j := 3) dJ2_add_2_0 rfl rfl ?_
  refine j_aload_n (j := 2) dJ2_add_2_1 rfl rfl ?_
  replace h := zbE h
  obtain ⟨a1, e2, h⟩ := h
  subst e2
  replace h := zbE h
  obtain ⟨v3, e4, h⟩ := h
  refine j_alen e4 dJ2_add_2_2 ?_
  refine j_icmp_ne (tgt := 11) dJ2_add_2_3 (by decide) (fun c5 => ?_) (fun c5 => ?_)
  · rw [if_pos c5] at h
    refine j_aload_n (j := 0) dJ2_add_2_6 rfl rfl ?_
    replace h := zkE h
    obtain ⟨e6, h⟩ := h
    replace h := zb2E h
    obtain ⟨r8, G9, e7, h⟩ := h
    refine j_cont (zrV (As := []) msJ2_129 (yJ2_grow_ok e7) (Nat.le_trans (Nat.le_of_ble_eq_true rfl) hd) (zk_12 _ e6) rfl rfl (Nat.le_of_ble_eq_true rfl) dJ2_add_2_7) ?_
    refine j_astore_n (lv' := [(2, vR r8), (0, vR (some t)), (1, vR x1), (3, vI x3)]) dJ2_add_2_10 rfl (Nat.le_of_ble_eq_true rfl) rfl ?_
    exact J.sub (zall [1, 2, 0, 3] rfl) (wfJ2_add_2_11 hd t x1 r8 x3  G9 h hk)
  · rw [if_neg c5] at h
    exact J.sub (zall [0, 1, 2, 3] rfl) (wfJ2_add_2_11 hd t x1 (some a1) x3  G h hk)
theorem yJ2_add_2_ok {t : Nat} {x1 : Option Nat} {x2 : Option Nat} {x3 : Int32} {G : GS} {G1 : GS} (h : fJ2_add_2_0 t x1 x2 x3 G = some G1) : zRuns yJ2_add_2 (ws_ yJ2_add_2 cJ2_add_2 4 none) [vR (some t), vR x1, vR x2, vI x3] (.inl none, G, G1, 6) :=
  zentry (M := mJ2_add_2) (plainFor_of_name (by decide +kernel)) ⟨rfl, rfl, rfl, rfl⟩ (Nat.le_of_ble_eq_true rfl) (wfJ2_add_2_0 (Nat.le_refl _) t x1 x2 x3 G h ⟨rfl, rfl⟩)
theorem fgJ2_63 : zFG RJ2 63 11 0 (.int) := ⟨(RJ2, TJ2, 3, tyJ2), rfl, by decide, in_J2, rfl, "java/util/ArrayList", Or.inr q203, Or.inl q204⟩
theorem fpJ2_63_J2 : zFP RJ2 63 11 0 (.int) false := ⟨(RJ2, TJ2, 3, tyJ2), rfl, by decide, in_J2, tyJ2_ok, nmJ2, rfl, rfl, (by decide), "java/util/ArrayList", Or.inr q203, q204⟩
theorem msJ2_131 : zSV RJ2 131 RJ2 yJ2_add_2 cJ2_add_2 4 none 3 := ⟨lw_V q1760 q1762 qs32 q126 q1763, (by decide +kernel), (by decide)⟩
abbrev mJ2_add : zM := (cJ2_add, RJ2, 2, (some Jvm.ClassFile.FieldType.boolean), "add", [], "(Ljava/lang/Object;)Z")
def fJ2_add_0 (t : Nat) (x1 : Option Nat)  (G : GS) : Option ((Int32) × GS) :=
  (zgI G 12 t 0).bind fun v1 => (zpI G 12 t 0 (v1 + 1)).bind fun G3 => (zgR G3 12 t 1).bind fun r5 => (zgI G3 12 t 2).bind fun v7 => zk [12] G3 t <| (fJ2_add_2_0 t x1 r5 v7 G3).bind fun G11 => zcond (zbb 1) (some (1, G11))
theorem wfJ2_add_0 {F : zF} (hd : 7 ≤ F.2.2.2) (t : Nat) (x1 : Option Nat)  (G : GS) {a : (Int32) × GS} (h : fJ2_add_0 t x1  G = some a) (hk : zKI F a) : J mJ2_add F G 0 [(0, vR (some t)), (1, vR x1)] [] := by
  unfold fJ2_add_0 at h
  refine j_aload_n (j := 0) dJ2_add_0 rfl rfl ?_
  refine j_dup dJ2_add_1 rfl ?_
  replace h := zbE h
  obtain ⟨v1, e2, h⟩ := h
  refine j_getI fgJ2_63 (fun _ _ _ => rfl) dJ2_add_2 e2 ?_
  refine j_iconst (v := 1) dJ2_add_5 (by decide) ?_
  refine j_iadd dJ2_add_6 ?_
  replace h := zbE h
  obtain ⟨G3, e4, h⟩ := h
  refine j_putI fpJ2_63_J2 (Or.inl rfl) rfl dJ2_add_7 e4 ?_
  refine j_aload_n (j := 0) dJ2_add_10 rfl rfl ?_
  refine j_aload_n (j := 1) dJ2_add_11 rfl rfl ?_
  refine j_aload_n (j := 0) dJ2_add_12 rfl rfl ?_
  replace h := zbE h
  obtain ⟨r5, e6, h⟩ := h
  refine j_getR fgJ2_9 (fun _ _ _ => rfl) dJ2_add_13 e6 ?_
  refine j_aload_n (j := 0) dJ2_add_16 rfl rfl ?_
  replace h := zbE h
  obtain ⟨v7, e8, h⟩ := h
  refine j_getI fgJ2_48 (fun _ _ _ => rfl) dJ2_add_17 e8 ?_
  replace h := zkE h
  obtain ⟨e9, h⟩ := h
  replace h := zbE h
  obtain ⟨G11, e10, h⟩ := h
  refine j_cont (zrV (As := [vR x1, vR r5, vI v7]) msJ2_131 (yJ2_add_2_ok e10) (Nat.le_trans (Nat.le_of_ble_eq_true rfl) hd) (zk_12 _ e9) rfl rfl (Nat.le_of_ble_eq_true rfl) dJ2_add_20) ?_
  refine j_iconst (v := 1) dJ2_add_23 (by decide) ?_
  replace h := zcondE h
  obtain ⟨e12, h⟩ := h
  obtain rfl := Option.some.inj h
  exact j_zret hk.1 hk.2 rfl (zbb_n e12) dJ2_add_24
theorem yJ2_add_ok {t : Nat} {x1 : Option Nat} {G : GS} {r : Int32} {G1 : GS} (h : fJ2_add_0 t x1 G = some (r, G1)) : zRuns yJ2_add (ws_ yJ2_add cJ2_add 2 (some Jvm.ClassFile.FieldType.boolean)) [vR (some t), vR x1] (.inl (some (vI r)), G, G1, 7) :=
  zentry (M := mJ2_add) (plainFor_of_name (by decide +kernel)) ⟨rfl, rfl, rfl, rfl⟩ (Nat.le_of_ble_eq_true rfl) (wfJ2_add_0 (Nat.le_refl _) t x1 G h ⟨rfl, rfl⟩)
theorem fpX1_27_X1 : zFP RX1 27 0 1 (.object "SelahGenerator$Sets") false := ⟨(RX1, TX1, 5, tyX1), rfl, by decide, in_X1, tyX1_ok, nmX1, rfl, rfl, (by decide), "SelahGenerator", Or.inl rfl, q248⟩
theorem fpX1_36_X1 : zFP RX1 36 0 2 (.object "SelahGenerator$Pairs") false := ⟨(RX1, TX1, 5, tyX1), rfl, by decide, in_X1, tyX1_ok, nmX1, rfl, rfl, (by decide), "SelahGenerator", Or.inl rfl, q249⟩
theorem fpX1_43_X1 : zFP RX1 43 0 3 (.object "SelahGenerator$Parse") false := ⟨(RX1, TX1, 5, tyX1), rfl, by decide, in_X1, tyX1_ok, nmX1, rfl, rfl, (by decide), "SelahGenerator", Or.inl rfl, q250⟩
abbrev mX1_changed : zM := (cX1_changed, RX1, 2, (some Jvm.ClassFile.FieldType.int), "changed", [], "(I)I")
def fX1_changed_0 (t : Nat) (x1 : Int32)  (G : GS) : Option ((Int32) × GS) :=
  (zpR G 1 t 1 none).bind fun G1 => (zpR G1 1 t 2 none).bind fun G3 => (zpR G3 1 t 3 none).bind fun G5 => some (x1, G5)
theorem wfX1_changed_0 {F : zF} (hd : 1 ≤ F.2.2.2) (t : Nat) (x1 : Int32)  (G : GS) {a : (Int32) × GS} (h : fX1_changed_0 t x1  G = some a) (hk : zKI F a) : J mX1_changed F G 0 [(0, vR (some t)), (1, vI x1)] [] := by
  unfold fX1_changed_0 at h
  refine j_aload_n (j := 0) dX1_changed_0 rfl rfl ?_
  refine j_null dX1_changed_1 ?_
  replace h := zbE h
  obtain ⟨G1, e2, h⟩ := h
  refine j_putR fpX1_27_X1 (Or.inl rfl) (Or.inl ⟨_, rfl⟩) dX1_changed_2 e2 ?_
  refine j_aload_n (j := 0) dX1_changed_5 rfl rfl ?_
  refine j_null dX1_changed_6 ?_
  replace h := zbE h
  obtain ⟨G3, e4, h⟩ := h
  refine j_putR fpX1_36_X1 (Or.inl rfl) (Or.inl ⟨_, rfl⟩) dX1_changed_7 e4 ?_
  refine j_aload_n (j := 0) dX1_changed_10 rfl rfl ?_
  refine j_null dX1_changed_11 ?_
  replace h := zbE h
  obtain ⟨G5, e6, h⟩ := h
  refine j_putR fpX1_43_X1 (Or.inl rfl) (Or.inl ⟨_, rfl⟩) dX1_changed_12 e6 ?_
  refine j_iload_n (j := 1) dX1_changed_15 rfl rfl ?_
  obtain rfl := Option.some.inj h
  exact j_iret hk.1 hk.2 rfl dX1_changed_16
theorem yX1_changed_ok {t : Nat} {x1 : Int32} {G : GS} {r : Int32} {G1 : GS} (h : fX1_changed_0 t x1 G = some (r, G1)) : zRuns yX1_changed (ws_ yX1_changed cX1_changed 2 (some Jvm.ClassFile.FieldType.int)) [vR (some t), vI x1] (.inl (some (vI r)), G, G1, 1) :=
  zentry (M := mX1_changed) (plainFor_of_name (by decide +kernel)) ⟨rfl, rfl, rfl, rfl⟩ (Nat.le_of_ble_eq_true rfl) (wfX1_changed_0 (Nat.le_refl _) t x1 G h ⟨rfl, rfl⟩)
theorem zk_1 : ∀ k, [1].contains k = true → zKc k = some "SelahGenerator" := fun k h => by rw [zKc_one h]; rfl
theorem fgX1_16 : zFG RX1 16 0 0 (.object "java/util/List") := ⟨(RX1, TX1, 5, tyX1), rfl, by decide, in_X1, rfl, "SelahGenerator", Or.inl rfl, Or.inl q245⟩
theorem msX1_54_J2 : zSF RX1 54 RJ2 ⟨"java/util/List", "size", "()I"⟩ yJ2_size cJ2_size 1 (some Jvm.ClassFile.FieldType.int) 0 := ⟨lw_F q268 q272 q274 q126 q276, zfw 15 rfl, ⟨11, _, rfl, rfl⟩, (by decide +kernel), (by decide)⟩
theorem msX1_76 : zSS RX1 76 yX1_index cX1_index 1 (some Jvm.ClassFile.FieldType.int) 1 := ⟨lw_S q1706 q1707 q123 q1708, (by decide +kernel), (by decide)⟩
theorem msX1_79 : zSS RX1 79 yX1_may cX1_may 1 none 1 := ⟨lw_S q1533 q1534 q123 q1535, (by decide +kernel), (by decide)⟩
theorem msX1_83 : zSI RX1 83 yX3_init cX3_init 3 2 := ⟨q1730, q138, q1728, q1729, rfl, (by decide +kernel), (by decide)⟩
theorem msX1_86_J2 : zSF RX1 86 RJ2 ⟨"java/util/List", "add", "(Ljava/lang/Object;)Z"⟩ yJ2_add cJ2_add 2 (some Jvm.ClassFile.FieldType.boolean) 1 := ⟨lw_F q1752 q1755 q1757 q126 q1759, zfw 5 rfl, ⟨11, _, rfl, rfl⟩, (by decide +kernel), (by decide)⟩
theorem msX1_90 : zSV RX1 90 RX1 yX1_changed cX1_changed 2 (some Jvm.ClassFile.FieldType.int) 1 := ⟨lw_V q1776 q1778 qs35 q123 q1779, (by decide +kernel), (by decide)⟩
abbrev mX1_addRule : zM := (cX1_addRule, RX1, 3, (some Jvm.ClassFile.FieldType.int), "addRule", [], "(I)I")
def fX1_addRule_27 (t : Nat) (x2 : Int32) (s0 : Int32) (G : GS) : Option (((Int32) ⊕ String) × GS) :=
  zb3 (fX1_may_0 s0 G) (fun u5 G2 => (zgR G2 1 t 0).bind fun r6 => zl (al G2 3 0 2) fun G8 => (zna G8 50 (0 : Int32)).bind fun G10 => (fX3_init_0 (gz G2) x2 (some (gz G8)) G10).bind fun G13 => r6.bind fun a14 => zk [12] G13 a14 <| zb2 (fJ2_add_0 a14 (some (gz G2)) G13) fun v18 G19 => (zgR G19 1 t 0).bind fun r20 => r20.bind fun a22 => zk [12] G19 a22 <| (fJ2_size_0 a22 G19).bind fun v26 => zk [1] G19 t <| zb2 (fX1_changed_0 t (v26 - 1) G19) fun v29 G30 => some (.inl v29, G30)) (fun X3 G4 => some (.inr X3, G4))
theorem wfX1_addRule_27 {F : zF} (hd : 9 ≤ F.2.2.2) (t : Nat) (x2 : Int32) (s0 : Int32) (G : GS) {a : ((Int32) ⊕ String) × GS} (h : fX1_addRule_27 t x2 s0 G = some a) (hk : zKXI F a) : J mX1_addRule F G 27 [(0, vR (some t)), (2, vI x2)] [vI s0] := by
  unfold fX1_addRule_27 at h
  replace h := zb3E h
  rcases h with ⟨u5, G2, e1, h⟩ | ⟨X3, G4, e1, h⟩
  · refine j_cont (zrS (As := [vI s0]) msX1_79 (yX1_may_ok e1) (Nat.le_trans (Nat.le_of_ble_eq_true rfl) hd) rfl rfl (Nat.le_of_ble_eq_true rfl) dX1_addRule_27) ?_
    refine j_aload_n (j := 0) dX1_addRule_30 rfl rfl ?_
    replace h := zbE h
    obtain ⟨r6, e7, h⟩ := h
    refine j_getR fgX1_16 (fun _ _ _ => rfl) dX1_addRule_31 e7 ?_
    replace h := zlE h
    obtain ⟨G8, e9, h⟩ := h
    refine j_new (c := 2) (n := 2) (r := (RX3, TX3, 2, tyX3)) rfl rfl in_X3 tyX3_ok nwX3 q1615 q1727 q138 dX1_addRule_34 ?_
    rw [show al G2 (2 + 1) 0 2 = G8 from e9.symm]
    refine j_dup dX1_addRule_37 rfl ?_
    refine j_iload_n (j := 1) dX1_addRule_38 rfl rfl ?_
    refine j_iconst (v := 0) dX1_addRule_39 (by decide) ?_
    replace h := zbE h
    obtain ⟨G10, e11, h⟩ := h
    refine j_newa (t := 0) (ty := .int) rfl rfl q455 (fun _ _ _ e1 e2 e3 => by simp only [zfv, e1, e2, e3] <;> rfl) (by decide) (fun _ _ h => h) e11 dX1_addRule_40 ?_
    replace h := zbE h
    obtain ⟨G13, e12, h⟩ := h
    refine j_cont (zrI (As := [vI x2, vR (some (gz G8))]) msX1_83 (yX3_init_ok e12) (Nat.le_trans (Nat.le_of_ble_eq_true rfl) hd) rfl rfl (Nat.le_of_ble_eq_true rfl) dX1_addRule_42) ?_
    replace h := zbE h
    obtain ⟨a14, e15, h⟩ := h
    subst e15
    replace h := zkE h
    obtain ⟨e16, h⟩ := h
    replace h := zb2E h
    obtain ⟨v18, G19, e17, h⟩ := h
    refine j_cont (zrF (As := [vR (some (gz G2))]) msX1_86_J2 (yJ2_add_ok e17) (Nat.le_trans (Nat.le_of_ble_eq_true rfl) hd) (zk_12 _ e16) rfl rfl (Nat.le_of_ble_eq_true rfl) dX1_addRule_45) ?_
    refine j_pop dX1_addRule_50 rfl ?_
    refine j_aload_n (j := 0) dX1_addRule_51 rfl rfl ?_
    refine j_aload_n (j := 0) dX1_addRule_52 rfl rfl ?_
    replace h := zbE h
    obtain ⟨r20, e21, h⟩ := h
    refine j_getR fgX1_16 (fun _ _ _ => rfl) dX1_addRule_53 e21 ?_
    replace h := zbE h
    obtain ⟨a22, e23, h⟩ := h
    subst e23
    replace h := zkE h
    obtain ⟨e24, h⟩ := h
    replace h := zbE h
    obtain ⟨v26, e25, h⟩ := h
    refine j_cont (zrF (As := []) msX1_54_J2 (yJ2_size_ok e25) (Nat.le_trans (Nat.le_of_ble_eq_true rfl) hd) (zk_12 _ e24) rfl rfl (Nat.le_of_ble_eq_true rfl) dX1_addRule_56) ?_
    refine j_iconst (v := 1) dX1_addRule_61 (by decide) ?_
    refine j_isub dX1_addRule_62 ?_
    replace h := zkE h
    obtain ⟨e27, h⟩ := h
    replace h := zb2E h
    obtain ⟨v29, G30, e28, h⟩ := h
    refine j_cont (zrV (As := [vI (v26 - 1)]) msX1_90 (yX1_changed_ok e28) (Nat.le_trans (Nat.le_of_ble_eq_true rfl) hd) (zk_1 _ e27) rfl rfl (Nat.le_of_ble_eq_true rfl) dX1_addRule_63) ?_
    obtain rfl := Option.some.inj h
    exact j_iret hk.1 hk.2 rfl dX1_addRule_66
  · refine j_thr (zrS (As := [vI s0]) msX1_79 (yX1_may_ok e1) (Nat.le_trans (Nat.le_of_ble_eq_true rfl) hd) rfl rfl (Nat.le_of_ble_eq_true rfl) dX1_addRule_27) ?_
    obtain rfl := Option.some.inj h
    exact jx_out hk.1 hk.2 (by decide)
def fX1_addRule_0 (t : Nat) (x1 : Int32)  (G : GS) : Option (((Int32) ⊕ String) × GS) :=
  zb3 (fX1_index_0 x1 G) (fun v2 G3 => (zgR G3 1 t 0).bind fun r6 => r6.bind fun a8 => zk [12] G3 a8 <| (fJ2_size_0 a8 G3).bind fun v12 => if 48 ≤ v12 then (fX1_addRule_27 t (20 + v2) 0 G3) else (fX1_addRule_27 t (20 + v2) 1 G3)) (fun X4 G5 => some (.inr X4, G5))
theorem wfX1_addRule_0 {F : zF} (hd : 9 ≤ F.2.2.2) (t : Nat) (x1 : Int32)  (G : GS) {a : ((Int32) ⊕ String) × GS} (h : fX1_addRule_0 t x1  G = some a) (hk : zKXI F a) : J mX1_addRule F G 0 [(0, vR (some t)), (1, vI x1)] [] := by
  unfold fX1_addRule_0 at h
  refine j_bipush (v := 20) dX1_addRule_0 (by decide) ?_
  refine j_iload_n (j := 1) dX1_addRule_2 rfl rfl ?_
  replace h := zb3E h
  rcases h with ⟨v2, G3, e1, h⟩ | ⟨X4, G5, e1, h⟩
  · refine j_cont (zrS (As := [vI x1]) msX1_76 (yX1_index_ok e1) (Nat.le_trans (Nat.le_of_ble_eq_true rfl) hd) rfl rfl (Nat.le_of_ble_eq_true rfl) dX1_addRule_3) ?_
    refine j_iadd dX1_addRule_6 ?_
    refine j_istore_n (lv' := [(2, vI (20 + v2)), (0, vR (some t)), (1, vI x1)]) dX1_addRule_7 rfl (Nat.le_of_ble_eq_true rfl) rfl ?_
    refine j_aload_n (j := 1) dX1_addRule_8 rfl rfl ?_
    replace h := zbE h
    obtain ⟨r6, e7, h⟩ := h
    refine j_getR fgX1_16 (fun _ _ _ => rfl) dX1_addRule_9 e7 ?_
    replace h := zbE h
    obtain ⟨a8, e9, h⟩ := h
    subst e9
    replace h := zkE h
    obtain ⟨e10, h⟩ := h
    replace h := zbE h
    obtain ⟨v12, e11, h⟩ := h
    refine j_cont (zrF (As := []) msX1_54_J2 (yJ2_size_ok e11) (Nat.le_trans (Nat.le_of_ble_eq_true rfl) hd) (zk_12 _ e10) rfl rfl (Nat.le_of_ble_eq_true rfl) dX1_addRule_12) ?_
    refine j_bipush (v := 48) dX1_addRule_17 (by decide) ?_
    refine j_icmp_ge (tgt := 26) dX1_addRule_19 (by decide) (fun c13 => ?_) (fun c13 => ?_)
    · rw [if_pos c13] at h
      refine j_iconst (v := 0) dX1_addRule_26 (by decide) ?_
      exact J.sub (zall [1, 0] rfl) (wfX1_addRule_27 hd t (20 + v2) 0 G3 h hk)
    · rw [if_neg c13] at h
      refine j_iconst (v := 1) dX1_addRule_22 (by decide) ?_
      refine j_goto (tgt := 27) dX1_addRule_23 (by decide) ?_
      exact J.sub (zall [1, 0] rfl) (wfX1_addRule_27 hd t (20 + v2) 1 G3 h hk)
  · refine j_thr (zrS (As := [vI x1]) msX1_76 (yX1_index_ok e1) (Nat.le_trans (Nat.le_of_ble_eq_true rfl) hd) rfl rfl (Nat.le_of_ble_eq_true rfl) dX1_addRule_3) ?_
    obtain rfl := Option.some.inj h
    exact jx_out hk.1 hk.2 (by decide)
theorem yX1_addRule_ok {t : Nat} {x1 : Int32} {G : GS} {r : (Int32) ⊕ String} {G1 : GS} (h : fX1_addRule_0 t x1 G = some (r, G1)) : zRuns yX1_addRule (ws_ yX1_addRule cX1_addRule 3 (some Jvm.ClassFile.FieldType.int)) [vR (some t), vI x1] (zout (fun v => some (vI v)) r, G, G1, 9) :=
  zentry (M := mX1_addRule) (plainFor_of_name (by decide +kernel)) ⟨rfl, rfl, rfl, rfl⟩ (Nat.le_of_ble_eq_true rfl) (wfX1_addRule_0 (Nat.le_refl _) t x1 G h ⟨rfl, rfl⟩)
abbrev mX1_number : zM := (cX1_number, RX1, 2, (some Jvm.ClassFile.FieldType.int), "number", [], "(I)I")
def fX1_number_0 (t : Nat) (x1 : Int32)  (G : GS) : Option (((Int32) ⊕ String) × GS) :=
  (zgR G 1 t 0).bind fun r1 => r1.bind fun a3 => zk [12] G a3 <| (fJ2_size_0 a3 G).bind fun v7 => zb3 (fX1_valid_0 x1 0 (v7 - 1) G) (fun v9 G10 => some (.inl v9, G10)) (fun X11 G12 => some (.inr X11, G12))
theorem wfX1_number_0 {F : zF} (hd : 8 ≤ F.2.2.2) (t : Nat) (x1 : Int32)  (G : GS) {a : ((Int32) ⊕ String) × GS} (h : fX1_number_0 t x1  G = some a) (hk : zKXI F a) : J mX1_number F G 0 [(0, vR (some t)), (1, vI x1)] [] := by
  unfold fX1_number_0 at h
  refine j_iload_n (j := 1) dX1_number_0 rfl rfl ?_
  refine j_iconst (v := 0) dX1_number_1 (by decide) ?_
  refine j_aload_n (j := 0) dX1_number_2 rfl rfl ?_
  replace h := zbE h
  obtain ⟨r1, e2, h⟩ := h
  refine j_getR fgX1_16 (fun _ _ _ => rfl) dX1_number_3 e2 ?_
  replace h := zbE h
  obtain ⟨a3, e4, h⟩ := h
  subst e4
  replace h := zkE h
  obtain ⟨e5, h⟩ := h
  replace h := zbE h
  obtain ⟨v7, e6, h⟩ := h
  refine j_cont (zrF (As := []) msX1_54_J2 (yJ2_size_ok e6) (Nat.le_trans (Nat.le_of_ble_eq_true rfl) hd) (zk_12 _ e5) rfl rfl (Nat.le_of_ble_eq_true rfl) dX1_number_6) ?_
  refine j_iconst (v := 1) dX1_number_11 (by decide) ?_
  refine j_isub dX1_number_12 ?_
  replace h := zb3E h
  rcases h with ⟨v9, G10, e8, h⟩ | ⟨X11, G12, e8, h⟩
  · refine j_cont (zrS (As := [vI x1, vI 0, vI (v7 - 1)]) msX1_50 (yX1_valid_ok e8) (Nat.le_trans (Nat.le_of_ble_eq_true rfl) hd) rfl rfl (Nat.le_of_ble_eq_true rfl) dX1_number_13) ?_
    obtain rfl := Option.some.inj h
    exact j_iret hk.1 hk.2 rfl dX1_number_16
  · refine j_thr (zrS (As := [vI x1, vI 0, vI (v7 - 1)]) msX1_50 (yX1_valid_ok e8) (Nat.le_trans (Nat.le_of_ble_eq_true rfl) hd) rfl rfl (Nat.le_of_ble_eq_true rfl) dX1_number_13) ?_
    obtain rfl := Option.some.inj h
    exact jx_out hk.1 hk.2 (by decide)
theorem yX1_number_ok {t : Nat} {x1 : Int32} {G : GS} {r : (Int32) ⊕ String} {G1 : GS} (h : fX1_number_0 t x1 G = some (r, G1)) : zRuns yX1_number (ws_ yX1_number cX1_number 2 (some Jvm.ClassFile.FieldType.int)) [vR (some t), vI x1] (zout (fun v => some (vI v)) r, G, G1, 8) :=
  zentry (M := mX1_number) (plainFor_of_name (by decide +kernel)) ⟨rfl, rfl, rfl, rfl⟩ (Nat.le_of_ble_eq_true rfl) (wfX1_number_0 (Nat.le_refl _) t x1 G h ⟨rfl, rfl⟩)
abbrev mJ17_checkIndex : zM := (cJ17_checkIndex, RJ17, 3, (some Jvm.ClassFile.FieldType.int), "checkIndex", [], "(IILjava/util/function/BiFunction;)I")
def fJ17_checkIndex_9 (x0 : Int32) (x1 : Int32) (x2 : Option Nat)  (G : GS) : Option (Int32) :=
  none
theorem wfJ17_checkIndex_9 {F : zF} (hd : 1 ≤ F.2.2.2) (x0 : Int32) (x1 : Int32) (x2 : Option Nat)  (G : GS) {a : Int32} (h : fJ17_checkIndex_9 x0 x1 x2  G = some a) (hk : zKPI F G a) : J mJ17_checkIndex F G 9 [(0, vI x0), (1, vI x1), (2, vR x2)] [] := by
  unfold fJ17_checkIndex_9 at h
  refine j_aload_n (j := 2) dJ17_checkIndex_9 rfl rfl ?_
  refine j_iload_n (j := 0) dJ17_checkIndex_10 rfl rfl ?_
  refine j_iload_n (j := 1) dJ17_checkIndex_11 rfl rfl ?_
  cases h
def fJ17_checkIndex_0 (x0 : Int32) (x1 : Int32) (x2 : Option Nat)  (G : GS) : Option (Int32) :=
  if x0 < 0 then (fJ17_checkIndex_9 x0 x1 x2 G) else (if x0 < x1 then (some x0) else (fJ17_checkIndex_9 x0 x1 x2 G))
theorem wfJ17_checkIndex_0 {F : zF} (hd : 1 ≤ F.2.2.2) (x0 : Int32) (x1 : Int32) (x2 : Option Nat)  (G : GS) {a : Int32} (h : fJ17_checkIndex_0 x0 x1 x2  G = some a) (hk : zKPI F G a) : J mJ17_checkIndex F G 0 [(0, vI x0), (1, vI x1), (2, vR x2)] [] := by
  unfold fJ17_checkIndex_0 at h
  refine j_iload_n (j := 0) dJ17_checkIndex_0 rfl rfl ?_
  refine j_if_lt (tgt := 9) dJ17_checkIndex_1 (by decide) (fun c1 => ?_) (fun c1 => ?_)
  · rw [if_pos c1] at h
    exact J.sub (zall [0, 1, 2] rfl) (wfJ17_checkIndex_9 hd x0 x1 x2  G h hk)
  · rw [if_neg c1] at h
    refine j_iload_n (j := 0) dJ17_checkIndex_4 rfl rfl ?_
    refine j_iload_n (j := 1) dJ17_checkIndex_5 rfl rfl ?_
    refine j_icmp_lt (tgt := 16) dJ17_checkIndex_6 (by decide) (fun c2 => ?_) (fun c2 => ?_)
    · rw [if_pos c2] at h
      refine j_iload_n (j := 0) dJ17_checkIndex_16 rfl rfl ?_
      obtain rfl := Option.some.inj h
      exact j_iret hk.1 hk.2 rfl dJ17_checkIndex_17
    · rw [if_neg c2] at h
      exact J.sub (zall [0, 1, 2] rfl) (wfJ17_checkIndex_9 hd x0 x1 x2  G h hk)
theorem yJ17_checkIndex_ok {x0 : Int32} {x1 : Int32} {x2 : Option Nat} {G : GS} {r : Int32} (h : fJ17_checkIndex_0 x0 x1 x2 G = some r) : zRuns yJ17_checkIndex (ws_ yJ17_checkIndex cJ17_checkIndex 3 (some Jvm.ClassFile.FieldType.int)) [vI x0, vI x1, vR x2] (.inl (some (vI r)), G, G, 1) :=
  zentry (M := mJ17_checkIndex) (plainFor_of_name (by decide +kernel)) ⟨rfl, rfl, rfl, rfl⟩ (Nat.le_of_ble_eq_true rfl) (wfJ17_checkIndex_0 (Nat.le_refl _) x0 x1 x2 G h ⟨rfl, rfl⟩)
theorem msJ16_105 : zSS RJ16 105 yJ17_checkIndex cJ17_checkIndex 3 (some Jvm.ClassFile.FieldType.int) 3 := ⟨lw_S q1027 q1028 q144 q1029, (by decide +kernel), (by decide)⟩
abbrev mJ16_checkIndex : zM := (cJ16_checkIndex, RJ16, 2, (some Jvm.ClassFile.FieldType.int), "checkIndex", [], "(II)I")
def fJ16_checkIndex_0 (x0 : Int32) (x1 : Int32)  (G : GS) : Option (Int32) :=
  (fJ17_checkIndex_0 x0 x1 none G).bind fun v2 => some v2
theorem wfJ16_checkIndex_0 {F : zF} (hd : 2 ≤ F.2.2.2) (x0 : Int32) (x1 : Int32)  (G : GS) {a : Int32} (h : fJ16_checkIndex_0 x0 x1  G = some a) (hk : zKPI F G a) : J mJ16_checkIndex F G 0 [(0, vI x0), (1, vI x1)] [] := by
  unfold fJ16_checkIndex_0 at h
  refine j_iload_n (j := 0) dJ16_checkIndex_0 rfl rfl ?_
  refine j_iload_n (j := 1) dJ16_checkIndex_1 rfl rfl ?_
  refine j_null dJ16_checkIndex_2 ?_
  replace h := zbE h
  obtain ⟨v2, e1, h⟩ := h
  refine j_cont (zrS (As := [vI x0, vI x1, vR none]) msJ16_105 (yJ17_checkIndex_ok e1) (Nat.le_trans (Nat.le_of_ble_eq_true rfl) hd) rfl rfl (Nat.le_of_ble_eq_true rfl) dJ16_checkIndex_3) ?_
  obtain rfl := Option.some.inj h
  exact j_iret hk.1 hk.2 rfl dJ16_checkIndex_6
theorem yJ16_checkIndex_ok {x0 : Int32} {x1 : Int32} {G : GS} {r : Int32} (h : fJ16_checkIndex_0 x0 x1 G = some r) : zRuns yJ16_checkIndex (ws_ yJ16_checkIndex cJ16_checkIndex 2 (some Jvm.ClassFile.FieldType.int)) [vI x0, vI x1] (.inl (some (vI r)), G, G, 2) :=
  zentry (M := mJ16_checkIndex) (plainFor_of_name (by decide +kernel)) ⟨rfl, rfl, rfl, rfl⟩ (Nat.le_of_ble_eq_true rfl) (wfJ16_checkIndex_0 (Nat.le_refl _) x0 x1 G h ⟨rfl, rfl⟩)
abbrev mJ2_elementData : zM := (cJ2_elementData, RJ2, 2, (some (Jvm.ClassFile.FieldType.object "java/lang/Object")), "elementData", [], "(I)Ljava/lang/Object;")
def fJ2_elementData_0 (t : Nat) (x1 : Int32)  (G : GS) : Option (Option Nat) :=
  (zgR G 12 t 1).bind fun r1 => r1.bind fun a3 => (zaR G 54 a3 x1).bind fun r5 => some r5
theorem wfJ2_elementData_0 {F : zF} (hd : 1 ≤ F.2.2.2) (t : Nat) (x1 : Int32)  (G : GS) {a : Option Nat} (h : fJ2_elementData_0 t x1  G = some a) (hk : zKPR F G a) : J mJ2_elementData F G 0 [(0, vR (some t)), (1, vI x1)] [] := by
  unfold fJ2_elementData_0 at h
  refine j_aload_n (j := 0) dJ2_elementData_0 rfl rfl ?_
  replace h := zbE h
  obtain ⟨r1, e2, h⟩ := h
  refine j_getR fgJ2_9 (fun _ _ _ => rfl) dJ2_elementData_1 e2 ?_
  refine j_iload_n (j := 1) dJ2_elementData_4 rfl rfl ?_
  replace h := zbE h
  obtain ⟨a3, e4, h⟩ := h
  subst e4
  replace h := zbE h
  obtain ⟨r5, e6, h⟩ := h
  refine j_aald (Or.inl rfl) e6 dJ2_elementData_5 ?_
  obtain rfl := Option.some.inj h
  exact j_aret hk.1 hk.2 rfl (Or.inl ⟨_, rfl⟩) dJ2_elementData_6
theorem yJ2_elementData_ok {t : Nat} {x1 : Int32} {G : GS} {r : Option Nat} (h : fJ2_elementData_0 t x1 G = some r) : zRuns yJ2_elementData (ws_ yJ2_elementData cJ2_elementData 2 (some (Jvm.ClassFile.FieldType.object "java/lang/Object"))) [vR (some t), vI x1] (.inl (some (vR r)), G, G, 1) :=
  zentry (M := mJ2_elementData) (plainFor_of_name (by decide +kernel)) ⟨rfl, rfl, rfl, rfl⟩ (Nat.le_of_ble_eq_true rfl) (wfJ2_elementData_0 (Nat.le_refl _) t x1 G h ⟨rfl, rfl⟩)
theorem msJ2_118 : zSS RJ2 118 yJ16_checkIndex cJ16_checkIndex 2 (some Jvm.ClassFile.FieldType.int) 2 := ⟨lw_S q1024 q1025 q143 q1026, (by decide +kernel), (by decide)⟩
theorem msJ2_123 : zSV RJ2 123 RJ2 yJ2_elementData cJ2_elementData 2 (some (Jvm.ClassFile.FieldType.object "java/lang/Object")) 1 := ⟨lw_V q1030 q1031 q1032 q126 q1033, (by decide +kernel), (by decide)⟩
abbrev mJ2_get : zM := (cJ2_get, RJ2, 2, (some (Jvm.ClassFile.FieldType.object "java/lang/Object")), "get", [], "(I)Ljava/lang/Object;")
def fJ2_get_0 (t : Nat) (x1 : Int32)  (G : GS) : Option (Option Nat) :=
  (zgI G 12 t 2).bind fun v1 => (fJ16_checkIndex_0 x1 v1 G).bind fun v4 => zk [12] G t <| (fJ2_elementData_0 t x1 G).bind fun r7 => some r7
theorem wfJ2_get_0 {F : zF} (hd : 3 ≤ F.2.2.2) (t : Nat) (x1 : Int32)  (G : GS) {a : Option Nat} (h : fJ2_get_0 t x1  G = some a) (hk : zKPR F G a) : J mJ2_get F G 0 [(0, vR (some t)), (1, vI x1)] [] := by
  unfold fJ2_get_0 at h
  refine j_iload_n (j := 1) dJ2_get_0 rfl rfl ?_
  refine j_aload_n (j := 0) dJ2_get_1 rfl rfl ?_
  replace h := zbE h
  obtain ⟨v1, e2, h⟩ := h
  refine j_getI fgJ2_48 (fun _ _ _ => rfl) dJ2_get_2 e2 ?_
  replace h := zbE h
  obtain ⟨v4, e3, h⟩ := h
  refine j_cont (zrS (As := [vI x1, vI v1]) msJ2_118 (yJ16_checkIndex_ok e3) (Nat.le_trans (Nat.le_of_ble_eq_true rfl) hd) rfl rfl (Nat.le_of_ble_eq_true rfl) dJ2_get_5) ?_
  refine j_pop dJ2_get_8 rfl ?_
  refine j_aload_n (j := 0) dJ2_get_9 rfl rfl ?_
  refine j_iload_n (j := 1) dJ2_get_10 rfl rfl ?_
  replace h := zkE h
  obtain ⟨e5, h⟩ := h
  replace h := zbE h
  obtain ⟨r7, e6, h⟩ := h
  refine j_cont (zrV (As := [vI x1]) msJ2_123 (yJ2_elementData_ok e6) (Nat.le_trans (Nat.le_of_ble_eq_true rfl) hd) (zk_12 _ e5) rfl rfl (Nat.le_of_ble_eq_true rfl) dJ2_get_11) ?_
  obtain rfl := Option.some.inj h
  exact j_aret hk.1 hk.2 rfl (Or.inl ⟨_, rfl⟩) dJ2_get_14
theorem yJ2_get_ok {t : Nat} {x1 : Int32} {G : GS} {r : Option Nat} (h : fJ2_get_0 t x1 G = some r) : zRuns yJ2_get (ws_ yJ2_get cJ2_get 2 (some (Jvm.ClassFile.FieldType.object "java/lang/Object"))) [vR (some t), vI x1] (.inl (some (vR r)), G, G, 3) :=
  zentry (M := mJ2_get) (plainFor_of_name (by decide +kernel)) ⟨rfl, rfl, rfl, rfl⟩ (Nat.le_of_ble_eq_true rfl) (wfJ2_get_0 (Nat.le_refl _) t x1 G h ⟨rfl, rfl⟩)
theorem zk_3 : ∀ k, [3].contains k = true → zKc k = some "SelahGenerator$Rule" := fun k h => by rw [zKc_one h]; rfl
theorem msX1_60 : zSV RX1 60 RX1 yX1_number cX1_number 2 (some Jvm.ClassFile.FieldType.int) 1 := ⟨lw_V q1792 q1794 qs37 q123 q1795, (by decide +kernel), (by decide)⟩
theorem msX1_64_J2 : zSF RX1 64 RJ2 ⟨"java/util/List", "get", "(I)Ljava/lang/Object;"⟩ yJ2_get cJ2_get 2 (some (Jvm.ClassFile.FieldType.object "java/lang/Object")) 1 := ⟨lw_F q1511 q1019 q1021 q126 q1023, zfw 8 rfl, ⟨11, _, rfl, rfl⟩, (by decide +kernel), (by decide)⟩
abbrev mX1_rule : zM := (cX1_rule, RX1, 2, (some (Jvm.ClassFile.FieldType.object "SelahGenerator$Rule")), "rule", [], "(I)LSelahGenerator$Rule;")
def fX1_rule_0 (t : Nat) (x1 : Int32)  (G : GS) : Option (((Option Nat) ⊕ String) × GS) :=
  (zgR G 1 t 0).bind fun r1 => zk [1] G t <| zb3 (fX1_number_0 t x1 G) (fun v5 G6 => r1.bind fun a9 => zk [12] G6 a9 <| (fJ2_get_0 a9 v5 G6).bind fun r13 => zkq [3] G6 r13 (some (.inl r13, G6))) (fun X7 G8 => some (.inr X7, G8))
theorem wfX1_rule_0 {F : zF} (hd : 9 ≤ F.2.2.2) (t : Nat) (x1 : Int32)  (G : GS) {a : ((Option Nat) ⊕ String) × GS} (h : fX1_rule_0 t x1  G = some a) (hk : zKXR F a) : J mX1_rule F G 0 [(0, vR (some t)), (1, vI x1)] [] := by
  unfold fX1_rule_0 at h
  refine j_aload_n (j := 0) dX1_rule_0 rfl rfl ?_
  replace h := zbE h
  obtain ⟨r1, e2, h⟩ := h
  refine j_getR fgX1_16 (fun _ _ _ => rfl) dX1_rule_1 e2 ?_
  refine j_aload_n (j := 0) dX1_rule_4 rfl rfl ?_
  refine j_iload_n (j := 1) dX1_rule_5 rfl rfl ?_
  replace h := zkE h
  obtain ⟨e3, h⟩ := h
  replace h := zb3E h
  rcases h with ⟨v5, G6, e4, h⟩ | ⟨X7, G8, e4, h⟩
  · refine j_cont (zrV (As := [vI x1]) msX1_60 (yX1_number_ok e4) (Nat.le_trans (Nat.le_of_ble_eq_true rfl) hd) (zk_1 _ e3) rfl rfl (Nat.le_of_ble_eq_true rfl) dX1_rule_6) ?_
    replace h := zbE h
    obtain ⟨a9, e10, h⟩ := h
    subst e10
    replace h := zkE h
    obtain ⟨e11, h⟩ := h
    replace h := zbE h
    obtain ⟨r13, e12, h⟩ := h
    refine j_cont (zrF (As := [vI v5]) msX1_64_J2 (yJ2_get_ok e12) (Nat.le_trans (Nat.le_of_ble_eq_true rfl) hd) (zk_12 _ e11) rfl rfl (Nat.le_of_ble_eq_true rfl) dX1_rule_9) ?_
    replace h := zkqE h
    obtain ⟨e14, h⟩ := h
    refine j_castq (fun k => j_castN dX1_rule_14 k) (fun b q15 k => j_castS (zk_3 _ (e14 b q15)) ⟨2, _, rfl, rfl⟩ q1615 dX1_rule_14 k) ?_
    obtain rfl := Option.some.inj h
    exact j_aret hk.1 hk.2 rfl (Or.inl ⟨_, rfl⟩) dX1_rule_17
  · refine j_thr (zrV (As := [vI x1]) msX1_60 (yX1_number_ok e4) (Nat.le_trans (Nat.le_of_ble_eq_true rfl) hd) (zk_1 _ e3) rfl rfl (Nat.le_of_ble_eq_true rfl) dX1_rule_6) ?_
    obtain rfl := Option.some.inj h
    exact jx_out hk.1 hk.2 (by decide)
theorem yX1_rule_ok {t : Nat} {x1 : Int32} {G : GS} {r : (Option Nat) ⊕ String} {G1 : GS} (h : fX1_rule_0 t x1 G = some (r, G1)) : zRuns yX1_rule (ws_ yX1_rule cX1_rule 2 (some (Jvm.ClassFile.FieldType.object "SelahGenerator$Rule"))) [vR (some t), vI x1] (zout (fun v => some (vR v)) r, G, G1, 9) :=
  zentry (M := mX1_rule) (plainFor_of_name (by decide +kernel)) ⟨rfl, rfl, rfl, rfl⟩ (Nat.le_of_ble_eq_true rfl) (wfX1_rule_0 (Nat.le_refl _) t x1 G h ⟨rfl, rfl⟩)
abbrev mX1_isNonterminal : zM := (cX1_isNonterminal, RX1, 1, (some Jvm.ClassFile.FieldType.boolean), "isNonterminal", [], "(I)Z")
def fX1_isNonterminal_0 (x0 : Int32)  (G : GS) : Option (Int32) :=
  (fX1_isIn_0 x0 20 31 G).bind fun v2 => zcond (zbb v2) (some v2)
theorem wfX1_isNonterminal_0 {F : zF} (hd : 2 ≤ F.2.2.2) (x0 : Int32)  (G : GS) {a : Int32} (h : fX1_isNonterminal_0 x0  G = some a) (hk : zKPI F G a) : J mX1_isNonterminal F G 0 [(0, vI x0)] [] := by
  unfold fX1_isNonterminal_0 at h
  refine j_iload_n (j := 0) dX1_isNonterminal_0 rfl rfl ?_
  refine j_bipush (v := 20) dX1_isNonterminal_1 (by decide) ?_
  refine j_bipush (v := 31) dX1_isNonterminal_3 (by decide) ?_
  replace h := zbE h
  obtain ⟨v2, e1, h⟩ := h
  refine j_cont (zrS (As := [vI x0, vI 20, vI 31]) msX1_3 (yX1_isIn_ok e1) (Nat.le_trans (Nat.le_of_ble_eq_true rfl) hd) rfl rfl (Nat.le_of_ble_eq_true rfl) dX1_isNonterminal_5) ?_
  replace h := zcondE h
  obtain ⟨e3, h⟩ := h
  obtain rfl := Option.some.inj h
  exact j_zret hk.1 hk.2 rfl (zbb_n e3) dX1_isNonterminal_8
theorem yX1_isNonterminal_ok {x0 : Int32} {G : GS} {r : Int32} (h : fX1_isNonterminal_0 x0 G = some r) : zRuns yX1_isNonterminal (ws_ yX1_isNonterminal cX1_isNonterminal 1 (some Jvm.ClassFile.FieldType.boolean)) [vI x0] (.inl (some (vI r)), G, G, 2) :=
  zentry (M := mX1_isNonterminal) (plainFor_of_name (by decide +kernel)) ⟨rfl, rfl, rfl, rfl⟩ (Nat.le_of_ble_eq_true rfl) (wfX1_isNonterminal_0 (Nat.le_refl _) x0 G h ⟨rfl, rfl⟩)
theorem exX1_70_72 : zEX RX1 70 72 "java/lang/IllegalArgumentException" ["java/lang/RuntimeException", "java/lang/Exception"] := zEX.of q1800 q145 (by decide +kernel) (by decide +kernel) (by decide +kernel) (by decide +kernel) (by decide)
abbrev mX1_argument : zM := (cX1_argument, RX1, 1, none, "argument", [], "(Z)V")
def fX1_argument_0 (x0 : Int32)  (G : GS) : Option (((Unit) ⊕ String) × GS) :=
  if x0 = 0 then (zl (al G 0 0 6) fun G2 => some (.inr "java/lang/IllegalArgumentException", G2)) else (some (.inl (), G))
theorem wfX1_argument_0 {F : zF} (hd : 7 ≤ F.2.2.2) (x0 : Int32)  (G : GS) {a : ((Unit) ⊕ String) × GS} (h : fX1_argument_0 x0  G = some a) (hk : zKXV F a) : J mX1_argument F G 0 [(0, vI x0)] [] := by
  unfold fX1_argument_0 at h
  refine j_iload_n (j := 0) dX1_argument_0 rfl rfl ?_
  refine j_if_ne (tgt := 12) dX1_argument_1 (by decide) (fun c1 => ?_) (fun c1 => ?_)
  · rw [if_pos c1] at h
    replace h := zlE h
    obtain ⟨G2, e3, h⟩ := h
    refine j_throw exX1_70_72 dX1_argument_4 dX1_argument_7 dX1_argument_8 dX1_argument_11 (Nat.le_trans (Nat.le_of_ble_eq_true rfl) hd) (Nat.le_of_ble_eq_true rfl) ?_
    rw [show al G 0 0 6 = G2 from e3.symm]
    obtain rfl := Option.some.inj h
    exact jx_out hk.1 hk.2 (by decide)
  · rw [if_neg c1] at h
    obtain rfl := Option.some.inj h
    exact j_vret hk.1 hk.2 rfl dX1_argument_12
theorem yX1_argument_ok {x0 : Int32} {G : GS} {r : (Unit) ⊕ String} {G1 : GS} (h : fX1_argument_0 x0 G = some (r, G1)) : zRuns yX1_argument (ws_ yX1_argument cX1_argument 1 none) [vI x0] (zout (fun _ => none) r, G, G1, 7) :=
  zentry (M := mX1_argument) (plainFor_of_name (by decide +kernel)) ⟨rfl, rfl, rfl, rfl⟩ (Nat.le_of_ble_eq_true rfl) (wfX1_argument_0 (Nat.le_refl _) x0 G h ⟨rfl, rfl⟩)
abbrev mJ15_copyOf_3 : zM := (cJ15_copyOf_3, RJ15, 3, (some (Jvm.ClassFile.FieldType.array Jvm.ClassFile.FieldType.int)), "copyOf", [], "([II)[I")
def fJ15_copyOf_3_0 (x0 : Option Nat) (x1 : Int32)  (G : GS) : Option ((Option Nat) × GS) :=
  x0.bind fun a1 => (zln G a1).bind fun v3 => if x1 = v3 then ((zcln G a1).bind fun G6 => zk [50] G6 (gz G) <| some ((some (gz G)), G6)) else ((zna G 50 x1).bind fun G9 => (zln G9 a1).bind fun v11 => (fJ14_min_0 v11 x1 G9).bind fun v14 => (zcpI G9 a1 (0 : Int32) (gz G) (0 : Int32) v14).bind fun G15 => some ((some (gz G)), G15))
theorem wfJ15_copyOf_3_0 {F : zF} (hd : 2 ≤ F.2.2.2) (x0 : Option Nat) (x1 : Int32)  (G : GS) {a : (Option Nat) × GS} (h : fJ15_copyOf_3_0 x0 x1  G = some a) (hk : zKR F a) : J mJ15_copyOf_3 F G 0 [(0, vR x0), (1, vI x1)] [] := by
  unfold fJ15_copyOf_3_0 at h
  refine j_iload_n (j := 1) dJ15_copyOf_3_0 rfl rfl ?_
  refine j_aload_n (j := 0) dJ15_copyOf_3_1 rfl rfl ?_
  replace h := zbE h
  obtain ⟨a1, e2, h⟩ := h
  subst e2
  replace h := zbE h
  obtain ⟨v3, e4, h⟩ := h
  refine j_alen e4 dJ15_copyOf_3_2 ?_
  refine j_icmp_ne (tgt := 14) dJ15_copyOf_3_3 (by decide) (fun c5 => ?_) (fun c5 => ?_)
  · rw [if_pos c5] at h
    refine j_aload_n (j := 0) dJ15_copyOf_3_6 rfl rfl ?_
    replace h := zbE h
    obtain ⟨G6, e7, h⟩ := h
    refine j_clone e7 q1809 q502 q503 q504 q505 (zxw 118 rfl) (Nat.le_trans (Nat.le_of_ble_eq_true rfl) hd) (Nat.le_of_ble_eq_true rfl) dJ15_copyOf_3_7 ?_
    replace h := zkE h
    obtain ⟨e8, h⟩ := h
    refine j_castI (zKc_one e8) q1810 dJ15_copyOf_3_10 ?_
    obtain rfl := Option.some.inj h
    exact j_aret hk.1 hk.2 rfl (Or.inr ⟨_, rfl⟩) dJ15_copyOf_3_13
  · rw [if_neg c5] at h
    refine j_iload_n (j := 1) dJ15_copyOf_3_14 rfl rfl ?_
    replace h := zbE h
    obtain ⟨G9, e10, h⟩ := h
    refine j_newa (t := 0) (ty := .int) rfl rfl q455 (fun _ _ _ e1 e2 e3 => by simp only [zfv, e1, e2, e3] <;> rfl) (by decide) (fun _ _ h => h) e10 dJ15_copyOf_3_15 ?_
    refine j_astore_n (lv' := [(2, vR (some (gz G))), (0, vR (some a1)), (1, vI x1)]) dJ15_copyOf_3_17 rfl (Nat.le_of_ble_eq_true rfl) rfl ?_
    refine j_aload_n (j := 1) dJ15_copyOf_3_18 rfl rfl ?_
    refine j_iconst (v := 0) dJ15_copyOf_3_19 (by decide) ?_
    refine j_aload_n (j := 0) dJ15_copyOf_3_20 rfl rfl ?_
    refine j_iconst (v := 0) dJ15_copyOf_3_21 (by decide) ?_
    refine j_aload_n (j := 1) dJ15_copyOf_3_22 rfl rfl ?_
    replace h := zbE h
    obtain ⟨v11, e12, h⟩ := h
    refine j_alen e12 dJ15_copyOf_3_23 ?_
    refine j_iload_n (j := 2) dJ15_copyOf_3_24 rfl rfl ?_
    replace h := zbE h
    obtain ⟨v14, e13, h⟩ := h
    refine j_cont (zrS (As := [vI v11, vI x1]) msJ15_304 (yJ14_min_ok e13) (Nat.le_trans (Nat.le_of_ble_eq_true rfl) hd) rfl rfl (Nat.le_of_ble_eq_true rfl) dJ15_copyOf_3_25) ?_
    replace h := zbE h
    obtain ⟨G15, e16, h⟩ := h
    refine j_cpI e16 q814 q816 q815 q142 (Nat.le_trans (Nat.le_of_ble_eq_true rfl) hd) (Nat.le_of_ble_eq_true rfl) dJ15_copyOf_3_28 ?_
    refine j_aload_n (j := 0) dJ15_copyOf_3_31 rfl rfl ?_
    obtain rfl := Option.some.inj h
    exact j_aret hk.1 hk.2 rfl (Or.inr ⟨_, rfl⟩) dJ15_copyOf_3_32
theorem yJ15_copyOf_3_ok {x0 : Option Nat} {x1 : Int32} {G : GS} {r : Option Nat} {G1 : GS} (h : fJ15_copyOf_3_0 x0 x1 G = some (r, G1)) : zRuns yJ15_copyOf_3 (ws_ yJ15_copyOf_3 cJ15_copyOf_3 3 (some (Jvm.ClassFile.FieldType.array Jvm.ClassFile.FieldType.int))) [vR x0, vI x1] (.inl (some (vR r)), G, G1, 2) :=
  zentry (M := mJ15_copyOf_3) (plainFor_of_name (by decide +kernel)) ⟨rfl, rfl, rfl, rfl⟩ (Nat.le_of_ble_eq_true rfl) (wfJ15_copyOf_3_0 (Nat.le_refl _) x0 x1 G h ⟨rfl, rfl⟩)
theorem fgX3_13 : zFG RX3 13 2 1 (.array (.int)) := ⟨(RX3, TX3, 2, tyX3), rfl, by decide, in_X3, rfl, "SelahGenerator$Rule", Or.inl rfl, Or.inl q1739⟩
theorem fgX3_7 : zFG RX3 7 2 0 (.int) := ⟨(RX3, TX3, 2, tyX3), rfl, by decide, in_X3, rfl, "SelahGenerator$Rule", Or.inl rfl, Or.inl q1732⟩
theorem msX3_23 : zSS RX3 23 yJ15_copyOf_3 cJ15_copyOf_3 3 (some (Jvm.ClassFile.FieldType.array Jvm.ClassFile.FieldType.int)) 2 := ⟨lw_S q1806 q1807 q141 q1808, (by decide +kernel), (by decide)⟩
theorem msX3_29 : zSI RX3 29 yX3_init cX3_init 3 2 := ⟨q1730, q138, q1812, q1729, rfl, (by decide +kernel), (by decide)⟩
abbrev mX3_with : zM := (cX3_with, RX3, 3, (some (Jvm.ClassFile.FieldType.object "SelahGenerator$Rule")), "with", [], "(I)LSelahGenerator$Rule;")
def fX3_with_0 (t : Nat) (x1 : Int32)  (G : GS) : Option ((Option Nat) × GS) :=
  (zgR G 3 t 1).bind fun r1 => (zgR G 3 t 1).bind fun r3 => r3.bind fun a5 => (zln G a5).bind fun v7 => zb2 (fJ15_copyOf_3_0 r1 (v7 + 1) G) fun r10 G11 => (zgR G11 3 t 1).bind fun r12 => r12.bind fun a14 => (zln G11 a14).bind fun v16 => r10.bind fun a18 => (zsI G11 50 a18 v16 x1).bind fun G20 => zl (al G20 3 0 2) fun G22 => (zgI G22 3 t 0).bind fun v24 => (fX3_init_0 (gz G20) v24 (some a18) G22).bind fun G27 => some ((some (gz G20)), G27)
theorem wfX3_with_0 {F : zF} (hd : 3 ≤ F.2.2.2) (t : Nat) (x1 : Int32)  (G : GS) {a : (Option Nat) × GS} (h : fX3_with_0 t x1  G = some a) (hk : zKR F a) : J mX3_with F G 0 [(0, vR (some t)), (1, vI x1)] [] := by
  unfold fX3_with_0 at h
  refine j_aload_n (j := 0) dX3_with_0 rfl rfl ?_
  replace h := zbE h
  obtain ⟨r1, e2, h⟩ := h
  refine j_getR fgX3_13 (fun _ _ _ => rfl) dX3_with_1 e2 ?_
  refine j_aload_n (j := 0) dX3_with_4 rfl rfl ?_
  replace h := zbE h
  obtain ⟨r3, e4, h⟩ := h
  refine j_getR fgX3_13 (fun _ _ _ => rfl) dX3_with_5 e4 ?_
  replace h := zbE h
  obtain ⟨a5, e6, h⟩ := h
  subst e6
  replace h := zbE h
  obtain ⟨v7, e8, h⟩ := h
  refine j_alen e8 dX3_with_8 ?_
  refine j_iconst (v := 1) dX3_with_9 (by decide) ?_
  refine j_iadd dX3_with_10 ?_
  replace h := zb2E h
  obtain ⟨r10, G11, e9, h⟩ := h
  refine j_cont (zrS (As := [vR r1, vI (v7 + 1)]) msX3_23 (yJ15_copyOf_3_ok e9) (Nat.le_trans (Nat.le_of_ble_eq_true rfl) hd) rfl rfl (Nat.le_of_ble_eq_true rfl) dX3_with_11) ?_
  refine j_astore_n (lv' := [(2, vR r10), (0, vR (some t)), (1, vI x1)]) dX3_with_14 rfl (Nat.le_of_ble_eq_true rfl) rfl ?_
  refine j_aload_n (j := 0) dX3_with_15 rfl rfl ?_
  refine j_aload_n (j := 1) dX3_with_16 rfl rfl ?_
  replace h := zbE h
  obtain ⟨r12, e13, h⟩ := h
  refine j_getR fgX3_13 (fun _ _ _ => rfl) dX3_with_17 e13 ?_
  replace h := zbE h
  obtain ⟨a14, e15, h⟩ := h
  subst e15
  replace h := zbE h
  obtain ⟨v16, e17, h⟩ := h
  refine j_alen e17 dX3_with_20 ?_
  refine j_iload_n (j := 2) dX3_with_21 rfl rfl ?_
  replace h := zbE h
  obtain ⟨a18, e19, h⟩ := h
  subst e19
  replace h := zbE h
  obtain ⟨G20, e21, h⟩ := h
  refine j_iast e21 dX3_with_22 ?_
  replace h := zlE h
  obtain ⟨G22, e23, h⟩ := h
  refine j_new (c := 2) (n := 2) (r := (RX3, TX3, 2, tyX3)) rfl rfl in_X3 tyX3_ok nwX3 q1811 q1727 q138 dX3_with_23 ?_
  rw [show al G20 (2 + 1) 0 2 = G22 from e23.symm]
  refine j_dup dX3_with_26 rfl ?_
  refine j_aload_n (j := 1) dX3_with_27 rfl rfl ?_
  replace h := zbE h
  obtain ⟨v24, e25, h⟩ := h
  refine j_getI fgX3_7 (fun _ _ _ => rfl) dX3_with_28 e25 ?_
  refine j_aload_n (j := 0) dX3_with_31 rfl rfl ?_
  replace h := zbE h
  obtain ⟨G27, e26, h⟩ := h
  refine j_cont (zrI (As := [vI v24, vR (some a18)]) msX3_29 (yX3_init_ok e26) (Nat.le_trans (Nat.le_of_ble_eq_true rfl) hd) rfl rfl (Nat.le_of_ble_eq_true rfl) dX3_with_32) ?_
  obtain rfl := Option.some.inj h
  exact j_aret hk.1 hk.2 rfl (Or.inl ⟨_, rfl⟩) dX3_with_35
theorem yX3_with_ok {t : Nat} {x1 : Int32} {G : GS} {r : Option Nat} {G1 : GS} (h : fX3_with_0 t x1 G = some (r, G1)) : zRuns yX3_with (ws_ yX3_with cX3_with 3 (some (Jvm.ClassFile.FieldType.object "SelahGenerator$Rule"))) [vR (some t), vI x1] (.inl (some (vR r)), G, G1, 3) :=
  zentry (M := mX3_with) (plainFor_of_name (by decide +kernel)) ⟨rfl, rfl, rfl, rfl⟩ (Nat.le_of_ble_eq_true rfl) (wfX3_with_0 (Nat.le_refl _) t x1 G h ⟨rfl, rfl⟩)
abbrev mJ2_set : zM := (cJ2_set, RJ2, 4, (some (Jvm.ClassFile.FieldType.object "java/lang/Object")), "set", [], "(ILjava/lang/Object;)Ljava/lang/Object;")
def fJ2_set_0 (t : Nat) (x1 : Int32) (x2 : Option Nat)  (G : GS) : Option ((Option Nat) × GS) :=
  (zgI G 12 t 2).bind fun v1 => (fJ16_checkIndex_0 x1 v1 G).bind fun v4 => zk [12] G t <| (fJ2_elementData_0 t x1 G).bind fun r7 => (zgR G 12 t 1).bind fun r8 => r8.bind fun a10 => (zsR G 54 a10 x1 x2 [3, 6, 10, 21, 61]).bind fun G12 => some (r7, G12)
theorem wfJ2_set_0 {F : zF} (hd : 3 ≤ F.2.2.2) (t : Nat) (x1 : Int32) (x2 : Option Nat)  (G : GS) {a : (Option Nat) × GS} (h : fJ2_set_0 t x1 x2  G = some a) (hk : zKR F a) : J mJ2_set F G 0 [(0, vR (some t)), (1, vI x1), (2, vR x2)] [] := by
  unfold fJ2_set_0 at h
  refine j_iload_n (j := 1) dJ2_set_0 rfl rfl ?_
  refine j_aload_n (j := 0) dJ2_set_1 rfl rfl ?_
  replace h := zbE h
  obtain ⟨v1, e2, h⟩ := h
  refine j_getI fgJ2_48 (fun _ _ _ => rfl) dJ2_set_2 e2 ?_
  replace h := zbE h
  obtain ⟨v4, e3, h⟩ := h
  refine j_cont (zrS (As := [vI x1, vI v1]) msJ2_118 (yJ16_checkIndex_ok e3) (Nat.le_trans (Nat.le_of_ble_eq_true rfl) hd) rfl rfl (Nat.le_of_ble_eq_true rfl) dJ2_set_5) ?_
  refine j_pop dJ2_set_8 rfl ?_
  refine j_aload_n (j := 0) dJ2_set_9 rfl rfl ?_
  refine j_iload_n (j := 1) dJ2_set_10 rfl rfl ?_
  replace h := zkE h
  obtain ⟨e5, h⟩ := h
  replace h := zbE h
  obtain ⟨r7, e6, h⟩ := h
  refine j_cont (zrV (As := [vI x1]) msJ2_123 (yJ2_elementData_ok e6) (Nat.le_trans (Nat.le_of_ble_eq_true rfl) hd) (zk_12 _ e5) rfl rfl (Nat.le_of_ble_eq_true rfl) dJ2_set_11) ?_
  refine j_astore_n (lv' := [(3, vR r7), (0, vR (some t)), (1, vI x1), (2, vR x2)]) dJ2_set_14 rfl (Nat.le_of_ble_eq_true rfl) rfl ?_
  refine j_aload_n (j := 1) dJ2_set_15 rfl rfl ?_
  replace h := zbE h
  obtain ⟨r8, e9, h⟩ := h
  refine j_getR fgJ2_9 (fun _ _ _ => rfl) dJ2_set_16 e9 ?_
  refine j_iload_n (j := 2) dJ2_set_19 rfl rfl ?_
  refine j_aload_n (j := 3) dJ2_set_20 rfl rfl ?_
  replace h := zbE h
  obtain ⟨a10, e11, h⟩ := h
  subst e11
  replace h := zbE h
  obtain ⟨G12, e13, h⟩ := h
  refine j_aast (t := 4) rfl e13 zobjK dJ2_set_21 ?_
  refine j_aload_n (j := 0) dJ2_set_22 rfl rfl ?_
  obtain rfl := Option.some.inj h
  exact j_aret hk.1 hk.2 rfl (Or.inl ⟨_, rfl⟩) dJ2_set_23
theorem yJ2_set_ok {t : Nat} {x1 : Int32} {x2 : Option Nat} {G : GS} {r : Option Nat} {G1 : GS} (h : fJ2_set_0 t x1 x2 G = some (r, G1)) : zRuns yJ2_set (ws_ yJ2_set cJ2_set 4 (some (Jvm.ClassFile.FieldType.object "java/lang/Object"))) [vR (some t), vI x1, vR x2] (.inl (some (vR r)), G, G1, 3) :=
  zentry (M := mJ2_set) (plainFor_of_name (by decide +kernel)) ⟨rfl, rfl, rfl, rfl⟩ (Nat.le_of_ble_eq_true rfl) (wfJ2_set_0 (Nat.le_refl _) t x1 x2 G h ⟨rfl, rfl⟩)
theorem fgX1_104 : zFG RX1 104 2 1 (.array (.int)) := ⟨(RX3, TX3, 2, tyX3), rfl, by decide, in_X3, rfl, "SelahGenerator$Rule", Or.inl rfl, Or.inr ⟨_, zxw 64 rfl⟩⟩
theorem msX1_101 : zSS RX1 101 yX1_argument cX1_argument 1 none 1 := ⟨lw_S q1797 q1798 q123 q1799, (by decide +kernel), (by decide)⟩
theorem msX1_108 : zSV RX1 108 RX3 yX3_with cX3_with 3 (some (Jvm.ClassFile.FieldType.object "SelahGenerator$Rule")) 1 := ⟨lw_V q1802 q1803 q1804 q138 q1805, (by decide +kernel), (by decide)⟩
theorem msX1_111_J2 : zSF RX1 111 RJ2 ⟨"java/util/List", "set", "(ILjava/lang/Object;)Ljava/lang/Object;"⟩ yJ2_set cJ2_set 4 (some (Jvm.ClassFile.FieldType.object "java/lang/Object")) 2 := ⟨lw_F q1814 q1817 q1819 q126 q1821, zfw 14 rfl, ⟨11, _, rfl, rfl⟩, (by decide +kernel), (by decide)⟩
theorem msX1_93 : zSV RX1 93 RX1 yX1_rule cX1_rule 2 (some (Jvm.ClassFile.FieldType.object "SelahGenerator$Rule")) 1 := ⟨lw_V q1788 q1790 qs36 q123 q1791, (by decide +kernel), (by decide)⟩
theorem msX1_97 : zSS RX1 97 yX1_isNonterminal cX1_isNonterminal 1 (some Jvm.ClassFile.FieldType.boolean) 1 := ⟨lw_S q1796 q401 q123 q402, (by decide +kernel), (by decide)⟩
abbrev mX1_append : zM := (cX1_append, RX1, 5, (some Jvm.ClassFile.FieldType.int), "append", [], "(II)I")
def fX1_append_46 (t : Nat) (x1 : Int32) (x2 : Int32) (x3 : Option Nat) (s0 : Int32) (G : GS) : Option (((Int32) ⊕ String) × GS) :=
  zb3 (fX1_may_0 s0 G) (fun u5 G2 => (zgR G2 1 t 0).bind fun r6 => x3.bind fun a8 => zk [3] G2 a8 <| zb2 (fX3_with_0 a8 x2 G2) fun r12 G13 => r6.bind fun a14 => zk [12] G13 a14 <| zb2 (fJ2_set_0 a14 x1 r12 G13) fun r18 G19 => zkq [3] G19 r18 (r18.bind fun a21 => (zgR G19 3 a21 1).bind fun r23 => r23.bind fun a25 => (zln G19 a25).bind fun v27 => zk [1] G19 t <| zb2 (fX1_changed_0 t (v27 + 1) G19) fun v31 G32 => some (.inl v31, G32))) (fun X3 G4 => some (.inr X3, G4))
theorem wfX1_append_46 {F : zF} (hd : 10 ≤ F.2.2.2) (t : Nat) (x1 : Int32) (x2 : Int32) (x3 : Option Nat) (s0 : Int32) (G : GS) {a : ((Int32) ⊕ String) × GS} (h : fX1_append_46 t x1 x2 x3 s0 G = some a) (hk : zKXI F a) : J mX1_append F G 46 [(0, vR (some t)), (1, vI x1), (2, vI x2), (3, vR x3)] [vI s0] := by
  unfold fX1_append_46 at h
  replace h := zb3E h
  rcases h with ⟨u5, G2, e1, h⟩ | ⟨X3, G4, e1, h⟩
  · refine j_cont (zrS (As := [vI s0]) msX1_79 (yX1_may_ok e1) (Nat.le_trans (Nat.le_of_ble_eq_true rfl) hd) rfl rfl (Nat.le_of_ble_eq_true rfl) dX1_append_46) ?_
    refine j_aload_n (j := 0) dX1_append_49 rfl rfl ?_
    replace h := zbE h
    obtain ⟨r6, e7, h⟩ := h
    refine j_getR fgX1_16 (fun _ _ _ => rfl) dX1_append_50 e7 ?_
    refine j_iload_n (j := 1) dX1_append_53 rfl rfl ?_
    refine j_aload_n (j := 3) dX1_append_54 rfl rfl ?_
    refine j_iload_n (j := 2) dX1_append_55 rfl rfl ?_
    replace h := zbE h
    obtain ⟨a8, e9, h⟩ := h
    subst e9
    replace h := zkE h
    obtain ⟨e10, h⟩ := h
    replace h := zb2E h
    obtain ⟨r12, G13, e11, h⟩ := h
    refine j_cont (zrV (As := [vI x2]) msX1_108 (yX3_with_ok e11) (Nat.le_trans (Nat.le_of_ble_eq_true rfl) hd) (zk_3 _ e10) rfl rfl (Nat.le_of_ble_eq_true rfl) dX1_append_56) ?_
    replace h := zbE h
    obtain ⟨a14, e15, h⟩ := h
    subst e15
    replace h := zkE h
    obtain ⟨e16, h⟩ := h
    replace h := zb2E h
    obtain ⟨r18, G19, e17, h⟩ := h
    refine j_cont (zrF (As := [vI x1, vR r12]) msX1_111_J2 (yJ2_set_ok e17) (Nat.le_trans (Nat.le_of_ble_eq_true rfl) hd) (zk_12 _ e16) rfl rfl (Nat.le_of_ble_eq_true rfl) dX1_append_59) ?_
    replace h := zkqE h
    obtain ⟨e20, h⟩ := h
    refine j_castq (fun k => j_castN dX1_append_64 k) (fun b q33 k => j_castS (zk_3 _ (e20 b q33)) ⟨2, _, rfl, rfl⟩ q1615 dX1_append_64 k) ?_
    refine j_astore (lv' := [(4, vR r18), (0, vR (some t)), (1, vI x1), (2, vI x2), (3, vR (some a8))]) dX1_append_67 (Nat.le_of_ble_eq_true rfl) rfl ?_
    refine j_aload_n (j := 1) dX1_append_69 rfl rfl ?_
    refine j_aload (j := 0) dX1_append_70 rfl ?_
    replace h := zbE h
    obtain ⟨a21, e22, h⟩ := h
    subst e22
    replace h := zbE h
    obtain ⟨r23, e24, h⟩ := h
    refine j_getR fgX1_104 (fun _ _ _ => rfl) dX1_append_72 e24 ?_
    replace h := zbE h
    obtain ⟨a25, e26, h⟩ := h
    subst e26
    replace h := zbE h
    obtain ⟨v27, e28, h⟩ := h
    refine j_alen e28 dX1_append_75 ?_
    refine j_iconst (v := 1) dX1_append_76 (by decide) ?_
    refine j_iadd dX1_append_77 ?_
    replace h := zkE h
    obtain ⟨e29, h⟩ := h
    replace h := zb2E h
    obtain ⟨v31, G32, e30, h⟩ := h
    refine j_cont (zrV (As := [vI (v27 + 1)]) msX1_90 (yX1_changed_ok e30) (Nat.le_trans (Nat.le_of_ble_eq_true rfl) hd) (zk_1 _ e29) rfl rfl (Nat.le_of_ble_eq_true rfl) dX1_append_78) ?_
    obtain rfl := Option.some.inj h
    exact j_iret hk.1 hk.2 rfl dX1_append_81
  · refine j_thr (zrS (As := [vI s0]) msX1_79 (yX1_may_ok e1) (Nat.le_trans (Nat.le_of_ble_eq_true rfl) hd) rfl rfl (Nat.le_of_ble_eq_true rfl) dX1_append_46) ?_
    obtain rfl := Option.some.inj h
    exact jx_out hk.1 hk.2 (by decide)
def fX1_append_28 (t : Nat) (x1 : Int32) (x2 : Int32) (x3 : Option Nat) (s0 : Int32) (G : GS) : Option (((Int32) ⊕ String) × GS) :=
  zb3 (fX1_argument_0 s0 G) (fun u5 G2 => x3.bind fun a6 => (zgR G2 3 a6 1).bind fun r8 => r8.bind fun a10 => (zln G2 a10).bind fun v12 => if 10 ≤ v12 then (fX1_append_46 t x1 x2 (some a6) 0 G2) else (fX1_append_46 t x1 x2 (some a6) 1 G2)) (fun X3 G4 => some (.inr X3, G4))
theorem wfX1_append_28 {F : zF} (hd : 10 ≤ F.2.2.2) (t : Nat) (x1 : Int32) (x2 : Int32) (x3 : Option Nat) (s0 : Int32) (G : GS) {a : ((Int32) ⊕ String) × GS} (h : fX1_append_28 t x1 x2 x3 s0 G = some a) (hk : zKXI F a) : J mX1_append F G 28 [(0, vR (some t)), (1, vI x1), (2, vI x2), (3, vR x3)] [vI s0] := by
  unfold fX1_append_28 at h
  replace h := zb3E h
  rcases h with ⟨u5, G2, e1, h⟩ | ⟨X3, G4, e1, h⟩
  · refine j_cont (zrS (As := [vI s0]) msX1_101 (yX1_argument_ok e1) (Nat.le_trans (Nat.le_of_ble_eq_true rfl) hd) rfl rfl (Nat.le_of_ble_eq_true rfl) dX1_append_28) ?_
    refine j_aload_n (j := 3) dX1_append_31 rfl rfl ?_
    replace h := zbE h
    obtain ⟨a6, e7, h⟩ := h
    subst e7
    replace h := zbE h
    obtain ⟨r8, e9, h⟩ := h
    refine j_getR fgX1_104 (fun _ _ _ => rfl) dX1_append_32 e9 ?_
    replace h := zbE h
    obtain ⟨a10, e11, h⟩ := h
    subst e11
    replace h := zbE h
    obtain ⟨v12, e13, h⟩ := h
    refine j_alen e13 dX1_append_35 ?_
    refine j_bipush (v := 10) dX1_append_36 (by decide) ?_
    refine j_icmp_ge (tgt := 45) dX1_append_38 (by decide) (fun c14 => ?_) (fun c14 => ?_)
    · rw [if_pos c14] at h
      refine j_iconst (v := 0) dX1_append_45 (by decide) ?_
      exact J.sub (zall [0, 1, 2, 3] rfl) (wfX1_append_46 hd t x1 x2 (some a6) 0 G2 h hk)
    · rw [if_neg c14] at h
      refine j_iconst (v := 1) dX1_append_41 (by decide) ?_
      refine j_goto (tgt := 46) dX1_append_42 (by decide) ?_
      exact J.sub (zall [0, 1, 2, 3] rfl) (wfX1_append_46 hd t x1 x2 (some a6) 1 G2 h hk)
  · refine j_thr (zrS (As := [vI s0]) msX1_101 (yX1_argument_ok e1) (Nat.le_trans (Nat.le_of_ble_eq_true rfl) hd) rfl rfl (Nat.le_of_ble_eq_true rfl) dX1_append_28) ?_
    obtain rfl := Option.some.inj h
    exact jx_out hk.1 hk.2 (by decide)
def fX1_append_23 (t : Nat) (x1 : Int32) (x2 : Int32) (x3 : Option Nat)  (G : GS) : Option (((Int32) ⊕ String) × GS) :=
  fX1_append_28 t x1 x2 x3 1 G
theorem wfX1_append_23 {F : zF} (hd : 10 ≤ F.2.2.2) (t : Nat) (x1 : Int32) (x2 : Int32) (x3 : Option Nat)  (G : GS) {a : ((Int32) ⊕ String) × GS} (h : fX1_append_23 t x1 x2 x3  G = some a) (hk : zKXI F a) : J mX1_append F G 23 [(0, vR (some t)), (1, vI x1), (2, vI x2), (3, vR x3)] [] := by
  unfold fX1_append_23 at h
  refine j_iconst (v := 1) dX1_append_23 (by decide) ?_
  refine j_goto (tgt := 28) dX1_append_24 (by decide) ?_
  exact J.sub (zall [0, 1, 2, 3] rfl) (wfX1_append_28 hd t x1 x2 x3 1 G h hk)
def fX1_append_0 (t : Nat) (x1 : Int32) (x2 : Int32)  (G : GS) : Option (((Int32) ⊕ String) × GS) :=
  zk [1] G t <| zb3 (fX1_rule_0 t x1 G) (fun r3 G4 => (fX1_isIn_0 x2 0 11 G4).bind fun v8 => if v8 = 0 then ((fX1_isNonterminal_0 x2 G4).bind fun v11 => if v11 = 0 then (fX1_append_28 t x1 x2 r3 0 G4) else (fX1_append_23 t x1 x2 r3 G4)) else (fX1_append_23 t x1 x2 r3 G4)) (fun X5 G6 => some (.inr X5, G6))
theorem wfX1_append_0 {F : zF} (hd : 10 ≤ F.2.2.2) (t : Nat) (x1 : Int32) (x2 : Int32)  (G : GS) {a : ((Int32) ⊕ String) × GS} (h : fX1_append_0 t x1 x2  G = some a) (hk : zKXI F a) : J mX1_append F G 0 [(0, vR (some t)), (1, vI x1), (2, vI x2)] [] := by
  unfold fX1_append_0 at h
  refine j_aload_n (j := 0) dX1_append_0 rfl rfl ?_
  refine j_iload_n (j := 1) dX1_append_1 rfl rfl ?_
  replace h := zkE h
  obtain ⟨e1, h⟩ := h
  replace h := zb3E h
  rcases h with ⟨r3, G4, e2, h⟩ | ⟨X5, G6, e2, h⟩
  · refine j_cont (zrV (As := [vI x1]) msX1_93 (yX1_rule_ok e2) (Nat.le_trans (Nat.le_of_ble_eq_true rfl) hd) (zk_1 _ e1) rfl rfl (Nat.le_of_ble_eq_true rfl) dX1_append_2) ?_
    refine j_astore_n (lv' := [(3, vR r3), (0, vR (some t)), (1, vI x1), (2, vI x2)]) dX1_append_5 rfl (Nat.le_of_ble_eq_true rfl) rfl ?_
    refine j_iload_n (j := 3) dX1_append_6 rfl rfl ?_
    refine j_iconst (v := 0) dX1_append_7 (by decide) ?_
    refine j_bipush (v := 11) dX1_append_8 (by decide) ?_
    replace h := zbE h
    obtain ⟨v8, e7, h⟩ := h
    refine j_cont (zrS (As := [vI x2, vI 0, vI 11]) msX1_3 (yX1_isIn_ok e7) (Nat.le_trans (Nat.le_of_ble_eq_true rfl) hd) rfl rfl (Nat.le_of_ble_eq_true rfl) dX1_append_10) ?_
    refine j_if_ne (tgt := 23) dX1_append_13 (by decide) (fun c9 => ?_) (fun c9 => ?_)
    · rw [if_pos c9] at h
      refine j_iload_n (j := 3) dX1_append_16 rfl rfl ?_
      replace h := zbE h
      obtain ⟨v11, e10, h⟩ := h
      refine j_cont (zrS (As := [vI x2]) msX1_97 (yX1_isNonterminal_ok e10) (Nat.le_trans (Nat.le_of_ble_eq_true rfl) hd) rfl rfl (Nat.le_of_ble_eq_true rfl) dX1_append_17) ?_
      refine j_if_eq (tgt := 27) dX1_append_20 (by decide) (fun c12 => ?_) (fun c12 => ?_)
      · rw [if_pos c12] at h
        refine j_iconst (v := 0) dX1_append_27 (by decide) ?_
        exact J.sub (zall [1, 2, 3, 0] rfl) (wfX1_append_28 hd t x1 x2 r3 0 G4 h hk)
      · rw [if_neg c12] at h
        exact J.sub (zall [1, 2, 3, 0] rfl) (wfX1_append_23 hd t x1 x2 r3  G4 h hk)
    · rw [if_neg c9] at h
      exact J.sub (zall [1, 2, 3, 0] rfl) (wfX1_append_23 hd t x1 x2 r3  G4 h hk)
  · refine j_thr (zrV (As := [vI x1]) msX1_93 (yX1_rule_ok e2) (Nat.le_trans (Nat.le_of_ble_eq_true rfl) hd) (zk_1 _ e1) rfl rfl (Nat.le_of_ble_eq_true rfl) dX1_append_2) ?_
    obtain rfl := Option.some.inj h
    exact jx_out hk.1 hk.2 (by decide)
theorem yX1_append_ok {t : Nat} {x1 : Int32} {x2 : Int32} {G : GS} {r : (Int32) ⊕ String} {G1 : GS} (h : fX1_append_0 t x1 x2 G = some (r, G1)) : zRuns yX1_append (ws_ yX1_append cX1_append 5 (some Jvm.ClassFile.FieldType.int)) [vR (some t), vI x1, vI x2] (zout (fun v => some (vI v)) r, G, G1, 10) :=
  zentry (M := mX1_append) (plainFor_of_name (by decide +kernel)) ⟨rfl, rfl, rfl, rfl⟩ (Nat.le_of_ble_eq_true rfl) (wfX1_append_0 (Nat.le_refl _) t x1 x2 G h ⟨rfl, rfl⟩)
theorem fgX1_244 : zFG RX1 244 8 3 (.object "java/util/List") := ⟨(RX10, TX10, 8, tyX10), rfl, by decide, in_X10, rfl, "SelahGenerator$Parse", Or.inl rfl, Or.inr ⟨_, zxw 69 rfl⟩⟩
theorem fgX1_43 : zFG RX1 43 0 3 (.object "SelahGenerator$Parse") := ⟨(RX1, TX1, 5, tyX1), rfl, by decide, in_X1, rfl, "SelahGenerator", Or.inl rfl, Or.inl q250⟩
abbrev mX1_appliedCount : zM := (cX1_appliedCount, RX1, 1, (some Jvm.ClassFile.FieldType.int), "appliedCount", [], "()I")
def fX1_appliedCount_0 (t : Nat)  (G : GS) : Option (Int32) :=
  (zgR G 1 t 3).bind fun r1 => zopt r1 (some 0) (fun a3 => (zgR G 1 t 3).bind fun r4 => r4.bind fun a6 => (zgR G 9 a6 3).bind fun r8 => r8.bind fun a10 => zk [12] G a10 <| (fJ2_size_0 a10 G).bind fun v14 => some v14)
theorem wfX1_appliedCount_0 {F : zF} (hd : 2 ≤ F.2.2.2) (t : Nat)  (G : GS) {a : Int32} (h : fX1_appliedCount_0 t  G = some a) (hk : zKPI F G a) : J mX1_appliedCount F G 0 [(0, vR (some t))] [] := by
  unfold fX1_appliedCount_0 at h
  refine j_aload_n (j := 0) dX1_appliedCount_0 rfl rfl ?_
  replace h := zbE h
  obtain ⟨r1, e2, h⟩ := h
  refine j_getR fgX1_43 (fun _ _ _ => rfl) dX1_appliedCount_1 e2 ?_
  rcases r1 with _ | a3
  · replace h := zopt_n h
    refine j_ifnonnull0 dX1_appliedCount_4 ?_
    refine j_iconst (v := 0) dX1_appliedCount_7 (by decide) ?_
    refine j_goto (tgt := 23) dX1_appliedCount_8 (by decide) ?_
    obtain rfl := Option.some.inj h
    exact j_iret hk.1 hk.2 rfl dX1_appliedCount_23
  · replace h := zopt_s h
    refine j_ifnonnull1 (tgt := 11) dX1_appliedCount_4 (by decide) ?_
    refine j_aload_n (j := 0) dX1_appliedCount_11 rfl rfl ?_
    replace h := zbE h
    obtain ⟨r4, e5, h⟩ := h
    refine j_getR fgX1_43 (fun _ _ _ => rfl) dX1_appliedCount_12 e5 ?_
    replace h := zbE h
    obtain ⟨a6, e7, h⟩ := h
    subst e7
    replace h := zbE h
    obtain ⟨r8, e9, h⟩ := h
    refine j_getR fgX1_244 (fun _ _ _ => rfl) dX1_appliedCount_15 e9 ?_
    replace h := zbE h
    obtain ⟨a10, e11, h⟩ := h
    subst e11
    replace h := zkE h
    obtain ⟨e12, h⟩ := h
    replace h := zbE h
    obtain ⟨v14, e13, h⟩ := h
    refine j_cont (zrF (As := []) msX1_54_J2 (yJ2_size_ok e13) (Nat.le_trans (Nat.le_of_ble_eq_true rfl) hd) (zk_12 _ e12) rfl rfl (Nat.le_of_ble_eq_true rfl) dX1_appliedCount_18) ?_
    obtain rfl := Option.some.inj h
    exact j_iret hk.1 hk.2 rfl dX1_appliedCount_23
theorem yX1_appliedCount_ok {t : Nat} {G : GS} {r : Int32} (h : fX1_appliedCount_0 t G = some r) : zRuns yX1_appliedCount (ws_ yX1_appliedCount cX1_appliedCount 1 (some Jvm.ClassFile.FieldType.int)) [vR (some t)] (.inl (some (vI r)), G, G, 2) :=
  zentry (M := mX1_appliedCount) (plainFor_of_name (by decide +kernel)) ⟨rfl, rfl, rfl, rfl⟩ (Nat.le_of_ble_eq_true rfl) (wfX1_appliedCount_0 (Nat.le_refl _) t G h ⟨rfl, rfl⟩)
theorem fgJ26_205 : zFG RJ26 205 20 0 (.int) := ⟨(RJ26, TJ26, 1, tyJ26), rfl, by decide, in_J26, rfl, "java/lang/Integer", Or.inl rfl, Or.inl q1049⟩
abbrev mJ26_intValue : zM := (cJ26_intValue, RJ26, 1, (some Jvm.ClassFile.FieldType.int), "intValue", [], "()I")
def fJ26_intValue_0 (t : Nat)  (G : GS) : Option (Int32) :=
  (zgV G t).bind fun v1 => some v1
theorem wfJ26_intValue_0 {F : zF} (hd : 1 ≤ F.2.2.2) (t : Nat)  (G : GS) {a : Int32} (h : fJ26_intValue_0 t  G = some a) (hk : zKPI F G a) : J mJ26_intValue F G 0 [(0, vR (some t))] [] := by
  unfold fJ26_intValue_0 at h
  refine j_aload_n (j := 0) dJ26_intValue_0 rfl rfl ?_
  replace h := zbE h
  obtain ⟨v1, e2, h⟩ := h
  refine j_getV fgJ26_205 dJ26_intValue_1 e2 ?_
  obtain rfl := Option.some.inj h
  exact j_iret hk.1 hk.2 rfl dJ26_intValue_4
theorem yJ26_intValue_ok {t : Nat} {G : GS} {r : Int32} (h : fJ26_intValue_0 t G = some r) : zRuns yJ26_intValue (ws_ yJ26_intValue cJ26_intValue 1 (some Jvm.ClassFile.FieldType.int)) [vR (some t)] (.inl (some (vI r)), G, G, 1) :=
  zentry (M := mJ26_intValue) (plainFor_of_name (by decide +kernel)) ⟨rfl, rfl, rfl, rfl⟩ (Nat.le_of_ble_eq_true rfl) (wfJ26_intValue_0 (Nat.le_refl _) t G h ⟨rfl, rfl⟩)
end
