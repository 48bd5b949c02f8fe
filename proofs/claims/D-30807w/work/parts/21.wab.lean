/-! printed: functions and walks -/
set_option maxRecDepth 100000
noncomputable section
theorem zk_21_61 : ∀ k, [21, 61].contains k = true → zKc k = some "java/lang/Integer" := fun k h => by
  have h : k = 21 ∨ k = 61 := by simpa using h
  rcases h with rfl | rfl <;> rfl
theorem msX1_238 : zSV RX1 238 RJ26 yJ26_intValue cJ26_intValue 1 (some Jvm.ClassFile.FieldType.int) 0 := ⟨lw_V q1469 q1307 q1308 q156 q1309, (by decide +kernel), (by decide)⟩
theorem msX1_247 : zSV RX1 247 RX1 yX1_appliedCount cX1_appliedCount 1 (some Jvm.ClassFile.FieldType.int) 0 := ⟨lw_V q1509 q1502 q1503 q123 q1504, (by decide +kernel), (by decide)⟩
abbrev mX1_appliedRule : zM := (cX1_appliedRule, RX1, 2, (some Jvm.ClassFile.FieldType.int), "appliedRule", [], "(I)I")
def fX1_appliedRule_0 (t : Nat) (x1 : Int32)  (G : GS) : Option (Int32) :=
  zk [1] G t <| (fX1_appliedCount_0 t G).bind fun v3 => (fX1_isIn_0 x1 0 (v3 - 1) G).bind fun v5 => if v5 = 0 then (some (-1)) else ((zgR G 1 t 3).bind fun r7 => r7.bind fun a9 => (zgR G 9 a9 3).bind fun r11 => r11.bind fun a13 => zk [12] G a13 <| (fJ2_get_0 a13 x1 G).bind fun r17 => zkq [21, 61] G r17 (r17.bind fun a19 => zk [21, 61] G a19 <| (fJ26_intValue_0 a19 G).bind fun v23 => some v23))
theorem wfX1_appliedRule_0 {F : zF} (hd : 4 ≤ F.2.2.2) (t : Nat) (x1 : Int32)  (G : GS) {a : Int32} (h : fX1_appliedRule_0 t x1  G = some a) (hk : zKPI F G a) : J mX1_appliedRule F G 0 [(0, vR (some t)), (1, vI x1)] [] := by
  unfold fX1_appliedRule_0 at h
  refine j_iload_n (j := 1) dX1_appliedRule_0 rfl rfl ?_
  refine j_iconst (v := 0) dX1_appliedRule_1 (by decide) ?_
  refine j_aload_n (j := 0) dX1_appliedRule_2 rfl rfl ?_
  replace h := zkE h
  obtain ⟨e1, h⟩ := h
  replace h := zbE h
  obtain ⟨v3, e2, h⟩ := h
  refine j_cont (zrV (As := []) msX1_247 (yX1_appliedCount_ok e2) (Nat.le_trans (Nat.le_of_ble_eq_true rfl) hd) (zk_1 _ e1) rfl rfl (Nat.le_of_ble_eq_true rfl) dX1_appliedRule_3) ?_
  refine j_iconst (v := 1) dX1_appliedRule_6 (by decide) ?_
  refine j_isub dX1_appliedRule_7 ?_
  replace h := zbE h
  obtain ⟨v5, e4, h⟩ := h
  refine j_cont (zrS (As := [vI x1, vI 0, vI (v3 - 1)]) msX1_3 (yX1_isIn_ok e4) (Nat.le_trans (Nat.le_of_ble_eq_true rfl) hd) rfl rfl (Nat.le_of_ble_eq_true rfl) dX1_appliedRule_8) ?_
  refine j_if_eq (tgt := 36) dX1_appliedRule_11 (by decide) (fun c6 => ?_) (fun c6 => ?_)
  · rw [if_pos c6] at h
    refine j_iconst (v := (-1)) dX1_appliedRule_36 (by decide) ?_
    obtain rfl := Option.some.inj h
    exact j_iret hk.1 hk.2 rfl dX1_appliedRule_37
  · rw [if_neg c6] at h
    refine j_aload_n (j := 0) dX1_appliedRule_14 rfl rfl ?_
    replace h := zbE h
    obtain ⟨r7, e8, h⟩ := h
    refine j_getR fgX1_43 (fun _ _ _ => rfl) dX1_appliedRule_15 e8 ?_
    replace h := zbE h
    obtain ⟨a9, e10, h⟩ := h
    subst e10
    replace h := zbE h
    obtain ⟨r11, e12, h⟩ := h
    refine j_getR fgX1_244 (fun _ _ _ => rfl) dX1_appliedRule_18 e12 ?_
    refine j_iload_n (j := 1) dX1_appliedRule_21 rfl rfl ?_
    replace h := zbE h
    obtain ⟨a13, e14, h⟩ := h
    subst e14
    replace h := zkE h
    obtain ⟨e15, h⟩ := h
    replace h := zbE h
    obtain ⟨r17, e16, h⟩ := h
    refine j_cont (zrF (As := [vI x1]) msX1_64_J2 (yJ2_get_ok e16) (Nat.le_trans (Nat.le_of_ble_eq_true rfl) hd) (zk_12 _ e15) rfl rfl (Nat.le_of_ble_eq_true rfl) dX1_appliedRule_22) ?_
    replace h := zkqE h
    obtain ⟨e18, h⟩ := h
    refine j_castq (fun k => j_castN dX1_appliedRule_27 k) (fun b q24 k => j_castS (zk_21_61 _ (e18 b q24)) ⟨20, _, rfl, rfl⟩ q1468 dX1_appliedRule_27 k) ?_
    replace h := zbE h
    obtain ⟨a19, e20, h⟩ := h
    subst e20
    replace h := zkE h
    obtain ⟨e21, h⟩ := h
    replace h := zbE h
    obtain ⟨v23, e22, h⟩ := h
    refine j_cont (zrV (As := []) msX1_238 (yJ26_intValue_ok e22) (Nat.le_trans (Nat.le_of_ble_eq_true rfl) hd) (zk_21_61 _ e21) rfl rfl (Nat.le_of_ble_eq_true rfl) dX1_appliedRule_30) ?_
    refine j_goto (tgt := 37) dX1_appliedRule_33 (by decide) ?_
    obtain rfl := Option.some.inj h
    exact j_iret hk.1 hk.2 rfl dX1_appliedRule_37
theorem yX1_appliedRule_ok {t : Nat} {x1 : Int32} {G : GS} {r : Int32} (h : fX1_appliedRule_0 t x1 G = some r) : zRuns yX1_appliedRule (ws_ yX1_appliedRule cX1_appliedRule 2 (some Jvm.ClassFile.FieldType.int)) [vR (some t), vI x1] (.inl (some (vI r)), G, G, 4) :=
  zentry (M := mX1_appliedRule) (plainFor_of_name (by decide +kernel)) ⟨rfl, rfl, rfl, rfl⟩ (Nat.le_of_ble_eq_true rfl) (wfX1_appliedRule_0 (Nat.le_refl _) t x1 G h ⟨rfl, rfl⟩)
abbrev mJ21_init : zM := (cJ21_init, RJ21, 1, none, "<init>", [], "()V")
def fJ21_init_0 (t : Nat)  (G : GS) : Option (GS) :=
  some G
theorem wfJ21_init_0 {F : zF} (hd : 2 ≤ F.2.2.2) (t : Nat)  (G : GS) {a : GS} (h : fJ21_init_0 t  G = some a) (hk : zKV F a) : J mJ21_init F G 0 [(0, vR (some t))] [] := by
  unfold fJ21_init_0 at h
  refine j_aload_n (j := 0) dJ21_init_0 rfl rfl ?_
  refine j_objinit q428 q181 q182 (Nat.le_trans (Nat.le_of_ble_eq_true rfl) hd) (Nat.le_of_ble_eq_true rfl) dJ21_init_1 ?_
  obtain rfl := Option.some.inj h
  exact j_vret hk.1 hk.2 rfl dJ21_init_4
theorem yJ21_init_ok {t : Nat} {G : GS} {G1 : GS} (h : fJ21_init_0 t G = some G1) : zRuns yJ21_init (ws_ yJ21_init cJ21_init 1 none) [vR (some t)] (.inl none, G, G1, 2) :=
  zentry (M := mJ21_init) (plainFor_of_name (by decide +kernel)) ⟨rfl, rfl, rfl, rfl⟩ (Nat.le_of_ble_eq_true rfl) (wfJ21_init_0 (Nat.le_refl _) t G h ⟨rfl, rfl⟩)
theorem fpJ22_13_J22 : zFP RJ22 13 15 5 (.int) false := ⟨(RJ22, TJ22, 9, tyJ22), rfl, by decide, in_J22, tyJ22_ok, nmJ22, rfl, rfl, (by decide), "java/util/TreeMap", Or.inl rfl, q432⟩
theorem fpJ22_16_J22 : zFP RJ22 16 15 2 (.object "java/util/Comparator") true := ⟨(RJ22, TJ22, 9, tyJ22), rfl, by decide, in_J22, tyJ22_ok, nmJ22, rfl, rfl, (by intro _; rfl), "java/util/TreeMap", Or.inl rfl, q429⟩
theorem fpJ22_7_J22 : zFP RJ22 7 15 4 (.int) false := ⟨(RJ22, TJ22, 9, tyJ22), rfl, by decide, in_J22, tyJ22_ok, nmJ22, rfl, rfl, (by decide), "java/util/TreeMap", Or.inl rfl, q431⟩
theorem msJ22_1 : zSI RJ22 1 yJ21_init cJ21_init 1 0 := ⟨q427, q149, q425, q426, rfl, (by decide +kernel), (by decide)⟩
abbrev mJ22_init : zM := (cJ22_init, RJ22, 1, none, "<init>", [], "()V")
def fJ22_init_0 (t : Nat)  (G : GS) : Option (GS) :=
  (fJ21_init_0 t G).bind fun G2 => (zpI G2 16 t 4 0).bind fun G3 => (zpI G3 16 t 5 0).bind fun G5 => (zpR G5 16 t 2 none).bind fun G7 => some G7
theorem wfJ22_init_0 {F : zF} (hd : 3 ≤ F.2.2.2) (t : Nat)  (G : GS) {a : GS} (h : fJ22_init_0 t  G = some a) (hk : zKV F a) : J mJ22_init F G 0 [(0, vR (some t))] [] := by
  unfold fJ22_init_0 at h
  refine j_aload_n (j := 0) dJ22_init_0 rfl rfl ?_
  replace h := zbE h
  obtain ⟨G2, e1, h⟩ := h
  refine j_cont (zrI (As := []) msJ22_1 (yJ21_init_ok e1) (Nat.le_trans (Nat.le_of_ble_eq_true rfl) hd) rfl rfl (Nat.le_of_ble_eq_true rfl) dJ22_init_1) ?_
  refine j_aload_n (j := 0) dJ22_init_4 rfl rfl ?_
  refine j_iconst (v := 0) dJ22_init_5 (by decide) ?_
  replace h := zbE h
  obtain ⟨G3, e4, h⟩ := h
  refine j_putI fpJ22_7_J22 (Or.inl rfl) rfl dJ22_init_6 e4 ?_
  refine j_aload_n (j := 0) dJ22_init_9 rfl rfl ?_
  refine j_iconst (v := 0) dJ22_init_10 (by decide) ?_
  replace h := zbE h
  obtain ⟨G5, e6, h⟩ := h
  refine j_putI fpJ22_13_J22 (Or.inl rfl) rfl dJ22_init_11 e6 ?_
  refine j_aload_n (j := 0) dJ22_init_14 rfl rfl ?_
  refine j_null dJ22_init_15 ?_
  replace h := zbE h
  obtain ⟨G7, e8, h⟩ := h
  refine j_putR fpJ22_16_J22 (Or.inr rfl) (Or.inl ⟨_, rfl⟩) dJ22_init_16 e8 ?_
  obtain rfl := Option.some.inj h
  exact j_vret hk.1 hk.2 rfl dJ22_init_19
theorem yJ22_init_ok {t : Nat} {G : GS} {G1 : GS} (h : fJ22_init_0 t G = some G1) : zRuns yJ22_init (ws_ yJ22_init cJ22_init 1 none) [vR (some t)] (.inl none, G, G1, 3) :=
  zentry (M := mJ22_init) (plainFor_of_name (by decide +kernel)) ⟨rfl, rfl, rfl, rfl⟩ (Nat.le_of_ble_eq_true rfl) (wfJ22_init_0 (Nat.le_refl _) t G h ⟨rfl, rfl⟩)
theorem fgJ19_1 : zFG RJ19 1 12 3 (.object "java/util/ArrayList") := ⟨(RJ19, TJ19, 4, tyJ19), rfl, by decide, in_J19, rfl, "java/util/ArrayList$Itr", Or.inl rfl, Or.inl q302⟩
theorem fgJ19_17 : zFG RJ19 17 11 0 (.int) := ⟨(RJ2, TJ2, 3, tyJ2), rfl, by decide, in_J2, rfl, "java/util/ArrayList", Or.inr q203, Or.inl q202⟩
theorem fpJ19_13_J19 : zFP RJ19 13 12 1 (.int) false := ⟨(RJ19, TJ19, 4, tyJ19), rfl, by decide, in_J19, tyJ19_ok, nmJ19, rfl, rfl, (by decide), "java/util/ArrayList$Itr", Or.inl rfl, q300⟩
theorem fpJ19_1_J19 : zFP RJ19 1 12 3 (.object "java/util/ArrayList") true := ⟨(RJ19, TJ19, 4, tyJ19), rfl, by decide, in_J19, tyJ19_ok, nmJ19, rfl, rfl, (by intro _; rfl), "java/util/ArrayList$Itr", Or.inl rfl, q302⟩
theorem fpJ19_22_J19 : zFP RJ19 22 12 2 (.int) false := ⟨(RJ19, TJ19, 4, tyJ19), rfl, by decide, in_J19, tyJ19_ok, nmJ19, rfl, rfl, (by decide), "java/util/ArrayList$Itr", Or.inl rfl, q301⟩
abbrev mJ19_init : zM := (cJ19_init, RJ19, 2, none, "<init>", [], "(Ljava/util/ArrayList;)V")
def fJ19_init_0 (t : Nat) (x1 : Option Nat)  (G : GS) : Option (GS) :=
  (zpR G 13 t 3 x1).bind fun G1 => (zpI G1 13 t 1 (-1)).bind fun G3 => (zgR G3 13 t 3).bind fun r5 => r5.bind fun a7 => (zgI G3 12 a7 0).bind fun v9 => (zpI G3 13 t 2 v9).bind fun G11 => some G11
theorem wfJ19_init_0 {F : zF} (hd : 2 ≤ F.2.2.2) (t : Nat) (x1 : Option Nat)  (G : GS) {a : GS} (h : fJ19_init_0 t x1  G = some a) (hk : zKV F a) : J mJ19_init F G 0 [(0, vR (some t)), (1, vR x1)] [] := by
  unfold fJ19_init_0 at h
  refine j_aload_n (j := 0) dJ19_init_0 rfl rfl ?_
  refine j_aload_n (j := 1) dJ19_init_1 rfl rfl ?_
  replace h := zbE h
  obtain ⟨G1, e2, h⟩ := h
  refine j_putR fpJ19_1_J19 (Or.inr rfl) (Or.inl ⟨_, rfl⟩) dJ19_init_2 e2 ?_
  refine j_aload_n (j := 0) dJ19_init_5 rfl rfl ?_
  refine j_objinit q298 q181 q182 (Nat.le_trans (Nat.le_of_ble_eq_true rfl) hd) (Nat.le_of_ble_eq_true rfl) dJ19_init_6 ?_
  refine j_aload_n (j := 0) dJ19_init_9 rfl rfl ?_
  refine j_iconst (v := (-1)) dJ19_init_10 (by decide) ?_
  replace h := zbE h
  obtain ⟨G3, e4, h⟩ := h
  refine j_putI fpJ19_13_J19 (Or.inl rfl) rfl dJ19_init_11 e4 ?_
  refine j_aload_n (j := 0) dJ19_init_14 rfl rfl ?_
  refine j_aload_n (j := 0) dJ19_init_15 rfl rfl ?_
  replace h := zbE h
  obtain ⟨r5, e6, h⟩ := h
  refine j_getR fgJ19_1 (fun _ _ _ => rfl) dJ19_init_16 e6 ?_
  replace h := zbE h
  obtain ⟨a7, e8, h⟩ := h
  subst e8
  replace h := zbE h
  obtain ⟨v9, e10, h⟩ := h
  refine j_getI fgJ19_17 (fun _ _ _ => rfl) dJ19_init_19 e10 ?_
  replace h := zbE h
  obtain ⟨G11, e12, h⟩ := h
  refine j_putI fpJ19_22_J19 (Or.inl rfl) rfl dJ19_init_22 e12 ?_
  obtain rfl := Option.some.inj h
  exact j_vret hk.1 hk.2 rfl dJ19_init_25
theorem yJ19_init_ok {t : Nat} {x1 : Option Nat} {G : GS} {G1 : GS} (h : fJ19_init_0 t x1 G = some G1) : zRuns yJ19_init (ws_ yJ19_init cJ19_init 2 none) [vR (some t), vR x1] (.inl none, G, G1, 2) :=
  zentry (M := mJ19_init) (plainFor_of_name (by decide +kernel)) ⟨rfl, rfl, rfl, rfl⟩ (Nat.le_of_ble_eq_true rfl) (wfJ19_init_0 (Nat.le_refl _) t x1 G h ⟨rfl, rfl⟩)
theorem msJ2_269 : zSI RJ2 269 yJ19_init cJ19_init 2 1 := ⟨q297, q147, q295, q296, rfl, (by decide +kernel), (by decide)⟩
abbrev mJ2_iterator : zM := (cJ2_iterator, RJ2, 1, (some (Jvm.ClassFile.FieldType.object "java/util/Iterator")), "iterator", [], "()Ljava/util/Iterator;")
def fJ2_iterator_0 (t : Nat)  (G : GS) : Option ((Option Nat) × GS) :=
  zl (al G 13 0 4) fun G1 => (fJ19_init_0 (gz G) (some t) G1).bind fun G4 => some ((some (gz G)), G4)
theorem wfJ2_iterator_0 {F : zF} (hd : 3 ≤ F.2.2.2) (t : Nat)  (G : GS) {a : (Option Nat) × GS} (h : fJ2_iterator_0 t  G = some a) (hk : zKR F a) : J mJ2_iterator F G 0 [(0, vR (some t))] [] := by
  unfold fJ2_iterator_0 at h
  replace h := zlE h
  obtain ⟨G1, e2, h⟩ := h
  refine j_new (c := 12) (n := 4) (r := (RJ19, TJ19, 4, tyJ19)) rfl rfl in_J19 tyJ19_ok nwJ19 q293 q294 q147 dJ2_iterator_0 ?_
  rw [show al G (12 + 1) 0 4 = G1 from e2.symm]
  refine j_dup dJ2_iterator_3 rfl ?_
  refine j_aload_n (j := 0) dJ2_iterator_4 rfl rfl ?_
  replace h := zbE h
  obtain ⟨G4, e3, h⟩ := h
  refine j_cont (zrI (As := [vR (some t)]) msJ2_269 (yJ19_init_ok e3) (Nat.le_trans (Nat.le_of_ble_eq_true rfl) hd) rfl rfl (Nat.le_of_ble_eq_true rfl) dJ2_iterator_5) ?_
  obtain rfl := Option.some.inj h
  exact j_aret hk.1 hk.2 rfl (Or.inl ⟨_, rfl⟩) dJ2_iterator_8
theorem yJ2_iterator_ok {t : Nat} {G : GS} {r : Option Nat} {G1 : GS} (h : fJ2_iterator_0 t G = some (r, G1)) : zRuns yJ2_iterator (ws_ yJ2_iterator cJ2_iterator 1 (some (Jvm.ClassFile.FieldType.object "java/util/Iterator"))) [vR (some t)] (.inl (some (vR r)), G, G1, 3) :=
  zentry (M := mJ2_iterator) (plainFor_of_name (by decide +kernel)) ⟨rfl, rfl, rfl, rfl⟩ (Nat.le_of_ble_eq_true rfl) (wfJ2_iterator_0 (Nat.le_refl _) t G h ⟨rfl, rfl⟩)
theorem fgJ19_25 : zFG RJ19 25 12 0 (.int) := ⟨(RJ19, TJ19, 4, tyJ19), rfl, by decide, in_J19, rfl, "java/util/ArrayList$Itr", Or.inl rfl, Or.inl q299⟩
theorem fgJ19_28 : zFG RJ19 28 11 2 (.int) := ⟨(RJ2, TJ2, 3, tyJ2), rfl, by decide, in_J2, rfl, "java/util/ArrayList", Or.inl rfl, Or.inr ⟨_, zxw 14 rfl⟩⟩
abbrev mJ19_hasNext : zM := (cJ19_hasNext, RJ19, 1, (some Jvm.ClassFile.FieldType.boolean), "hasNext", [], "()Z")
def fJ19_hasNext_0 (t : Nat)  (G : GS) : Option (Int32) :=
  (zgI G 13 t 0).bind fun v1 => (zgR G 13 t 3).bind fun r3 => r3.bind fun a5 => (zgI G 12 a5 2).bind fun v7 => if v1 = v7 then (zcond (zbb 0) (some 0)) else (zcond (zbb 1) (some 1))
theorem wfJ19_hasNext_0 {F : zF} (hd : 1 ≤ F.2.2.2) (t : Nat)  (G : GS) {a : Int32} (h : fJ19_hasNext_0 t  G = some a) (hk : zKPI F G a) : J mJ19_hasNext F G 0 [(0, vR (some t))] [] := by
  unfold fJ19_hasNext_0 at h
  refine j_aload_n (j := 0) dJ19_hasNext_0 rfl rfl ?_
  replace h := zbE h
  obtain ⟨v1, e2, h⟩ := h
  refine j_getI fgJ19_25 (fun _ _ _ => rfl) dJ19_hasNext_1 e2 ?_
  refine j_aload_n (j := 0) dJ19_hasNext_4 rfl rfl ?_
  replace h := zbE h
  obtain ⟨r3, e4, h⟩ := h
  refine j_getR fgJ19_1 (fun _ _ _ => rfl) dJ19_hasNext_5 e4 ?_
  replace h := zbE h
  obtain ⟨a5, e6, h⟩ := h
  subst e6
  replace h := zbE h
  obtain ⟨v7, e8, h⟩ := h
  refine j_getI fgJ19_28 (fun _ _ _ => rfl) dJ19_hasNext_8 e8 ?_
  refine j_icmp_eq (tgt := 18) dJ19_hasNext_11 (by decide) (fun c9 => ?_) (fun c9 => ?_)
  · rw [if_pos c9] at h
    refine j_iconst (v := 0) dJ19_hasNext_18 (by decide) ?_
    replace h := zcondE h
    obtain ⟨e10, h⟩ := h
    obtain rfl := Option.some.inj h
    exact j_zret hk.1 hk.2 rfl (zbb_n e10) dJ19_hasNext_19
  · rw [if_neg c9] at h
    refine j_iconst (v := 1) dJ19_hasNext_14 (by decide) ?_
    refine j_goto (tgt := 19) dJ19_hasNext_15 (by decide) ?_
    replace h := zcondE h
    obtain ⟨e11, h⟩ := h
    obtain rfl := Option.some.inj h
    exact j_zret hk.1 hk.2 rfl (zbb_n e11) dJ19_hasNext_19
theorem yJ19_hasNext_ok {t : Nat} {G : GS} {r : Int32} (h : fJ19_hasNext_0 t G = some r) : zRuns yJ19_hasNext (ws_ yJ19_hasNext cJ19_hasNext 1 (some Jvm.ClassFile.FieldType.boolean)) [vR (some t)] (.inl (some (vI r)), G, G, 1) :=
  zentry (M := mJ19_hasNext) (plainFor_of_name (by decide +kernel)) ⟨rfl, rfl, rfl, rfl⟩ (Nat.le_of_ble_eq_true rfl) (wfJ19_hasNext_0 (Nat.le_refl _) t G h ⟨rfl, rfl⟩)
theorem fgJ19_22 : zFG RJ19 22 12 2 (.int) := ⟨(RJ19, TJ19, 4, tyJ19), rfl, by decide, in_J19, rfl, "java/util/ArrayList$Itr", Or.inl rfl, Or.inl q301⟩
abbrev mJ19_checkForComodification : zM := (cJ19_checkForComodification, RJ19, 1, none, "checkForComodification", [], "()V")
def fJ19_checkForComodification_0 (t : Nat)  (G : GS) : Option (GS) :=
  (zgR G 13 t 3).bind fun r1 => r1.bind fun a3 => (zgI G 12 a3 0).bind fun v5 => (zgI G 13 t 2).bind fun v7 => if v5 = v7 then (some G) else none
theorem wfJ19_checkForComodification_0 {F : zF} (hd : 1 ≤ F.2.2.2) (t : Nat)  (G : GS) {a : GS} (h : fJ19_checkForComodification_0 t  G = some a) (hk : zKV F a) : J mJ19_checkForComodification F G 0 [(0, vR (some t))] [] := by
  unfold fJ19_checkForComodification_0 at h
  refine j_aload_n (j := 0) dJ19_checkForComodification_0 rfl rfl ?_
  replace h := zbE h
  obtain ⟨r1, e2, h⟩ := h
  refine j_getR fgJ19_1 (fun _ _ _ => rfl) dJ19_checkForComodification_1 e2 ?_
  replace h := zbE h
  obtain ⟨a3, e4, h⟩ := h
  subst e4
  replace h := zbE h
  obtain ⟨v5, e6, h⟩ := h
  refine j_getI fgJ19_17 (fun _ _ _ => rfl) dJ19_checkForComodification_4 e6 ?_
  refine j_aload_n (j := 0) dJ19_checkForComodification_7 rfl rfl ?_
  replace h := zbE h
  obtain ⟨v7, e8, h⟩ := h
  refine j_getI fgJ19_22 (fun _ _ _ => rfl) dJ19_checkForComodification_8 e8 ?_
  refine j_icmp_eq (tgt := 22) dJ19_checkForComodification_11 (by decide) (fun c9 => ?_) (fun c9 => ?_)
  · rw [if_pos c9] at h
    obtain rfl := Option.some.inj h
    exact j_vret hk.1 hk.2 rfl dJ19_checkForComodification_22
  · rw [if_neg c9] at h
    cases h
theorem yJ19_checkForComodification_ok {t : Nat} {G : GS} {G1 : GS} (h : fJ19_checkForComodification_0 t G = some G1) : zRuns yJ19_checkForComodification (ws_ yJ19_checkForComodification cJ19_checkForComodification 1 none) [vR (some t)] (.inl none, G, G1, 1) :=
  zentry (M := mJ19_checkForComodification) (plainFor_of_name (by decide +kernel)) ⟨rfl, rfl, rfl, rfl⟩ (Nat.le_of_ble_eq_true rfl) (wfJ19_checkForComodification_0 (Nat.le_refl _) t G h ⟨rfl, rfl⟩)
theorem zk_13 : ∀ k, [13].contains k = true → zKc k = some "java/util/ArrayList$Itr" := fun k h => by rw [zKc_one h]; rfl
theorem fgJ19_37 : zFG RJ19 37 11 1 (.array (.object "java/lang/Object")) := ⟨(RJ2, TJ2, 3, tyJ2), rfl, by decide, in_J2, rfl, "java/util/ArrayList", Or.inl rfl, Or.inl q198⟩
theorem fpJ19_25_J19 : zFP RJ19 25 12 0 (.int) false := ⟨(RJ19, TJ19, 4, tyJ19), rfl, by decide, in_J19, tyJ19_ok, nmJ19, rfl, rfl, (by decide), "java/util/ArrayList$Itr", Or.inl rfl, q299⟩
theorem msJ19_31 : zSV RJ19 31 RJ19 yJ19_checkForComodification cJ19_checkForComodification 1 none 0 := ⟨lw_V q364 q365 q366 q147 q367, (by decide +kernel), (by decide)⟩
abbrev mJ19_next : zM := (cJ19_next, RJ19, 3, (some (Jvm.ClassFile.FieldType.object "java/lang/Object")), "next", [], "()Ljava/lang/Object;")
def fJ19_next_0 (t : Nat)  (G : GS) : Option ((Option Nat) × GS) :=
  zk [13] G t <| (fJ19_checkForComodification_0 t G).bind fun G3 => (zgI G3 13 t 0).bind fun v4 => (zgR G3 13 t 3).bind fun r6 => r6.bind fun a8 => (zgI G3 12 a8 2).bind fun v10 => if v4 < v10 then ((zgR G3 13 t 3).bind fun r13 => r13.bind fun a15 => (zgR G3 12 a15 1).bind fun r17 => r17.bind fun a19 => (zln G3 a19).bind fun v21 => if v4 < v21 then ((zpI G3 13 t 0 (v4 + 1)).bind fun G24 => (zpI G24 13 t 1 v4).bind fun G26 => (zaR G26 54 a19 v4).bind fun r28 => some (r28, G26)) else none) else none
theorem wfJ19_next_0 {F : zF} (hd : 2 ≤ F.2.2.2) (t : Nat)  (G : GS) {a : (Option Nat) × GS} (h : fJ19_next_0 t  G = some a) (hk : zKR F a) : J mJ19_next F G 0 [(0, vR (some t))] [] := by
  unfold fJ19_next_0 at h
  refine j_aload_n (j := 0) dJ19_next_0 rfl rfl ?_
  replace h := zkE h
  obtain ⟨e1, h⟩ := h
  replace h := zbE h
  obtain ⟨G3, e2, h⟩ := h
  refine j_cont (zrV (As := []) msJ19_31 (yJ19_checkForComodification_ok e2) (Nat.le_trans (Nat.le_of_ble_eq_true rfl) hd) (zk_13 _ e1) rfl rfl (Nat.le_of_ble_eq_true rfl) dJ19_next_1) ?_
  refine j_aload_n (j := 0) dJ19_next_4 rfl rfl ?_
  replace h := zbE h
  obtain ⟨v4, e5, h⟩ := h
  refine j_getI fgJ19_25 (fun _ _ _ => rfl) dJ19_next_5 e5 ?_
  refine j_istore_n (lv' := [(1, vI v4), (0, vR (some t))]) dJ19_next_8 rfl (Nat.le_of_ble_eq_true rfl) rfl ?_
  refine j_iload_n (j := 0) dJ19_next_9 rfl rfl ?_
  refine j_aload_n (j := 1) dJ19_next_10 rfl rfl ?_
  replace h := zbE h
  obtain ⟨r6, e7, h⟩ := h
  refine j_getR fgJ19_1 (fun _ _ _ => rfl) dJ19_next_11 e7 ?_
  replace h := zbE h
  obtain ⟨a8, e9, h⟩ := h
  subst e9
  replace h := zbE h
  obtain ⟨v10, e11, h⟩ := h
  refine j_getI fgJ19_28 (fun _ _ _ => rfl) dJ19_next_14 e11 ?_
  refine j_icmp_lt (tgt := 28) dJ19_next_17 (by decide) (fun c12 => ?_) (fun c12 => ?_)
  · rw [if_pos c12] at h
    refine j_aload_n (j := 1) dJ19_next_28 rfl rfl ?_
    replace h := zbE h
    obtain ⟨r13, e14, h⟩ := h
    refine j_getR fgJ19_1 (fun _ _ _ => rfl) dJ19_next_29 e14 ?_
    replace h := zbE h
    obtain ⟨a15, e16, h⟩ := h
    subst e16
    replace h := zbE h
    obtain ⟨r17, e18, h⟩ := h
    refine j_getR fgJ19_37 (fun _ _ _ => rfl) dJ19_next_32 e18 ?_
    refine j_astore_n (lv' := [(2, vR r17), (1, vI v4), (0, vR (some t))]) dJ19_next_35 rfl (Nat.le_of_ble_eq_true rfl) rfl ?_
    refine j_iload_n (j := 1) dJ19_next_36 rfl rfl ?_
    refine j_aload_n (j := 0) dJ19_next_37 rfl rfl ?_
    replace h := zbE h
    obtain ⟨a19, e20, h⟩ := h
    subst e20
    replace h := zbE h
    obtain ⟨v21, e22, h⟩ := h
    refine j_alen e22 dJ19_next_38 ?_
    refine j_icmp_lt (tgt := 50) dJ19_next_39 (by decide) (fun c23 => ?_) (fun c23 => ?_)
    · rw [if_pos c23] at h
      refine j_aload_n (j := 2) dJ19_next_50 rfl rfl ?_
      refine j_iload_n (j := 1) dJ19_next_51 rfl rfl ?_
      refine j_iconst (v := 1) dJ19_next_52 (by decide) ?_
      refine j_iadd dJ19_next_53 ?_
      replace h := zbE h
      obtain ⟨G24, e25, h⟩ := h
      refine j_putI fpJ19_25_J19 (Or.inl rfl) rfl dJ19_next_54 e25 ?_
      refine j_aload_n (j := 0) dJ19_next_57 rfl rfl ?_
      refine j_aload_n (j := 2) dJ19_next_58 rfl rfl ?_
      refine j_iload_n (j := 1) dJ19_next_59 rfl rfl ?_
      refine j_dup_x1 dJ19_next_60 rfl rfl ?_
      replace h := zbE h
      obtain ⟨G26, e27, h⟩ := h
      refine j_putI fpJ19_13_J19 (Or.inl rfl) rfl dJ19_next_61 e27 ?_
      replace h := zbE h
      obtain ⟨r28, e29, h⟩ := h
      refine j_aald (Or.inl rfl) e29 dJ19_next_64 ?_
      obtain rfl := Option.some.inj h
      exact j_aret hk.1 hk.2 rfl (Or.inl ⟨_, rfl⟩) dJ19_next_65
    · rw [if_neg c23] at h
      cases h
  · rw [if_neg c12] at h
    cases h
theorem yJ19_next_ok {t : Nat} {G : GS} {r : Option Nat} {G1 : GS} (h : fJ19_next_0 t G = some (r, G1)) : zRuns yJ19_next (ws_ yJ19_next cJ19_next 3 (some (Jvm.ClassFile.FieldType.object "java/lang/Object"))) [vR (some t)] (.inl (some (vR r)), G, G1, 2) :=
  zentry (M := mJ19_next) (plainFor_of_name (by decide +kernel)) ⟨rfl, rfl, rfl, rfl⟩ (Nat.le_of_ble_eq_true rfl) (wfJ19_next_0 (Nat.le_refl _) t G h ⟨rfl, rfl⟩)
theorem fgX5_74 : zFG RX5 74 4 8 (.int) := ⟨(RX5, TX5, 10, tyX5), rfl, by decide, in_X5, rfl, "SelahGenerator$Sets", Or.inl rfl, Or.inl q1160⟩
theorem msX5_70 : zSN RX5 70 yX1_isNonterminal "SelahGenerator" cX1_isNonterminal 1 (some Jvm.ClassFile.FieldType.boolean) 1 := ⟨q402, q123, zxw 99 rfl, (by decide +kernel), (by decide)⟩
abbrev mX5_isNullable : zM := (cX5_isNullable, RX5, 2, (some Jvm.ClassFile.FieldType.boolean), "isNullable", [], "(I)Z")
def fX5_isNullable_26   (G : GS) : Option (Int32) :=
  zcond (zbb 0) (some 0)
theorem wfX5_isNullable_26 {F : zF} (hd : 3 ≤ F.2.2.2)   (G : GS) {a : Int32} (h : fX5_isNullable_26   G = some a) (hk : zKPI F G a) : J mX5_isNullable F G 26 [] [] := by
  unfold fX5_isNullable_26 at h
  refine j_iconst (v := 0) dX5_isNullable_26 (by decide) ?_
  replace h := zcondE h
  obtain ⟨e1, h⟩ := h
  obtain rfl := Option.some.inj h
  exact j_zret hk.1 hk.2 rfl (zbb_n e1) dX5_isNullable_27
def fX5_isNullable_0 (t : Nat) (x1 : Int32)  (G : GS) : Option (Int32) :=
  (fX1_isNonterminal_0 x1 G).bind fun v2 => if v2 = 0 then (fX5_isNullable_26 G) else ((zgI G 5 t 8).bind fun v4 => if ((v4 >>> ((x1 - 20) &&& 31)) &&& 1) = 1 then (zcond (zbb 1) (some 1)) else (fX5_isNullable_26 G))
theorem wfX5_isNullable_0 {F : zF} (hd : 3 ≤ F.2.2.2) (t : Nat) (x1 : Int32)  (G : GS) {a : Int32} (h : fX5_isNullable_0 t x1  G = some a) (hk : zKPI F G a) : J mX5_isNullable F G 0 [(0, vR (some t)), (1, vI x1)] [] := by
  unfold fX5_isNullable_0 at h
  refine j_iload_n (j := 1) dX5_isNullable_0 rfl rfl ?_
  replace h := zbE h
  obtain ⟨v2, e1, h⟩ := h
  refine j_cont (zrSN (As := [vI x1]) msX5_70 q401 (yX1_isNonterminal_ok e1) (Nat.le_trans (Nat.le_of_ble_eq_true rfl) hd) rfl rfl (Nat.le_of_ble_eq_true rfl) dX5_isNullable_1) ?_
  refine j_if_eq (tgt := 26) dX5_isNullable_4 (by decide) (fun c3 => ?_) (fun c3 => ?_)
  · rw [if_pos c3] at h
    exact J.sub (zall [] rfl) (wfX5_isNullable_26 hd   G h hk)
  · rw [if_neg c3] at h
    refine j_aload_n (j := 0) dX5_isNullable_7 rfl rfl ?_
    replace h := zbE h
    obtain ⟨v4, e5, h⟩ := h
    refine j_getI fgX5_74 (fun _ _ _ => rfl) dX5_isNullable_8 e5 ?_
    refine j_iload_n (j := 1) dX5_isNullable_11 rfl rfl ?_
    refine j_bipush (v := 20) dX5_isNullable_12 (by decide) ?_
    refine j_isub dX5_isNullable_14 ?_
    refine j_ishr dX5_isNullable_15 ?_
    refine j_iconst (v := 1) dX5_isNullable_16 (by decide) ?_
    refine j_iand dX5_isNullable_17 ?_
    refine j_iconst (v := 1) dX5_isNullable_18 (by decide) ?_
    refine j_icmp_ne (tgt := 26) dX5_isNullable_19 (by decide) (fun c6 => ?_) (fun c6 => ?_)
    · rw [if_pos c6] at h
      refine j_iconst (v := 1) dX5_isNullable_22 (by decide) ?_
      refine j_goto (tgt := 27) dX5_isNullable_23 (by decide) ?_
      replace h := zcondE h
      obtain ⟨e7, h⟩ := h
      obtain rfl := Option.some.inj h
      exact j_zret hk.1 hk.2 rfl (zbb_n e7) dX5_isNullable_27
    · rw [if_neg c6] at h
      exact J.sub (zall [] rfl) (wfX5_isNullable_26 hd   G h hk)
theorem yX5_isNullable_ok {t : Nat} {x1 : Int32} {G : GS} {r : Int32} (h : fX5_isNullable_0 t x1 G = some r) : zRuns yX5_isNullable (ws_ yX5_isNullable cX5_isNullable 2 (some Jvm.ClassFile.FieldType.boolean)) [vR (some t), vI x1] (.inl (some (vI r)), G, G, 3) :=
  zentry (M := mX5_isNullable) (plainFor_of_name (by decide +kernel)) ⟨rfl, rfl, rfl, rfl⟩ (Nat.le_of_ble_eq_true rfl) (wfX5_isNullable_0 (Nat.le_refl _) t x1 G h ⟨rfl, rfl⟩)
theorem zk_5 : ∀ k, [5].contains k = true → zKc k = some "SelahGenerator$Sets" := fun k h => by rw [zKc_one h]; rfl
theorem msX5_108 : zSV RX5 108 RX5 yX5_isNullable cX5_isNullable 2 (some Jvm.ClassFile.FieldType.boolean) 1 := ⟨lw_V q459 q460 q461 q151 q462, (by decide +kernel), (by decide)⟩
abbrev mX5_lambda_new_0 : zM := (cX5_lambda_new_0, RX5, 2, (some Jvm.ClassFile.FieldType.boolean), "lambda$new$0", [], "(I)Z")
def fX5_lambda_new_0_0 (t : Nat) (x1 : Int32)  (G : GS) : Option (Int32) :=
  zk [5] G t <| (fX5_isNullable_0 t x1 G).bind fun v3 => zcond (zbb v3) (some v3)
theorem wfX5_lambda_new_0_0 {F : zF} (hd : 4 ≤ F.2.2.2) (t : Nat) (x1 : Int32)  (G : GS) {a : Int32} (h : fX5_lambda_new_0_0 t x1  G = some a) (hk : zKPI F G a) : J mX5_lambda_new_0 F G 0 [(0, vR (some t)), (1, vI x1)] [] := by
  unfold fX5_lambda_new_0_0 at h
  refine j_aload_n (j := 0) dX5_lambda_new_0_0 rfl rfl ?_
  refine j_iload_n (j := 1) dX5_lambda_new_0_1 rfl rfl ?_
  replace h := zkE h
  obtain ⟨e1, h⟩ := h
  replace h := zbE h
  obtain ⟨v3, e2, h⟩ := h
  refine j_cont (zrV (As := [vI x1]) msX5_108 (yX5_isNullable_ok e2) (Nat.le_trans (Nat.le_of_ble_eq_true rfl) hd) (zk_5 _ e1) rfl rfl (Nat.le_of_ble_eq_true rfl) dX5_lambda_new_0_2) ?_
  replace h := zcondE h
  obtain ⟨e4, h⟩ := h
  obtain rfl := Option.some.inj h
  exact j_zret hk.1 hk.2 rfl (zbb_n e4) dX5_lambda_new_0_5
theorem yX5_lambda_new_0_ok {t : Nat} {x1 : Int32} {G : GS} {r : Int32} (h : fX5_lambda_new_0_0 t x1 G = some r) : zRuns yX5_lambda_new_0 (ws_ yX5_lambda_new_0 cX5_lambda_new_0 2 (some Jvm.ClassFile.FieldType.boolean)) [vR (some t), vI x1] (.inl (some (vI r)), G, G, 4) :=
  zentry (M := mX5_lambda_new_0) (plainFor_of_name (by decide +kernel)) ⟨rfl, rfl, rfl, rfl⟩ (Nat.le_of_ble_eq_true rfl) (wfX5_lambda_new_0_0 (Nat.le_refl _) t x1 G h ⟨rfl, rfl⟩)
abbrev mX3_all : zM := (cX3_all, RX3, 5, (some Jvm.ClassFile.FieldType.boolean), "all", [], "(IILSelahGenerator$Test;)Z")
def fbX3_all_3 (t : Nat) (x2 : Int32) (x3 : Option Nat) (x4 : Int32)  (G : GS) : Option ((Int32) ⊕ (Int32)) :=
  if x2 ≤ x4 then (zo (zcond (zbb 1) (some 1))) else ((zgR G 3 t 1).bind fun r3 => r3.bind fun a5 => (zaI G 50 a5 x4).bind fun v7 => x3.bind fun a9 => zk [64] G a9 <| (gR G a9 0).bind fun a12 => zk [5] G a12 <| (fX5_lambda_new_0_0 a12 v7 G).bind fun v15 => zcond (zbb v15) (if v15 = 0 then (zo (zcond (zbb 0) (some 0))) else (some (.inl ((x4 + 1))))))
def flX3_all_3 (t : Nat) (x2 : Int32) (x3 : Option Nat) (x4 : Int32) (G : GS) : Option (Int32) := zloop (fun s : Int32 => fbX3_all_3 t x2 x3 s G) (x4)
theorem wfbX3_all_3 {F : zF} (hd : 6 ≤ F.2.2.2) (t : Nat) (x2 : Int32) (x3 : Option Nat) (x4 : Int32) (G : GS) {a : (Int32) ⊕ (Int32)} (h : fbX3_all_3 t x2 x3 x4 G = some a) (hk : (zcase (fun s : Int32 => J mX3_all F G 3 [(0, vR (some t)), (2, vI x2), (3, vR x3), (4, vI s)] []) (zKPI F G)) a) : J mX3_all F G 3 [(0, vR (some t)), (2, vI x2), (3, vR x3), (4, vI x4)] [] := by
  unfold fbX3_all_3 at h
  refine j_iload (j := 3) dX3_all_3 rfl ?_
  refine j_iload_n (j := 1) dX3_all_5 rfl rfl ?_
  refine j_icmp_ge (tgt := 33) dX3_all_6 (by decide) (fun c1 => ?_) (fun c1 => ?_)
  · rw [if_pos c1] at h
    replace h := zoE h
    obtain ⟨a, h, rfl⟩ := h
    replace hk := hk
    refine j_iconst (v := 1) dX3_all_33 (by decide) ?_
    replace h := zcondE h
    obtain ⟨e2, h⟩ := h
    obtain rfl := Option.some.inj h
    exact j_zret hk.1 hk.2 rfl (zbb_n e2) dX3_all_34
  · rw [if_neg c1] at h
    refine j_aload_n (j := 2) dX3_all_9 rfl rfl ?_
    refine j_aload_n (j := 0) dX3_all_10 rfl rfl ?_
    replace h := zbE h
    obtain ⟨r3, e4, h⟩ := h
    refine j_getR fgX3_13 (fun _ _ _ => rfl) dX3_all_11 e4 ?_
    refine j_iload (j := 3) dX3_all_14 rfl ?_
    replace h := zbE h
    obtain ⟨a5, e6, h⟩ := h
    subst e6
    replace h := zbE h
    obtain ⟨v7, e8, h⟩ := h
    refine j_iald (Or.inl rfl) e8 dX3_all_16 ?_
    replace h := zbE h
    obtain ⟨a9, e10, h⟩ := h
    subst e10
    replace h := zkE h
    obtain ⟨e11, h⟩ := h
    replace h := zbE h
    obtain ⟨a12, e13, h⟩ := h
    replace h := zkE h
    obtain ⟨e14, h⟩ := h
    replace h := zbE h
    obtain ⟨v15, e16, h⟩ := h
    replace h := zcondE h
    obtain ⟨e19, h⟩ := h
    refine j_cont (zrLm (v := v7) q482 (zxw 115 rfl) (yX5_lambda_new_0_ok e16) e19 (Nat.le_trans (Nat.le_of_ble_eq_true rfl) hd) (zKc_one e11) e13 (zKc_one e14) rfl (Nat.le_of_ble_eq_true rfl) dX3_all_17) ?_
    refine j_if_ne (tgt := 27) dX3_all_22 (by decide) (fun c17 => ?_) (fun c17 => ?_)
    · rw [if_pos c17] at h
      replace h := zoE h
      obtain ⟨a, h, rfl⟩ := h
      replace hk := hk
      refine j_iconst (v := 0) dX3_all_25 (by decide) ?_
      replace h := zcondE h
      obtain ⟨e18, h⟩ := h
      obtain rfl := Option.some.inj h
      exact j_zret hk.1 hk.2 rfl (zbb_n e18) dX3_all_26
    · rw [if_neg c17] at h
      refine j_iinc (j := 3) (v := (x4 + 1)) (lv' := [(4, vI (x4 + 1)), (0, vR (some t)), (2, vI x2), (3, vR (some a9))]) dX3_all_27 rfl rfl (Nat.le_of_ble_eq_true rfl) rfl ?_
      refine j_goto (tgt := 3) dX3_all_30 (by decide) ?_
      obtain rfl := Option.some.inj h
      exact J.sub (zall [1, 2, 3, 0] rfl) hk
theorem wflX3_all_3 {F : zF} (hd : 6 ≤ F.2.2.2) (t : Nat) (x2 : Int32) (x3 : Option Nat) (x4 : Int32) (G : GS) {a : Int32} (h : flX3_all_3 t x2 x3 x4 G = some a) (hk : zKPI F G a) : J mX3_all F G 3 [(0, vR (some t)), (2, vI x2), (3, vR x3), (4, vI x4)] [] := by
  unfold flX3_all_3 at h
  exact zloop_walk (P := (fun s : Int32 => J mX3_all F G 3 [(0, vR (some t)), (2, vI x2), (3, vR x3), (4, vI s)] [])) (fun s b e hk => wfbX3_all_3 hd t x2 x3 s G e hk) (x4) _ h hk
def fX3_all_0 (t : Nat) (x1 : Int32) (x2 : Int32) (x3 : Option Nat)  (G : GS) : Option (Int32) :=
  flX3_all_3 t x2 x3 x1 G
theorem wfX3_all_0 {F : zF} (hd : 6 ≤ F.2.2.2) (t : Nat) (x1 : Int32) (x2 : Int32) (x3 : Option Nat)  (G : GS) {a : Int32} (h : fX3_all_0 t x1 x2 x3  G = some a) (hk : zKPI F G a) : J mX3_all F G 0 [(0, vR (some t)), (1, vI x1), (2, vI x2), (3, vR x3)] [] := by
  unfold fX3_all_0 at h
  refine j_iload_n (j := 1) dX3_all_0 rfl rfl ?_
  refine j_istore (lv' := [(4, vI x1), (0, vR (some t)), (1, vI x1), (2, vI x2), (3, vR x3)]) dX3_all_1 (Nat.le_of_ble_eq_true rfl) rfl ?_
  exact J.sub (zall [1, 3, 4, 0] rfl) (wflX3_all_3 hd t x2 x3 x1  G h hk)
theorem yX3_all_ok {t : Nat} {x1 : Int32} {x2 : Int32} {x3 : Option Nat} {G : GS} {r : Int32} (h : fX3_all_0 t x1 x2 x3 G = some r) : zRuns yX3_all (ws_ yX3_all cX3_all 5 (some Jvm.ClassFile.FieldType.boolean)) [vR (some t), vI x1, vI x2, vR x3] (.inl (some (vI r)), G, G, 6) :=
  zentry (M := mX3_all) (plainFor_of_name (by decide +kernel)) ⟨rfl, rfl, rfl, rfl⟩ (Nat.le_of_ble_eq_true rfl) (wfX3_all_0 (Nat.le_refl _) t x1 x2 x3 G h ⟨rfl, rfl⟩)
theorem fgX5_101 : zFG RX5 101 2 0 (.int) := ⟨(RX3, TX3, 2, tyX3), rfl, by decide, in_X3, rfl, "SelahGenerator$Rule", Or.inl rfl, Or.inr ⟨_, zxw 102 rfl⟩⟩
theorem fgX5_35 : zFG RX5 35 4 7 (.object "SelahGenerator$Test") := ⟨(RX5, TX5, 10, tyX5), rfl, by decide, in_X5, rfl, "SelahGenerator$Sets", Or.inl rfl, Or.inl q1159⟩
theorem fgX5_39 : zFG RX5 39 4 0 (.object "java/util/List") := ⟨(RX5, TX5, 10, tyX5), rfl, by decide, in_X5, rfl, "SelahGenerator$Sets", Or.inl rfl, Or.inl q1145⟩
theorem fgX5_94 : zFG RX5 94 2 1 (.array (.int)) := ⟨(RX3, TX3, 2, tyX3), rfl, by decide, in_X3, rfl, "SelahGenerator$Rule", Or.inl rfl, Or.inr ⟨_, zxw 103 rfl⟩⟩
theorem fpX5_74_X5 : zFP RX5 74 4 8 (.int) false := ⟨(RX5, TX5, 10, tyX5), rfl, by decide, in_X5, tyX5_ok, nmX5, rfl, rfl, (by decide), "SelahGenerator$Sets", Or.inl rfl, q1160⟩
theorem msX5_78_J2 : zSF RX5 78 RJ2 ⟨"java/util/List", "iterator", "()Ljava/util/Iterator;"⟩ yJ2_iterator cJ2_iterator 1 (some (Jvm.ClassFile.FieldType.object "java/util/Iterator")) 0 := ⟨lw_F q471 q288 q290 q126 q292, zfw 11 rfl, ⟨11, _, rfl, rfl⟩, (by decide +kernel), (by decide)⟩
theorem msX5_82_J19 : zSF RX5 82 RJ19 ⟨"java/util/Iterator", "hasNext", "()Z"⟩ yJ19_hasNext cJ19_hasNext 1 (some Jvm.ClassFile.FieldType.boolean) 0 := ⟨lw_F q473 q323 q325 q147 q327, zfw 16 rfl, ⟨12, _, rfl, rfl⟩, (by decide +kernel), (by decide)⟩
theorem msX5_88_J19 : zSF RX5 88 RJ19 ⟨"java/util/Iterator", "next", "()Ljava/lang/Object;"⟩ yJ19_next cJ19_next 3 (some (Jvm.ClassFile.FieldType.object "java/lang/Object")) 0 := ⟨lw_F q475 q359 q361 q147 q363, zfw 17 rfl, ⟨12, _, rfl, rfl⟩, (by decide +kernel), (by decide)⟩
theorem msX5_97 : zSV RX5 97 RX3 yX3_all cX3_all 5 (some Jvm.ClassFile.FieldType.boolean) 3 := ⟨lw_V q477 q478 q479 q138 q480, (by decide +kernel), (by decide)⟩
abbrev mX5_findNullable : zM := (cX5_findNullable, RX5, 4, none, "findNullable", [], "()V")
def fX5_findNullable_82 (t : Nat) (x1 : Int32)  (G : GS) : Option ((Int32 × GS) ⊕ (GS)) :=
  some (.inl (x1, G))
theorem wfX5_findNullable_82 {F : zF} (hd : 7 ≤ F.2.2.2) (t : Nat) (x1 : Int32)  (G : GS) {a : (Int32 × GS) ⊕ (GS)} (h : fX5_findNullable_82 t x1  G = some a) (hk : (zcase (fun s : Int32 × GS => J mX5_findNullable F s.2 2 [(0, vR (some t)), (1, vI s.1)] []) (zKV F)) a) : J mX5_findNullable F G 82 [(0, vR (some t)), (1, vI x1)] [] := by
  unfold fX5_findNullable_82 at h
  refine j_goto (tgt := 2) dX5_findNullable_82 (by decide) ?_
  obtain rfl := Option.some.inj h
  exact J.sub (zall [0, 1] rfl) hk
def fX5_findNullable_79 (t : Nat) (x1 : Int32) (x2 : Option Nat)  (G : GS) : Option ((GS) ⊕ ((Int32 × GS) ⊕ (GS))) :=
  some (.inl (G))
theorem wfX5_findNullable_79 {F : zF} (hd : 7 ≤ F.2.2.2) (t : Nat) (x1 : Int32) (x2 : Option Nat)  (G : GS) {a : (GS) ⊕ ((Int32 × GS) ⊕ (GS))} (h : fX5_findNullable_79 t x1 x2  G = some a) (hk : (zcase (fun s : GS => J mX5_findNullable F s 25 [(0, vR (some t)), (1, vI x1), (2, vR x2)] []) ((zcase (fun s : Int32 × GS => J mX5_findNullable F s.2 2 [(0, vR (some t)), (1, vI s.1)] []) (zKV F)))) a) : J mX5_findNullable F G 79 [(0, vR (some t)), (1, vI x1), (2, vR x2)] [] := by
  unfold fX5_findNullable_79 at h
  refine j_goto (tgt := 25) dX5_findNullable_79 (by decide) ?_
  obtain rfl := Option.some.inj h
  exact J.sub (zall [0, 1, 2] rfl) hk
def fbX5_findNullable_25 (t : Nat) (x1 : Int32) (x2 : Option Nat)  (G : GS) : Option ((GS) ⊕ ((Int32 × GS) ⊕ (GS))) :=
  x2.bind fun a1 => zk [13] G a1 <| (fJ19_hasNext_0 a1 G).bind fun v5 => if v5 = 0 then (zo (fX5_findNullable_82 t x1 G)) else (zk [13] G a1 <| zb2 (fJ19_next_0 a1 G) fun r9 G10 => zkq [3] G10 r9 (r9.bind fun a12 => (zgR G10 3 a12 1).bind fun r14 => r14.bind fun a16 => (zln G10 a16).bind fun v18 => (zgR G10 5 t 7).bind fun r20 => zk [3] G10 a12 <| (fX3_all_0 a12 0 v18 r20 G10).bind fun v24 => if v24 = 0 then (fX5_findNullable_79 t x1 (some a1) G10) else ((zgI G10 5 t 8).bind fun v26 => (zgI G10 3 a12 0).bind fun v28 => (zpI G10 5 t 8 (v26 ||| ((1 : Int32) <<< ((v28 - 20) &&& 31)))).bind fun G30 => fX5_findNullable_79 t x1 (some a1) G30)))
def flX5_findNullable_25 (t : Nat) (x1 : Int32) (x2 : Option Nat) (G : GS) : Option ((Int32 × GS) ⊕ (GS)) := zloop (fun s : GS => fbX5_findNullable_25 t x1 x2 s) (G)
theorem wfbX5_findNullable_25 {F : zF} (hd : 7 ≤ F.2.2.2) (t : Nat) (x1 : Int32) (x2 : Option Nat) (G : GS) {a : (GS) ⊕ ((Int32 × GS) ⊕ (GS))} (h : fbX5_findNullable_25 t x1 x2 G = some a) (hk : (zcase (fun s : GS => J mX5_findNullable F s 25 [(0, vR (some t)), (1, vI x1), (2, vR x2)] []) ((zcase (fun s : Int32 × GS => J mX5_findNullable F s.2 2 [(0, vR (some t)), (1, vI s.1)] []) (zKV F)))) a) : J mX5_findNullable F G 25 [(0, vR (some t)), (1, vI x1), (2, vR x2)] [] := by
  unfold fbX5_findNullable_25 at h
  refine j_aload_n (j := 2) dX5_findNullable_25 rfl rfl ?_
  replace h := zbE h
  obtain ⟨a1, e2, h⟩ := h
  subst e2
  replace h := zkE h
  obtain ⟨e3, h⟩ := h
  replace h := zbE h
  obtain ⟨v5, e4, h⟩ := h
  refine j_cont (zrF (As := []) msX5_82_J19 (yJ19_hasNext_ok e4) (Nat.le_trans (Nat.le_of_ble_eq_true rfl) hd) (zk_13 _ e3) rfl rfl (Nat.le_of_ble_eq_true rfl) dX5_findNullable_26) ?_
  refine j_if_eq (tgt := 82) dX5_findNullable_31 (by decide) (fun c6 => ?_) (fun c6 => ?_)
  · rw [if_pos c6] at h
    replace h := zoE h
    obtain ⟨a, h, rfl⟩ := h
    replace hk := hk
    exact J.sub (zall [0, 1] rfl) (wfX5_findNullable_82 hd t x1  G h hk)
  · rw [if_neg c6] at h
    refine j_aload_n (j := 2) dX5_findNullable_34 rfl rfl ?_
    replace h := zkE h
    obtain ⟨e7, h⟩ := h
    replace h := zb2E h
    obtain ⟨r9, G10, e8, h⟩ := h
    refine j_cont (zrF (As := []) msX5_88_J19 (yJ19_next_ok e8) (Nat.le_trans (Nat.le_of_ble_eq_true rfl) hd) (zk_13 _ e7) rfl rfl (Nat.le_of_ble_eq_true rfl) dX5_findNullable_35) ?_
    replace h := zkqE h
    obtain ⟨e11, h⟩ := h
    refine j_castq (fun k => j_castN dX5_findNullable_40 k) (fun b q32 k => j_castS (zk_3 _ (e11 b q32)) ⟨2, _, rfl, rfl⟩ q476 dX5_findNullable_40 k) ?_
    refine j_astore_n (lv' := [(3, vR r9), (0, vR (some t)), (1, vI x1), (2, vR (some a1))]) dX5_findNullable_43 rfl (Nat.le_of_ble_eq_true rfl) rfl ?_
    refine j_aload_n (j := 0) dX5_findNullable_44 rfl rfl ?_
    refine j_iconst (v := 0) dX5_findNullable_45 (by decide) ?_
    refine j_aload_n (j := 0) dX5_findNullable_46 rfl rfl ?_
    replace h := zbE h
    obtain ⟨a12, e13, h⟩ := h
    subst e13
    replace h := zbE h
    obtain ⟨r14, e15, h⟩ := h
    refine j_getR fgX5_94 (fun _ _ _ => rfl) dX5_findNullable_47 e15 ?_
    replace h := zbE h
    obtain ⟨a16, e17, h⟩ := h
    subst e17
    replace h := zbE h
    obtain ⟨v18, e19, h⟩ := h
    refine j_alen e19 dX5_findNullable_50 ?_
    refine j_aload_n (j := 1) dX5_findNullable_51 rfl rfl ?_
    replace h := zbE h
    obtain ⟨r20, e21, h⟩ := h
    refine j_getR fgX5_35 (fun _ _ _ => rfl) dX5_findNullable_52 e21 ?_
    replace h := zkE h
    obtain ⟨e22, h⟩ := h
    replace h := zbE h
    obtain ⟨v24, e23, h⟩ := h
    refine j_cont (zrV (As := [vI 0, vI v18, vR r20]) msX5_97 (yX3_all_ok e23) (Nat.le_trans (Nat.le_of_ble_eq_true rfl) hd) (zk_3 _ e22) rfl rfl (Nat.le_of_ble_eq_true rfl) dX5_findNullable_55) ?_
    refine j_if_eq (tgt := 79) dX5_findNullable_58 (by decide) (fun c25 => ?_) (fun c25 => ?_)
    · rw [if_pos c25] at h
      exact J.sub (zall [1, 2, 3] rfl) (wfX5_findNullable_79 hd t x1 (some a1)  G10 h hk)
    · rw [if_neg c25] at h
      refine j_aload_n (j := 1) dX5_findNullable_61 rfl rfl ?_
      refine j_dup dX5_findNullable_62 rfl ?_
      replace h := zbE h
      obtain ⟨v26, e27, h⟩ := h
      refine j_getI fgX5_74 (fun _ _ _ => rfl) dX5_findNullable_63 e27 ?_
      refine j_iconst (v := 1) dX5_findNullable_66 (by decide) ?_
      refine j_aload_n (j := 0) dX5_findNullable_67 rfl rfl ?_
      replace h := zbE h
      obtain ⟨v28, e29, h⟩ := h
      refine j_getI fgX5_101 (fun _ _ _ => rfl) dX5_findNullable_68 e29 ?_
      refine j_bipush (v := 20) dX5_findNullable_71 (by decide) ?_
      refine j_isub dX5_findNullable_73 ?_
      refine j_ishl dX5_findNullable_74 ?_
      refine j_ior dX5_findNullable_75 ?_
      replace h := zbE h
      obtain ⟨G30, e31, h⟩ := h
      refine j_putI fpX5_74_X5 (Or.inl rfl) rfl dX5_findNullable_76 e31 ?_
      exact J.sub (zall [1, 2, 3] rfl) (wfX5_findNullable_79 hd t x1 (some a1)  G30 h hk)
theorem wflX5_findNullable_25 {F : zF} (hd : 7 ≤ F.2.2.2) (t : Nat) (x1 : Int32) (x2 : Option Nat) (G : GS) {a : (Int32 × GS) ⊕ (GS)} (h : flX5_findNullable_25 t x1 x2 G = some a) (hk : (zcase (fun s : Int32 × GS => J mX5_findNullable F s.2 2 [(0, vR (some t)), (1, vI s.1)] []) (zKV F)) a) : J mX5_findNullable F G 25 [(0, vR (some t)), (1, vI x1), (2, vR x2)] [] := by
  unfold flX5_findNullable_25 at h
  exact zloop_walk (P := (fun s : GS => J mX5_findNullable F s 25 [(0, vR (some t)), (1, vI x1), (2, vR x2)] [])) (fun s b e hk => wfbX5_findNullable_25 hd t x1 x2 s e hk) (G) _ h hk
def fbX5_findNullable_2 (t : Nat) (x1 : Int32)  (G : GS) : Option ((Int32 × GS) ⊕ (GS)) :=
  (zgI G 5 t 8).bind fun v1 => if x1 = v1 then (zo (some G)) else ((zgI G 5 t 8).bind fun v4 => (zgR G 5 t 0).bind fun r6 => r6.bind fun a8 => zk [12] G a8 <| zb2 (fJ2_iterator_0 a8 G) fun r12 G13 => flX5_findNullable_25 t v4 r12 G13)
def flX5_findNullable_2 (t : Nat) (x1 : Int32) (G : GS) : Option (GS) := zloop (fun s : Int32 × GS => fbX5_findNullable_2 t s.1 s.2) (x1, G)
theorem wfbX5_findNullable_2 {F : zF} (hd : 7 ≤ F.2.2.2) (t : Nat) (x1 : Int32) (G : GS) {a : (Int32 × GS) ⊕ (GS)} (h : fbX5_findNullable_2 t x1 G = some a) (hk : (zcase (fun s : Int32 × GS => J mX5_findNullable F s.2 2 [(0, vR (some t)), (1, vI s.1)] []) (zKV F)) a) : J mX5_findNullable F G 2 [(0, vR (some t)), (1, vI x1)] [] := by
  unfold fbX5_findNullable_2 at h
  refine j_iload_n (j := 1) dX5_findNullable_2 rfl rfl ?_
  refine j_aload_n (j := 0) dX5_findNullable_3 rfl rfl ?_
  replace h := zbE h
  obtain ⟨v1, e2, h⟩ := h
  refine j_getI fgX5_74 (fun _ _ _ => rfl) dX5_findNullable_4 e2 ?_
  refine j_icmp_eq (tgt := 85) dX5_findNullable_7 (by decide) (fun c3 => ?_) (fun c3 => ?_)
  · rw [if_pos c3] at h
    replace h := zoE h
    obtain ⟨a, h, rfl⟩ := h
    replace hk := hk
    obtain rfl := Option.some.inj h
    exact j_vret hk.1 hk.2 rfl dX5_findNullable_85
  · rw [if_neg c3] at h
    refine j_aload_n (j := 0) dX5_findNullable_10 rfl rfl ?_
    replace h := zbE h
    obtain ⟨v4, e5, h⟩ := h
    refine j_getI fgX5_74 (fun _ _ _ => rfl) dX5_findNullable_11 e5 ?_
    refine j_istore_n (lv' := [(1, vI v4), (0, vR (some t))]) dX5_findNullable_14 rfl (Nat.le_of_ble_eq_true rfl) rfl ?_
    refine j_aload_n (j := 1) dX5_findNullable_15 rfl rfl ?_
    replace h := zbE h
    obtain ⟨r6, e7, h⟩ := h
    refine j_getR fgX5_39 (fun _ _ _ => rfl) dX5_findNullable_16 e7 ?_
    replace h := zbE h
    obtain ⟨a8, e9, h⟩ := h
    subst e9
    replace h := zkE h
    obtain ⟨e10, h⟩ := h
    replace h := zb2E h
    obtain ⟨r12, G13, e11, h⟩ := h
    refine j_cont (zrF (As := []) msX5_78_J2 (yJ2_iterator_ok e11) (Nat.le_trans (Nat.le_of_ble_eq_true rfl) hd) (zk_12 _ e10) rfl rfl (Nat.le_of_ble_eq_true rfl) dX5_findNullable_19) ?_
    refine j_astore_n (lv' := [(2, vR r12), (1, vI v4), (0, vR (some t))]) dX5_findNullable_24 rfl (Nat.le_of_ble_eq_true rfl) rfl ?_
    exact J.sub (zall [2, 1, 0] rfl) (wflX5_findNullable_25 hd t v4 r12  G13 h hk)
theorem wflX5_findNullable_2 {F : zF} (hd : 7 ≤ F.2.2.2) (t : Nat) (x1 : Int32) (G : GS) {a : GS} (h : flX5_findNullable_2 t x1 G = some a) (hk : zKV F a) : J mX5_findNullable F G 2 [(0, vR (some t)), (1, vI x1)] [] := by
  unfold flX5_findNullable_2 at h
  exact zloop_walk (P := (fun s : Int32 × GS => J mX5_findNullable F s.2 2 [(0, vR (some t)), (1, vI s.1)] [])) (fun s b e hk => wfbX5_findNullable_2 hd t s.1 s.2 e hk) (x1, G) _ h hk
def fX5_findNullable_0 (t : Nat)  (G : GS) : Option (GS) :=
  flX5_findNullable_2 t (-1) G
theorem wfX5_findNullable_0 {F : zF} (hd : 7 ≤ F.2.2.2) (t : Nat)  (G : GS) {a : GS} (h : fX5_findNullable_0 t  G = some a) (hk : zKV F a) : J mX5_findNullable F G 0 [(0, vR (some t))] [] := by
  unfold fX5_findNullable_0 at h
  refine j_iconst (v := (-1)) dX5_findNullable_0 (by decide) ?_
  refine j_istore_n (lv' := [(1, vI (-1)), (0, vR (some t))]) dX5_findNullable_1 rfl (Nat.le_of_ble_eq_true rfl) rfl ?_
  exact J.sub (zall [1, 0] rfl) (wflX5_findNullable_2 hd t (-1)  G h hk)
theorem yX5_findNullable_ok {t : Nat} {G : GS} {G1 : GS} (h : fX5_findNullable_0 t G = some G1) : zRuns yX5_findNullable (ws_ yX5_findNullable cX5_findNullable 4 none) [vR (some t)] (.inl none, G, G1, 7) :=
  zentry (M := mX5_findNullable) (plainFor_of_name (by decide +kernel)) ⟨rfl, rfl, rfl, rfl⟩ (Nat.le_of_ble_eq_true rfl) (wfX5_findNullable_0 (Nat.le_refl _) t G h ⟨rfl, rfl⟩)
theorem fgX5_9 : zFG RX5 9 4 1 (.array (.int)) := ⟨(RX5, TX5, 10, tyX5), rfl, by decide, in_X5, rfl, "SelahGenerator$Sets", Or.inl rfl, Or.inl q1146⟩
abbrev mX5_firstOf : zM := (cX5_firstOf, RX5, 2, (some Jvm.ClassFile.FieldType.int), "firstOf", [], "(I)I")
def fX5_firstOf_0 (t : Nat) (x1 : Int32)  (G : GS) : Option (Int32) :=
  (fX1_isNonterminal_0 x1 G).bind fun v2 => if v2 = 0 then (some ((1 : Int32) <<< (x1 &&& 31))) else ((zgR G 5 t 1).bind fun r4 => r4.bind fun a6 => (zaI G 50 a6 (x1 - 20)).bind fun v8 => some v8)
theorem wfX5_firstOf_0 {F : zF} (hd : 3 ≤ F.2.2.2) (t : Nat) (x1 : Int32)  (G : GS) {a : Int32} (h : fX5_firstOf_0 t x1  G = some a) (hk : zKPI F G a) : J mX5_firstOf F G 0 [(0, vR (some t)), (1, vI x1)] [] := by
  unfold fX5_firstOf_0 at h
  refine j_iload_n (j := 1) dX5_firstOf_0 rfl rfl ?_
  replace h := zbE h
  obtain ⟨v2, e1, h⟩ := h
  refine j_cont (zrSN (As := [vI x1]) msX5_70 q401 (yX1_isNonterminal_ok e1) (Nat.le_trans (Nat.le_of_ble_eq_true rfl) hd) rfl rfl (Nat.le_of_ble_eq_true rfl) dX5_firstOf_1) ?_
  refine j_if_eq (tgt := 19) dX5_firstOf_4 (by decide) (fun c3 => ?_) (fun c3 => ?_)
  · rw [if_pos c3] at h
    refine j_iconst (v := 1) dX5_firstOf_19 (by decide) ?_
    refine j_iload_n (j := 1) dX5_firstOf_20 rfl rfl ?_
    refine j_ishl dX5_firstOf_21 ?_
    obtain rfl := Option.some.inj h
    exact j_iret hk.1 hk.2 rfl dX5_firstOf_22
  · rw [if_neg c3] at h
    refine j_aload_n (j := 0) dX5_firstOf_7 rfl rfl ?_
    replace h := zbE h
    obtain ⟨r4, e5, h⟩ := h
    refine j_getR fgX5_9 (fun _ _ _ => rfl) dX5_firstOf_8 e5 ?_
    refine j_iload_n (j := 1) dX5_firstOf_11 rfl rfl ?_
    refine j_bipush (v := 20) dX5_firstOf_12 (by decide) ?_
    refine j_isub dX5_firstOf_14 ?_
    replace h := zbE h
    obtain ⟨a6, e7, h⟩ := h
    subst e7
    replace h := zbE h
    obtain ⟨v8, e9, h⟩ := h
    refine j_iald (Or.inl rfl) e9 dX5_firstOf_15 ?_
    refine j_goto (tgt := 22) dX5_firstOf_16 (by decide) ?_
    obtain rfl := Option.some.inj h
    exact j_iret hk.1 hk.2 rfl dX5_firstOf_22
theorem yX5_firstOf_ok {t : Nat} {x1 : Int32} {G : GS} {r : Int32} (h : fX5_firstOf_0 t x1 G = some r) : zRuns yX5_firstOf (ws_ yX5_firstOf cX5_firstOf 2 (some Jvm.ClassFile.FieldType.int)) [vR (some t), vI x1] (.inl (some (vI r)), G, G, 3) :=
  zentry (M := mX5_firstOf) (plainFor_of_name (by decide +kernel)) ⟨rfl, rfl, rfl, rfl⟩ (Nat.le_of_ble_eq_true rfl) (wfX5_firstOf_0 (Nat.le_refl _) t x1 G h ⟨rfl, rfl⟩)
theorem msX5_104 : zSV RX5 104 RX5 yX5_firstOf cX5_firstOf 2 (some Jvm.ClassFile.FieldType.int) 1 := ⟨lw_V q493 q494 q495 q151 q496, (by decide +kernel), (by decide)⟩
abbrev mX5_firstFrom : zM := (cX5_firstFrom, RX5, 5, (some Jvm.ClassFile.FieldType.int), "firstFrom", [], "(LSelahGenerator$Rule;I)I")
def fbX5_firstFrom_5 (t : Nat) (x1 : Option Nat) (x3 : Int32) (x4 : Int32)  (G : GS) : Option ((Int32 × Int32) ⊕ (Int32)) :=
  x1.bind fun a1 => (zgR G 3 a1 1).bind fun r3 => r3.bind fun a5 => (zln G a5).bind fun v7 => if v7 ≤ x4 then (zo (some x3)) else ((zgR G 3 a1 1).bind fun r10 => r10.bind fun a12 => (zaI G 50 a12 x4).bind fun v14 => zk [5] G t <| (fX5_firstOf_0 t v14 G).bind fun v18 => (zgR G 3 a1 1).bind fun r19 => r19.bind fun a21 => (zaI G 50 a21 x4).bind fun v23 => zk [5] G t <| (fX5_isNullable_0 t v23 G).bind fun v27 => if v27 = 0 then (zo (some (x3 ||| v18))) else (some (.inl ((x3 ||| v18), (x4 + 1)))))
def flX5_firstFrom_5 (t : Nat) (x1 : Option Nat) (x3 : Int32) (x4 : Int32) (G : GS) : Option (Int32) := zloop (fun s : Int32 × Int32 => fbX5_firstFrom_5 t x1 s.1 s.2 G) (x3, x4)
theorem wfbX5_firstFrom_5 {F : zF} (hd : 4 ≤ F.2.2.2) (t : Nat) (x1 : Option Nat) (x3 : Int32) (x4 : Int32) (G : GS) {a : (Int32 × Int32) ⊕ (Int32)} (h : fbX5_firstFrom_5 t x1 x3 x4 G = some a) (hk : (zcase (fun s : Int32 × Int32 => J mX5_firstFrom F G 5 [(0, vR (some t)), (1, vR x1), (3, vI s.1), (4, vI s.2)] []) (zKPI F G)) a) : J mX5_firstFrom F G 5 [(0, vR (some t)), (1, vR x1), (3, vI x3), (4, vI x4)] [] := by
  unfold fbX5_firstFrom_5 at h
  refine j_iload (j := 3) dX5_firstFrom_5 rfl ?_
  refine j_aload_n (j := 1) dX5_firstFrom_7 rfl rfl ?_
  replace h := zbE h
  obtain ⟨a1, e2, h⟩ := h
  subst e2
  replace h := zbE h
  obtain ⟨r3, e4, h⟩ := h
  refine j_getR fgX5_94 (fun _ _ _ => rfl) dX5_firstFrom_8 e4 ?_
  replace h := zbE h
  obtain ⟨a5, e6, h⟩ := h
  subst e6
  replace h := zbE h
  obtain ⟨v7, e8, h⟩ := h
  refine j_alen e8 dX5_firstFrom_11 ?_
  refine j_icmp_ge (tgt := 51) dX5_firstFrom_12 (by decide) (fun c9 => ?_) (fun c9 => ?_)
  · rw [if_pos c9] at h
    replace h := zoE h
    obtain ⟨a, h, rfl⟩ := h
    replace hk := hk
    refine j_iload_n (j := 2) dX5_firstFrom_51 rfl rfl ?_
    obtain rfl := Option.some.inj h
    exact j_iret hk.1 hk.2 rfl dX5_firstFrom_52
  · rw [if_neg c9] at h
    refine j_iload_n (j := 2) dX5_firstFrom_15 rfl rfl ?_
    refine j_aload_n (j := 0) dX5_firstFrom_16 rfl rfl ?_
    refine j_aload_n (j := 1) dX5_firstFrom_17 rfl rfl ?_
    replace h := zbE h
    obtain ⟨r10, e11, h⟩ := h
    refine j_getR fgX5_94 (fun _ _ _ => rfl) dX5_firstFrom_18 e11 ?_
    refine j_iload (j := 3) dX5_firstFrom_21 rfl ?_
    replace h := zbE h
    obtain ⟨a12, e13, h⟩ := h
    subst e13
    replace h := zbE h
    obtain ⟨v14, e15, h⟩ := h
    refine j_iald (Or.inl rfl) e15 dX5_firstFrom_23 ?_
    replace h := zkE h
    obtain ⟨e16, h⟩ := h
    replace h := zbE h
    obtain ⟨v18, e17, h⟩ := h
    refine j_cont (zrV (As := [vI v14]) msX5_104 (yX5_firstOf_ok e17) (Nat.le_trans (Nat.le_of_ble_eq_true rfl) hd) (zk_5 _ e16) rfl rfl (Nat.le_of_ble_eq_true rfl) dX5_firstFrom_24) ?_
    refine j_ior dX5_firstFrom_27 ?_
    refine j_istore_n (lv' := [(3, vI (x3 ||| v18)), (0, vR (some t)), (1, vR (some a1)), (4, vI x4)]) dX5_firstFrom_28 rfl (Nat.le_of_ble_eq_true rfl) rfl ?_
    refine j_aload_n (j := 1) dX5_firstFrom_29 rfl rfl ?_
    refine j_aload_n (j := 2) dX5_firstFrom_30 rfl rfl ?_
    replace h := zbE h
    obtain ⟨r19, e20, h⟩ := h
    refine j_getR fgX5_94 (fun _ _ _ => rfl) dX5_firstFrom_31 e20 ?_
    refine j_iload (j := 3) dX5_firstFrom_34 rfl ?_
    replace h := zbE h
    obtain ⟨a21, e22, h⟩ := h
    subst e22
    replace h := zbE h
    obtain ⟨v23, e24, h⟩ := h
    refine j_iald (Or.inl rfl) e24 dX5_firstFrom_36 ?_
    replace h := zkE h
    obtain ⟨e25, h⟩ := h
    replace h := zbE h
    obtain ⟨v27, e26, h⟩ := h
    refine j_cont (zrV (As := [vI v23]) msX5_108 (yX5_isNullable_ok e26) (Nat.le_trans (Nat.le_of_ble_eq_true rfl) hd) (zk_5 _ e25) rfl rfl (Nat.le_of_ble_eq_true rfl) dX5_firstFrom_37) ?_
    refine j_if_ne (tgt := 45) dX5_firstFrom_40 (by decide) (fun c28 => ?_) (fun c28 => ?_)
    · rw [if_pos c28] at h
      replace h := zoE h
      obtain ⟨a, h, rfl⟩ := h
      replace hk := hk
      refine j_iload_n (j := 0) dX5_firstFrom_43 rfl rfl ?_
      obtain rfl := Option.some.inj h
      exact j_iret hk.1 hk.2 rfl dX5_firstFrom_44
    · rw [if_neg c28] at h
      refine j_iinc (j := 3) (v := (x4 + 1)) (lv' := [(4, vI (x4 + 1)), (3, vI (x3 ||| v18)), (0, vR (some t)), (1, vR (some a1))]) dX5_firstFrom_45 rfl rfl (Nat.le_of_ble_eq_true rfl) rfl ?_
      refine j_goto (tgt := 5) dX5_firstFrom_48 (by decide) ?_
      obtain rfl := Option.some.inj h
      exact J.sub (zall [2, 3, 1, 0] rfl) hk
theorem wflX5_firstFrom_5 {F : zF} (hd : 4 ≤ F.2.2.2) (t : Nat) (x1 : Option Nat) (x3 : Int32) (x4 : Int32) (G : GS) {a : Int32} (h : flX5_firstFrom_5 t x1 x3 x4 G = some a) (hk : zKPI F G a) : J mX5_firstFrom F G 5 [(0, vR (some t)), (1, vR x1), (3, vI x3), (4, vI x4)] [] := by
  unfold flX5_firstFrom_5 at h
  exact zloop_walk (P := (fun s : Int32 × Int32 => J mX5_firstFrom F G 5 [(0, vR (some t)), (1, vR x1), (3, vI s.1), (4, vI s.2)] [])) (fun s b e hk => wfbX5_firstFrom_5 hd t x1 s.1 s.2 G e hk) (x3, x4) _ h hk
def fX5_firstFrom_0 (t : Nat) (x1 : Option Nat) (x2 : Int32)  (G : GS) : Option (Int32) :=
  flX5_firstFrom_5 t x1 0 x2 G
theorem wfX5_firstFrom_0 {F : zF} (hd : 4 ≤ F.2.2.2) (t : Nat) (x1 : Option Nat) (x2 : Int32)  (G : GS) {a : Int32} (h : fX5_firstFrom_0 t x1 x2  G = some a) (hk : zKPI F G a) : J mX5_firstFrom F G 0 [(0, vR (some t)), (1, vR x1), (2, vI x2)] [] := by
  unfold fX5_firstFrom_0 at h
  refine j_iconst (v := 0) dX5_firstFrom_0 (by decide) ?_
  refine j_istore_n (lv' := [(3, vI 0), (0, vR (some t)), (1, vR x1), (2, vI x2)]) dX5_firstFrom_1 rfl (Nat.le_of_ble_eq_true rfl) rfl ?_
  refine j_iload_n (j := 3) dX5_firstFrom_2 rfl rfl ?_
  refine j_istore (lv' := [(4, vI x2), (3, vI 0), (0, vR (some t)), (1, vR x1), (2, vI x2)]) dX5_firstFrom_3 (Nat.le_of_ble_eq_true rfl) rfl ?_
  exact J.sub (zall [2, 3, 1, 0] rfl) (wflX5_firstFrom_5 hd t x1 0 x2  G h hk)
theorem yX5_firstFrom_ok {t : Nat} {x1 : Option Nat} {x2 : Int32} {G : GS} {r : Int32} (h : fX5_firstFrom_0 t x1 x2 G = some r) : zRuns yX5_firstFrom (ws_ yX5_firstFrom cX5_firstFrom 5 (some Jvm.ClassFile.FieldType.int)) [vR (some t), vR x1, vI x2] (.inl (some (vI r)), G, G, 4) :=
  zentry (M := mX5_firstFrom) (plainFor_of_name (by decide +kernel)) ⟨rfl, rfl, rfl, rfl⟩ (Nat.le_of_ble_eq_true rfl) (wfX5_firstFrom_0 (Nat.le_refl _) t x1 x2 G h ⟨rfl, rfl⟩)
theorem fgX5_111 : zFG RX5 111 4 9 (.int) := ⟨(RX5, TX5, 10, tyX5), rfl, by decide, in_X5, rfl, "SelahGenerator$Sets", Or.inl rfl, Or.inl q1161⟩
theorem fpX5_111_X5 : zFP RX5 111 4 9 (.int) false := ⟨(RX5, TX5, 10, tyX5), rfl, by decide, in_X5, tyX5_ok, nmX5, rfl, rfl, (by decide), "SelahGenerator$Sets", Or.inl rfl, q1161⟩
theorem msX5_114 : zSV RX5 114 RX5 yX5_firstFrom cX5_firstFrom 5 (some Jvm.ClassFile.FieldType.int) 2 := ⟨lw_V q489 q490 q491 q151 q492, (by decide +kernel), (by decide)⟩
abbrev mX5_findFirst : zM := (cX5_findFirst, RX5, 6, none, "findFirst", [], "()V")
def fX5_findFirst_104 (t : Nat) (x1 : Int32)  (G : GS) : Option ((Int32 × GS) ⊕ (GS)) :=
  some (.inl (x1, G))
theorem wfX5_findFirst_104 {F : zF} (hd : 5 ≤ F.2.2.2) (t : Nat) (x1 : Int32)  (G : GS) {a : (Int32 × GS) ⊕ (GS)} (h : fX5_findFirst_104 t x1  G = some a) (hk : (zcase (fun s : Int32 × GS => J mX5_findFirst F s.2 2 [(0, vR (some t)), (1, vI s.1)] []) (zKV F)) a) : J mX5_findFirst F G 104 [(0, vR (some t)), (1, vI x1)] [] := by
  unfold fX5_findFirst_104 at h
  refine j_goto (tgt := 2) dX5_findFirst_104 (by decide) ?_
  obtain rfl := Option.some.inj h
  exact J.sub (zall [0, 1] rfl) hk
def fX5_findFirst_90 (t : Nat) (x2 : Option Nat) (x4 : Int32) (x5 : Int32) (s0 : Int32) (s1 : Int32) (G : GS) : Option ((Int32 × GS) ⊕ ((Int32 × GS) ⊕ (GS))) :=
  (zgR G 5 t 1).bind fun r1 => r1.bind fun a3 => (zsI G 50 a3 x4 x5).bind fun G5 => some (.inl ((s0 ||| s1), G5))
theorem wfX5_findFirst_90 {F : zF} (hd : 5 ≤ F.2.2.2) (t : Nat) (x2 : Option Nat) (x4 : Int32) (x5 : Int32) (s0 : Int32) (s1 : Int32) (G : GS) {a : (Int32 × GS) ⊕ ((Int32 × GS) ⊕ (GS))} (h : fX5_findFirst_90 t x2 x4 x5 s0 s1 G = some a) (hk : (zcase (fun s : Int32 × GS => J mX5_findFirst F s.2 28 [(0, vR (some t)), (1, vI s.1), (2, vR x2)] []) ((zcase (fun s : Int32 × GS => J mX5_findFirst F s.2 2 [(0, vR (some t)), (1, vI s.1)] []) (zKV F)))) a) : J mX5_findFirst F G 90 [(0, vR (some t)), (2, vR x2), (4, vI x4), (5, vI x5)] [vI s1, vI s0] := by
  unfold fX5_findFirst_90 at h
  refine j_ior dX5_findFirst_90 ?_
  refine j_istore_n (lv' := [(1, vI (s0 ||| s1)), (0, vR (some t)), (2, vR x2), (4, vI x4), (5, vI x5)]) dX5_findFirst_91 rfl (Nat.le_of_ble_eq_true rfl) rfl ?_
  refine j_aload_n (j := 1) dX5_findFirst_92 rfl rfl ?_
  replace h := zbE h
  obtain ⟨r1, e2, h⟩ := h
  refine j_getR fgX5_9 (fun _ _ _ => rfl) dX5_findFirst_93 e2 ?_
  refine j_iload (j := 3) dX5_findFirst_96 rfl ?_
  refine j_iload (j := 4) dX5_findFirst_98 rfl ?_
  replace h := zbE h
  obtain ⟨a3, e4, h⟩ := h
  subst e4
  replace h := zbE h
  obtain ⟨G5, e6, h⟩ := h
  refine j_iast e6 dX5_findFirst_100 ?_
  refine j_goto (tgt := 28) dX5_findFirst_101 (by decide) ?_
  obtain rfl := Option.some.inj h
  exact J.sub (zall [1, 0, 2] rfl) hk
def fbX5_findFirst_28 (t : Nat) (x1 : Int32) (x2 : Option Nat)  (G : GS) : Option ((Int32 × GS) ⊕ ((Int32 × GS) ⊕ (GS))) :=
  x2.bind fun a1 => zk [13] G a1 <| (fJ19_hasNext_0 a1 G).bind fun v5 => if v5 = 0 then (zo (fX5_findFirst_104 t x1 G)) else (zk [13] G a1 <| zb2 (fJ19_next_0 a1 G) fun r9 G10 => zkq [3] G10 r9 (r9.bind fun a12 => (zgI G10 3 a12 0).bind fun v14 => (zgR G10 5 t 1).bind fun r16 => r16.bind fun a18 => (zaI G10 50 a18 (v14 - 20)).bind fun v20 => zk [5] G10 t <| (fX5_firstFrom_0 t (some a12) 0 G10).bind fun v24 => (zgR G10 5 t 1).bind fun r25 => r25.bind fun a27 => (zaI G10 50 a27 (v14 - 20)).bind fun v29 => if (v20 ||| v24) = v29 then (fX5_findFirst_90 t (some a1) (v14 - 20) (v20 ||| v24) x1 0 G10) else (fX5_findFirst_90 t (some a1) (v14 - 20) (v20 ||| v24) x1 1 G10)))
def flX5_findFirst_28 (t : Nat) (x1 : Int32) (x2 : Option Nat) (G : GS) : Option ((Int32 × GS) ⊕ (GS)) := zloop (fun s : Int32 × GS => fbX5_findFirst_28 t s.1 x2 s.2) (x1, G)
theorem wfbX5_findFirst_28 {F : zF} (hd : 5 ≤ F.2.2.2) (t : Nat) (x1 : Int32) (x2 : Option Nat) (G : GS) {a : (Int32 × GS) ⊕ ((Int32 × GS) ⊕ (GS))} (h : fbX5_findFirst_28 t x1 x2 G = some a) (hk : (zcase (fun s : Int32 × GS => J mX5_findFirst F s.2 28 [(0, vR (some t)), (1, vI s.1), (2, vR x2)] []) ((zcase (fun s : Int32 × GS => J mX5_findFirst F s.2 2 [(0, vR (some t)), (1, vI s.1)] []) (zKV F)))) a) : J mX5_findFirst F G 28 [(0, vR (some t)), (1, vI x1), (2, vR x2)] [] := by
  unfold fbX5_findFirst_28 at h
  refine j_aload_n (j := 2) dX5_findFirst_28 rfl rfl ?_
  replace h := zbE h
  obtain ⟨a1, e2, h⟩ := h
  subst e2
  replace h := zkE h
  obtain ⟨e3, h⟩ := h
  replace h := zbE h
  obtain ⟨v5, e4, h⟩ := h
  refine j_cont (zrF (As := []) msX5_82_J19 (yJ19_hasNext_ok e4) (Nat.le_trans (Nat.le_of_ble_eq_true rfl) hd) (zk_13 _ e3) rfl rfl (Nat.le_of_ble_eq_true rfl) dX5_findFirst_29) ?_
  refine j_if_eq (tgt := 104) dX5_findFirst_34 (by decide) (fun c6 => ?_) (fun c6 => ?_)
  · rw [if_pos c6] at h
    replace h := zoE h
    obtain ⟨a, h, rfl⟩ := h
    replace hk := hk
    exact J.sub (zall [0, 1] rfl) (wfX5_findFirst_104 hd t x1  G h hk)
  · rw [if_neg c6] at h
    refine j_aload_n (j := 2) dX5_findFirst_37 rfl rfl ?_
    replace h := zkE h
    obtain ⟨e7, h⟩ := h
    replace h := zb2E h
    obtain ⟨r9, G10, e8, h⟩ := h
    refine j_cont (zrF (As := []) msX5_88_J19 (yJ19_next_ok e8) (Nat.le_trans (Nat.le_of_ble_eq_true rfl) hd) (zk_13 _ e7) rfl rfl (Nat.le_of_ble_eq_true rfl) dX5_findFirst_38) ?_
    replace h := zkqE h
    obtain ⟨e11, h⟩ := h
    refine j_castq (fun k => j_castN dX5_findFirst_43 k) (fun b q32 k => j_castS (zk_3 _ (e11 b q32)) ⟨2, _, rfl, rfl⟩ q476 dX5_findFirst_43 k) ?_
    refine j_astore_n (lv' := [(3, vR r9), (0, vR (some t)), (1, vI x1), (2, vR (some a1))]) dX5_findFirst_46 rfl (Nat.le_of_ble_eq_true rfl) rfl ?_
    refine j_aload_n (j := 0) dX5_findFirst_47 rfl rfl ?_
    replace h := zbE h
    obtain ⟨a12, e13, h⟩ := h
    subst e13
    replace h := zbE h
    obtain ⟨v14, e15, h⟩ := h
    refine j_getI fgX5_101 (fun _ _ _ => rfl) dX5_findFirst_48 e15 ?_
    refine j_bipush (v := 20) dX5_findFirst_51 (by decide) ?_
    refine j_isub dX5_findFirst_53 ?_
    refine j_istore (lv' := [(4, vI (v14 - 20)), (3, vR (some a12)), (0, vR (some t)), (1, vI x1), (2, vR (some a1))]) dX5_findFirst_54 (Nat.le_of_ble_eq_true rfl) rfl ?_
    refine j_aload_n (j := 2) dX5_findFirst_56 rfl rfl ?_
    replace h := zbE h
    obtain ⟨r16, e17, h⟩ := h
    refine j_getR fgX5_9 (fun _ _ _ => rfl) dX5_findFirst_57 e17 ?_
    refine j_iload (j := 0) dX5_findFirst_60 rfl ?_
    replace h := zbE h
    obtain ⟨a18, e19, h⟩ := h
    subst e19
    replace h := zbE h
    obtain ⟨v20, e21, h⟩ := h
    refine j_iald (Or.inl rfl) e21 dX5_findFirst_62 ?_
    refine j_aload_n (j := 2) dX5_findFirst_63 rfl rfl ?_
    refine j_aload_n (j := 1) dX5_findFirst_64 rfl rfl ?_
    refine j_iconst (v := 0) dX5_findFirst_65 (by decide) ?_
    replace h := zkE h
    obtain ⟨e22, h⟩ := h
    replace h := zbE h
    obtain ⟨v24, e23, h⟩ := h
    refine j_cont (zrV (As := [vR (some a12), vI 0]) msX5_114 (yX5_firstFrom_ok e23) (Nat.le_trans (Nat.le_of_ble_eq_true rfl) hd) (zk_5 _ e22) rfl rfl (Nat.le_of_ble_eq_true rfl) dX5_findFirst_66) ?_
    refine j_ior dX5_findFirst_69 ?_
    refine j_istore (lv' := [(5, vI (v20 ||| v24)), (4, vI (v14 - 20)), (3, vR (some a12)), (0, vR (some t)), (1, vI x1), (2, vR (some a1))]) dX5_findFirst_70 (Nat.le_of_ble_eq_true rfl) rfl ?_
    refine j_iload_n (j := 4) dX5_findFirst_72 rfl rfl ?_
    refine j_iload (j := 0) dX5_findFirst_73 rfl ?_
    refine j_aload_n (j := 3) dX5_findFirst_75 rfl rfl ?_
    replace h := zbE h
    obtain ⟨r25, e26, h⟩ := h
    refine j_getR fgX5_9 (fun _ _ _ => rfl) dX5_findFirst_76 e26 ?_
    refine j_iload (j := 1) dX5_findFirst_79 rfl ?_
    replace h := zbE h
    obtain ⟨a27, e28, h⟩ := h
    subst e28
    replace h := zbE h
    obtain ⟨v29, e30, h⟩ := h
    refine j_iald (Or.inl rfl) e30 dX5_findFirst_81 ?_
    refine j_icmp_eq (tgt := 89) dX5_findFirst_82 (by decide) (fun c31 => ?_) (fun c31 => ?_)
    · rw [if_pos c31] at h
      refine j_iconst (v := 0) dX5_findFirst_89 (by decide) ?_
      exact J.sub (zall [3, 5, 1, 0] rfl) (wfX5_findFirst_90 hd t (some a1) (v14 - 20) (v20 ||| v24) x1 0 G10 h hk)
    · rw [if_neg c31] at h
      refine j_iconst (v := 1) dX5_findFirst_85 (by decide) ?_
      refine j_goto (tgt := 90) dX5_findFirst_86 (by decide) ?_
      exact J.sub (zall [3, 5, 1, 0] rfl) (wfX5_findFirst_90 hd t (some a1) (v14 - 20) (v20 ||| v24) x1 1 G10 h hk)
theorem wflX5_findFirst_28 {F : zF} (hd : 5 ≤ F.2.2.2) (t : Nat) (x1 : Int32) (x2 : Option Nat) (G : GS) {a : (Int32 × GS) ⊕ (GS)} (h : flX5_findFirst_28 t x1 x2 G = some a) (hk : (zcase (fun s : Int32 × GS => J mX5_findFirst F s.2 2 [(0, vR (some t)), (1, vI s.1)] []) (zKV F)) a) : J mX5_findFirst F G 28 [(0, vR (some t)), (1, vI x1), (2, vR x2)] [] := by
  unfold flX5_findFirst_28 at h
  exact zloop_walk (P := (fun s : Int32 × GS => J mX5_findFirst F s.2 28 [(0, vR (some t)), (1, vI s.1), (2, vR x2)] [])) (fun s b e hk => wfbX5_findFirst_28 hd t s.1 x2 s.2 e hk) (x1, G) _ h hk
def fbX5_findFirst_2 (t : Nat) (x1 : Int32)  (G : GS) : Option ((Int32 × GS) ⊕ (GS)) :=
  if x1 = 0 then (zo (some G)) else ((zgI G 5 t 9).bind fun v2 => (zpI G 5 t 9 (v2 + 1)).bind fun G4 => (zgR G4 5 t 0).bind fun r6 => r6.bind fun a8 => zk [12] G4 a8 <| zb2 (fJ2_iterator_0 a8 G4) fun r12 G13 => flX5_findFirst_28 t 0 r12 G13)
def flX5_findFirst_2 (t : Nat) (x1 : Int32) (G : GS) : Option (GS) := zloop (fun s : Int32 × GS => fbX5_findFirst_2 t s.1 s.2) (x1, G)
theorem wfbX5_findFirst_2 {F : zF} (hd : 5 ≤ F.2.2.2) (t : Nat) (x1 : Int32) (G : GS) {a : (Int32 × GS) ⊕ (GS)} (h : fbX5_findFirst_2 t x1 G = some a) (hk : (zcase (fun s : Int32 × GS => J mX5_findFirst F s.2 2 [(0, vR (some t)), (1, vI s.1)] []) (zKV F)) a) : J mX5_findFirst F G 2 [(0, vR (some t)), (1, vI x1)] [] := by
  unfold fbX5_findFirst_2 at h
  refine j_iload_n (j := 1) dX5_findFirst_2 rfl rfl ?_
  refine j_if_eq (tgt := 107) dX5_findFirst_3 (by decide) (fun c1 => ?_) (fun c1 => ?_)
  · rw [if_pos c1] at h
    replace h := zoE h
    obtain ⟨a, h, rfl⟩ := h
    replace hk := hk
    obtain rfl := Option.some.inj h
    exact j_vret hk.1 hk.2 rfl dX5_findFirst_107
  · rw [if_neg c1] at h
    refine j_iconst (v := 0) dX5_findFirst_6 (by decide) ?_
    refine j_istore_n (lv' := [(1, vI 0), (0, vR (some t))]) dX5_findFirst_7 rfl (Nat.le_of_ble_eq_true rfl) rfl ?_
    refine j_aload_n (j := 1) dX5_findFirst_8 rfl rfl ?_
    refine j_dup dX5_findFirst_9 rfl ?_
    replace h := zbE h
    obtain ⟨v2, e3, h⟩ := h
    refine j_getI fgX5_111 (fun _ _ _ => rfl) dX5_findFirst_10 e3 ?_
    refine j_iconst (v := 1) dX5_findFirst_13 (by decide) ?_
    refine j_iadd dX5_findFirst_14 ?_
    replace h := zbE h
    obtain ⟨G4, e5, h⟩ := h
    refine j_putI fpX5_111_X5 (Or.inl rfl) rfl dX5_findFirst_15 e5 ?_
    refine j_aload_n (j := 1) dX5_findFirst_18 rfl rfl ?_
    replace h := zbE h
    obtain ⟨r6, e7, h⟩ := h
    refine j_getR fgX5_39 (fun _ _ _ => rfl) dX5_findFirst_19 e7 ?_
    replace h := zbE h
    obtain ⟨a8, e9, h⟩ := h
    subst e9
    replace h := zkE h
    obtain ⟨e10, h⟩ := h
    replace h := zb2E h
    obtain ⟨r12, G13, e11, h⟩ := h
    refine j_cont (zrF (As := []) msX5_78_J2 (yJ2_iterator_ok e11) (Nat.le_trans (Nat.le_of_ble_eq_true rfl) hd) (zk_12 _ e10) rfl rfl (Nat.le_of_ble_eq_true rfl) dX5_findFirst_22) ?_
    refine j_astore_n (lv' := [(2, vR r12), (1, vI 0), (0, vR (some t))]) dX5_findFirst_27 rfl (Nat.le_of_ble_eq_true rfl) rfl ?_
    exact J.sub (zall [2, 1, 0] rfl) (wflX5_findFirst_28 hd t 0 r12  G13 h hk)
theorem wflX5_findFirst_2 {F : zF} (hd : 5 ≤ F.2.2.2) (t : Nat) (x1 : Int32) (G : GS) {a : GS} (h : flX5_findFirst_2 t x1 G = some a) (hk : zKV F a) : J mX5_findFirst F G 2 [(0, vR (some t)), (1, vI x1)] [] := by
  unfold flX5_findFirst_2 at h
  exact zloop_walk (P := (fun s : Int32 × GS => J mX5_findFirst F s.2 2 [(0, vR (some t)), (1, vI s.1)] [])) (fun s b e hk => wfbX5_findFirst_2 hd t s.1 s.2 e hk) (x1, G) _ h hk
def fX5_findFirst_0 (t : Nat)  (G : GS) : Option (GS) :=
  flX5_findFirst_2 t 1 G
theorem wfX5_findFirst_0 {F : zF} (hd : 5 ≤ F.2.2.2) (t : Nat)  (G : GS) {a : GS} (h : fX5_findFirst_0 t  G = some a) (hk : zKV F a) : J mX5_findFirst F G 0 [(0, vR (some t))] [] := by
  unfold fX5_findFirst_0 at h
  refine j_iconst (v := 1) dX5_findFirst_0 (by decide) ?_
  refine j_istore_n (lv' := [(1, vI 1), (0, vR (some t))]) dX5_findFirst_1 rfl (Nat.le_of_ble_eq_true rfl) rfl ?_
  exact J.sub (zall [1, 0] rfl) (wflX5_findFirst_2 hd t 1  G h hk)
theorem yX5_findFirst_ok {t : Nat} {G : GS} {G1 : GS} (h : fX5_findFirst_0 t G = some G1) : zRuns yX5_findFirst (ws_ yX5_findFirst cX5_findFirst 6 none) [vR (some t)] (.inl none, G, G1, 5) :=
  zentry (M := mX5_findFirst) (plainFor_of_name (by decide +kernel)) ⟨rfl, rfl, rfl, rfl⟩ (Nat.le_of_ble_eq_true rfl) (wfX5_findFirst_0 (Nat.le_refl _) t G h ⟨rfl, rfl⟩)
theorem fgX5_15 : zFG RX5 15 4 2 (.array (.int)) := ⟨(RX5, TX5, 10, tyX5), rfl, by decide, in_X5, rfl, "SelahGenerator$Sets", Or.inl rfl, Or.inl q1148⟩
abbrev mX5_followIn : zM := (cX5_followIn, RX5, 4, none, "followIn", [], "(LSelahGenerator$Rule;I)V")
def fX5_followIn_43 (t : Nat) (x1 : Option Nat) (x2 : Int32) (x3 : Int32)  (G : GS) : Option (GS) :=
  (zgR G 5 t 2).bind fun r1 => x1.bind fun a3 => (zgR G 3 a3 1).bind fun r5 => r5.bind fun a7 => (zaI G 50 a7 x2).bind fun v9 => r1.bind fun a11 => (zaI G 50 a11 (v9 - 20)).bind fun v13 => (zsI G 50 a11 (v9 - 20) (v13 ||| x3)).bind fun G15 => some G15
theorem wfX5_followIn_43 {F : zF} (hd : 7 ≤ F.2.2.2) (t : Nat) (x1 : Option Nat) (x2 : Int32) (x3 : Int32)  (G : GS) {a : GS} (h : fX5_followIn_43 t x1 x2 x3  G = some a) (hk : zKV F a) : J mX5_followIn F G 43 [(0, vR (some t)), (1, vR x1), (2, vI x2), (3, vI x3)] [] := by
  unfold fX5_followIn_43 at h
  refine j_aload_n (j := 0) dX5_followIn_43 rfl rfl ?_
  replace h := zbE h
  obtain ⟨r1, e2, h⟩ := h
  refine j_getR fgX5_15 (fun _ _ _ => rfl) dX5_followIn_44 e2 ?_
  refine j_aload_n (j := 1) dX5_followIn_47 rfl rfl ?_
  replace h := zbE h
  obtain ⟨a3, e4, h⟩ := h
  subst e4
  replace h := zbE h
  obtain ⟨r5, e6, h⟩ := h
  refine j_getR fgX5_94 (fun _ _ _ => rfl) dX5_followIn_48 e6 ?_
  refine j_iload_n (j := 2) dX5_followIn_51 rfl rfl ?_
  replace h := zbE h
  obtain ⟨a7, e8, h⟩ := h
  subst e8
  replace h := zbE h
  obtain ⟨v9, e10, h⟩ := h
  refine j_iald (Or.inl rfl) e10 dX5_followIn_52 ?_
  refine j_bipush (v := 20) dX5_followIn_53 (by decide) ?_
  refine j_isub dX5_followIn_55 ?_
  refine j_dup2_11 dX5_followIn_56 rfl rfl ?_
  replace h := zbE h
  obtain ⟨a11, e12, h⟩ := h
  subst e12
  replace h := zbE h
  obtain ⟨v13, e14, h⟩ := h
  refine j_iald (Or.inl rfl) e14 dX5_followIn_57 ?_
  refine j_iload_n (j := 3) dX5_followIn_58 rfl rfl ?_
  refine j_ior dX5_followIn_59 ?_
  replace h := zbE h
  obtain ⟨G15, e16, h⟩ := h
  refine j_iast e16 dX5_followIn_60 ?_
  obtain rfl := Option.some.inj h
  exact j_vret hk.1 hk.2 rfl dX5_followIn_61
def fX5_followIn_0 (t : Nat) (x1 : Option Nat) (x2 : Int32)  (G : GS) : Option (GS) :=
  zk [5] G t <| (fX5_firstFrom_0 t x1 (x2 + 1) G).bind fun v3 => x1.bind fun a4 => (zgR G 3 a4 1).bind fun r6 => r6.bind fun a8 => (zln G a8).bind fun v10 => (zgR G 5 t 7).bind fun r12 => zk [3] G a4 <| (fX3_all_0 a4 (x2 + 1) v10 r12 G).bind fun v16 => if v16 = 0 then (fX5_followIn_43 t (some a4) x2 v3 G) else ((zgR G 5 t 2).bind fun r18 => (zgI G 3 a4 0).bind fun v20 => r18.bind fun a22 => (zaI G 50 a22 (v20 - 20)).bind fun v24 => fX5_followIn_43 t (some a4) x2 (v3 ||| v24) G)
theorem wfX5_followIn_0 {F : zF} (hd : 7 ≤ F.2.2.2) (t : Nat) (x1 : Option Nat) (x2 : Int32)  (G : GS) {a : GS} (h : fX5_followIn_0 t x1 x2  G = some a) (hk : zKV F a) : J mX5_followIn F G 0 [(0, vR (some t)), (1, vR x1), (2, vI x2)] [] := by
  unfold fX5_followIn_0 at h
  refine j_aload_n (j := 0) dX5_followIn_0 rfl rfl ?_
  refine j_aload_n (j := 1) dX5_followIn_1 rfl rfl ?_
  refine j_iload_n (j := 2) dX5_followIn_2 rfl rfl ?_
  refine j_iconst (v := 1) dX5_followIn_3 (by decide) ?_
  refine j_iadd dX5_followIn_4 ?_
  replace h := zkE h
  obtain ⟨e1, h⟩ := h
  replace h := zbE h
  obtain ⟨v3, e2, h⟩ := h
  refine j_cont (zrV (As := [vR x1, vI (x2 + 1)]) msX5_114 (yX5_firstFrom_ok e2) (Nat.le_trans (Nat.le_of_ble_eq_true rfl) hd) (zk_5 _ e1) rfl rfl (Nat.le_of_ble_eq_true rfl) dX5_followIn_5) ?_
  refine j_istore_n (lv' := [(3, vI v3), (0, vR (some t)), (1, vR x1), (2, vI x2)]) dX5_followIn_8 rfl (Nat.le_of_ble_eq_true rfl) rfl ?_
  refine j_aload_n (j := 2) dX5_followIn_9 rfl rfl ?_
  refine j_iload_n (j := 3) dX5_followIn_10 rfl rfl ?_
  refine j_iconst (v := 1) dX5_followIn_11 (by decide) ?_
  refine j_iadd dX5_followIn_12 ?_
  refine j_aload_n (j := 2) dX5_followIn_13 rfl rfl ?_
  replace h := zbE h
  obtain ⟨a4, e5, h⟩ := h
  subst e5
  replace h := zbE h
  obtain ⟨r6, e7, h⟩ := h
  refine j_getR fgX5_94 (fun _ _ _ => rfl) dX5_followIn_14 e7 ?_
  replace h := zbE h
  obtain ⟨a8, e9, h⟩ := h
  subst e9
  replace h := zbE h
  obtain ⟨v10, e11, h⟩ := h
  refine j_alen e11 dX5_followIn_17 ?_
  refine j_aload_n (j := 1) dX5_followIn_18 rfl rfl ?_
  replace h := zbE h
  obtain ⟨r12, e13, h⟩ := h
  refine j_getR fgX5_35 (fun _ _ _ => rfl) dX5_followIn_19 e13 ?_
  replace h := zkE h
  obtain ⟨e14, h⟩ := h
  replace h := zbE h
  obtain ⟨v16, e15, h⟩ := h
  refine j_cont (zrV (As := [vI (x2 + 1), vI v10, vR r12]) msX5_97 (yX3_all_ok e15) (Nat.le_trans (Nat.le_of_ble_eq_true rfl) hd) (zk_3 _ e14) rfl rfl (Nat.le_of_ble_eq_true rfl) dX5_followIn_22) ?_
  refine j_if_eq (tgt := 43) dX5_followIn_25 (by decide) (fun c17 => ?_) (fun c17 => ?_)
  · rw [if_pos c17] at h
    exact J.sub (zall [1, 2, 3, 0] rfl) (wfX5_followIn_43 hd t (some a4) x2 v3  G h hk)
  · rw [if_neg c17] at h
    refine j_iload_n (j := 0) dX5_followIn_28 rfl rfl ?_
    refine j_aload_n (j := 1) dX5_followIn_29 rfl rfl ?_
    replace h := zbE h
    obtain ⟨r18, e19, h⟩ := h
    refine j_getR fgX5_15 (fun _ _ _ => rfl) dX5_followIn_30 e19 ?_
    refine j_aload_n (j := 2) dX5_followIn_33 rfl rfl ?_
    replace h := zbE h
    obtain ⟨v20, e21, h⟩ := h
    refine j_getI fgX5_101 (fun _ _ _ => rfl) dX5_followIn_34 e21 ?_
    refine j_bipush (v := 20) dX5_followIn_37 (by decide) ?_
    refine j_isub dX5_followIn_39 ?_
    replace h := zbE h
    obtain ⟨a22, e23, h⟩ := h
    subst e23
    replace h := zbE h
    obtain ⟨v24, e25, h⟩ := h
    refine j_iald (Or.inl rfl) e25 dX5_followIn_40 ?_
    refine j_ior dX5_followIn_41 ?_
    refine j_istore_n (lv' := [(3, vI (v3 ||| v24)), (0, vR (some t)), (1, vR (some a4)), (2, vI x2)]) dX5_followIn_42 rfl (Nat.le_of_ble_eq_true rfl) rfl ?_
    exact J.sub (zall [1, 2, 3, 0] rfl) (wfX5_followIn_43 hd t (some a4) x2 (v3 ||| v24)  G h hk)
theorem yX5_followIn_ok {t : Nat} {x1 : Option Nat} {x2 : Int32} {G : GS} {G1 : GS} (h : fX5_followIn_0 t x1 x2 G = some G1) : zRuns yX5_followIn (ws_ yX5_followIn cX5_followIn 4 none) [vR (some t), vR x1, vI x2] (.inl none, G, G1, 7) :=
  zentry (M := mX5_followIn) (plainFor_of_name (by decide +kernel)) ⟨rfl, rfl, rfl, rfl⟩ (Nat.le_of_ble_eq_true rfl) (wfX5_followIn_0 (Nat.le_refl _) t x1 x2 G h ⟨rfl, rfl⟩)
abbrev mJ23_toUnsignedLong : zM := (cJ23_toUnsignedLong, RJ23, 1, (some Jvm.ClassFile.FieldType.long), "toUnsignedLong", [], "(I)J")
def fJ23_toUnsignedLong_0 (x0 : Int32)  (G : GS) : Option (Int64) :=
  some (x0.toInt64 &&& 4294967295)
theorem wfJ23_toUnsignedLong_0 {F : zF} (hd : 1 ≤ F.2.2.2) (x0 : Int32)  (G : GS) {a : Int64} (h : fJ23_toUnsignedLong_0 x0  G = some a) (hk : zKPL F G a) : J mJ23_toUnsignedLong F G 0 [(0, vI x0)] [] := by
  unfold fJ23_toUnsignedLong_0 at h
  refine j_iload_n (j := 0) dJ23_toUnsignedLong_0 rfl rfl ?_
  refine j_i2l dJ23_toUnsignedLong_1 ?_
  refine j_ldc2 (v := 4294967295) q550 dJ23_toUnsignedLong_2 ?_
  refine j_land dJ23_toUnsignedLong_5 ?_
  obtain rfl := Option.some.inj h
  exact j_lret hk.1 hk.2 rfl dJ23_toUnsignedLong_6
theorem yJ23_toUnsignedLong_ok {x0 : Int32} {G : GS} {r : Int64} (h : fJ23_toUnsignedLong_0 x0 G = some r) : zRuns yJ23_toUnsignedLong (ws_ yJ23_toUnsignedLong cJ23_toUnsignedLong 1 (some Jvm.ClassFile.FieldType.long)) [vI x0] (.inl (some (vL r)), G, G, 1) :=
  zentry (M := mJ23_toUnsignedLong) (by decide +kernel) ⟨rfl, rfl, rfl, rfl⟩ (Nat.le_of_ble_eq_true rfl) (wfJ23_toUnsignedLong_0 (Nat.le_refl _) x0 G h ⟨rfl, rfl⟩)
abbrev mJ23_pickPos : zM := (cJ23_pickPos, RJ23, 2, (some Jvm.ClassFile.FieldType.int), "pickPos", [], "(II)I")
def fJ23_pickPos_0 (x0 : Int32) (x1 : Int32)  (G : GS) : Option (Int32) :=
  if (0 : Int32) = 0 then (some x1) else (some (x0 - x1))
theorem wfJ23_pickPos_0 {F : zF} (hd : 1 ≤ F.2.2.2) (x0 : Int32) (x1 : Int32)  (G : GS) {a : Int32} (h : fJ23_pickPos_0 x0 x1  G = some a) (hk : zKPI F G a) : J mJ23_pickPos F G 0 [(0, vI x0), (1, vI x1)] [] := by
  unfold fJ23_pickPos_0 at h
  refine j_gets (i := 8) (x := vI 0) rfl rfl q554 dJ23_pickPos_0 ?_
  refine j_if_eq (tgt := 12) dJ23_pickPos_3 (by decide) (fun c1 => ?_) (fun c1 => ?_)
  · rw [if_pos c1] at h
    refine j_iload_n (j := 1) dJ23_pickPos_12 rfl rfl ?_
    obtain rfl := Option.some.inj h
    exact j_iret hk.1 hk.2 rfl dJ23_pickPos_13
  · rw [if_neg c1] at h
    refine j_iload_n (j := 0) dJ23_pickPos_6 rfl rfl ?_
    refine j_iload_n (j := 1) dJ23_pickPos_7 rfl rfl ?_
    refine j_isub dJ23_pickPos_8 ?_
    refine j_goto (tgt := 13) dJ23_pickPos_9 (by decide) ?_
    obtain rfl := Option.some.inj h
    exact j_iret hk.1 hk.2 rfl dJ23_pickPos_13
theorem yJ23_pickPos_ok {x0 : Int32} {x1 : Int32} {G : GS} {r : Int32} (h : fJ23_pickPos_0 x0 x1 G = some r) : zRuns yJ23_pickPos (ws_ yJ23_pickPos cJ23_pickPos 2 (some Jvm.ClassFile.FieldType.int)) [vI x0, vI x1] (.inl (some (vI r)), G, G, 1) :=
  zentry (M := mJ23_pickPos) (by decide +kernel) ⟨rfl, rfl, rfl, rfl⟩ (Nat.le_of_ble_eq_true rfl) (wfJ23_pickPos_0 (Nat.le_refl _) x0 x1 G h ⟨rfl, rfl⟩)
theorem msJ23_784 : zSS RJ23 784 yJ23_pickPos cJ23_pickPos 2 (some Jvm.ClassFile.FieldType.int) 2 := ⟨lw_S q551 q552 q152 q553, (by decide +kernel), (by decide)⟩
theorem msJ23_791 : zSS RJ23 791 yJ23_toUnsignedLong cJ23_toUnsignedLong 1 (some Jvm.ClassFile.FieldType.long) 1 := ⟨lw_S q547 q548 q152 q549, (by decide +kernel), (by decide)⟩
abbrev mJ23_makeLong : zM := (cJ23_makeLong, RJ23, 2, (some Jvm.ClassFile.FieldType.long), "makeLong", [], "(II)J")
def fJ23_makeLong_0 (x0 : Int32) (x1 : Int32)  (G : GS) : Option (Int64) :=
  (fJ23_toUnsignedLong_0 x0 G).bind fun l2 => (fJ23_pickPos_0 32 0 G).bind fun v4 => (fJ23_toUnsignedLong_0 x1 G).bind fun l6 => (fJ23_pickPos_0 32 32 G).bind fun v8 => some ((l2 <<< (v4.toInt64 &&& 63)) ||| (l6 <<< (v8.toInt64 &&& 63)))
theorem wfJ23_makeLong_0 {F : zF} (hd : 2 ≤ F.2.2.2) (x0 : Int32) (x1 : Int32)  (G : GS) {a : Int64} (h : fJ23_makeLong_0 x0 x1  G = some a) (hk : zKPL F G a) : J mJ23_makeLong F G 0 [(0, vI x0), (1, vI x1)] [] := by
  unfold fJ23_makeLong_0 at h
  refine j_iload_n (j := 0) dJ23_makeLong_0 rfl rfl ?_
  replace h := zbE h
  obtain ⟨l2, e1, h⟩ := h
  refine j_cont (zrS (As := [vI x0]) msJ23_791 (yJ23_toUnsignedLong_ok e1) (Nat.le_trans (Nat.le_of_ble_eq_true rfl) hd) rfl rfl (Nat.le_of_ble_eq_true rfl) dJ23_makeLong_1) ?_
  refine j_bipush (v := 32) dJ23_makeLong_4 (by decide) ?_
  refine j_iconst (v := 0) dJ23_makeLong_6 (by decide) ?_
  replace h := zbE h
  obtain ⟨v4, e3, h⟩ := h
  refine j_cont (zrS (As := [vI 32, vI 0]) msJ23_784 (yJ23_pickPos_ok e3) (Nat.le_trans (Nat.le_of_ble_eq_true rfl) hd) rfl rfl (Nat.le_of_ble_eq_true rfl) dJ23_makeLong_7) ?_
  refine j_lshl dJ23_makeLong_10 ?_
  refine j_iload_n (j := 1) dJ23_makeLong_11 rfl rfl ?_
  replace h := zbE h
  obtain ⟨l6, e5, h⟩ := h
  refine j_cont (zrS (As := [vI x1]) msJ23_791 (yJ23_toUnsignedLong_ok e5) (Nat.le_trans (Nat.le_of_ble_eq_true rfl) hd) rfl rfl (Nat.le_of_ble_eq_true rfl) dJ23_makeLong_12) ?_
  refine j_bipush (v := 32) dJ23_makeLong_15 (by decide) ?_
  refine j_bipush (v := 32) dJ23_makeLong_17 (by decide) ?_
  replace h := zbE h
  obtain ⟨v8, e7, h⟩ := h
  refine j_cont (zrS (As := [vI 32, vI 32]) msJ23_784 (yJ23_pickPos_ok e7) (Nat.le_trans (Nat.le_of_ble_eq_true rfl) hd) rfl rfl (Nat.le_of_ble_eq_true rfl) dJ23_makeLong_19) ?_
  refine j_lshl dJ23_makeLong_22 ?_
  refine j_lor dJ23_makeLong_23 ?_
  obtain rfl := Option.some.inj h
  exact j_lret hk.1 hk.2 rfl dJ23_makeLong_24
theorem yJ23_makeLong_ok {x0 : Int32} {x1 : Int32} {G : GS} {r : Int64} (h : fJ23_makeLong_0 x0 x1 G = some r) : zRuns yJ23_makeLong (ws_ yJ23_makeLong cJ23_makeLong 2 (some Jvm.ClassFile.FieldType.long)) [vI x0, vI x1] (.inl (some (vL r)), G, G, 2) :=
  zentry (M := mJ23_makeLong) (by decide +kernel) ⟨rfl, rfl, rfl, rfl⟩ (Nat.le_of_ble_eq_true rfl) (wfJ23_makeLong_0 (Nat.le_refl _) x0 x1 G h ⟨rfl, rfl⟩)
abbrev mJ23_toUnsignedLong_2 : zM := (cJ23_toUnsignedLong_2, RJ23, 1, (some Jvm.ClassFile.FieldType.long), "toUnsignedLong", [], "(S)J")
def fJ23_toUnsignedLong_2_0 (x0 : Int32)  (G : GS) : Option (Int64) :=
  some (x0.toInt64 &&& 65535)
theorem wfJ23_toUnsignedLong_2_0 {F : zF} (hd : 1 ≤ F.2.2.2) (x0 : Int32)  (G : GS) {a : Int64} (h : fJ23_toUnsignedLong_2_0 x0  G = some a) (hk : zKPL F G a) : J mJ23_toUnsignedLong_2 F G 0 [(0, vI x0)] [] := by
  unfold fJ23_toUnsignedLong_2_0 at h
  refine j_iload_n (j := 0) dJ23_toUnsignedLong_2_0 rfl rfl ?_
  refine j_i2l dJ23_toUnsignedLong_2_1 ?_
  refine j_ldc2 (v := 65535) q568 dJ23_toUnsignedLong_2_2 ?_
  refine j_land dJ23_toUnsignedLong_2_5 ?_
  obtain rfl := Option.some.inj h
  exact j_lret hk.1 hk.2 rfl dJ23_toUnsignedLong_2_6
theorem yJ23_toUnsignedLong_2_ok {x0 : Int32} {G : GS} {r : Int64} (h : fJ23_toUnsignedLong_2_0 x0 G = some r) : zRuns yJ23_toUnsignedLong_2 (ws_ yJ23_toUnsignedLong_2 cJ23_toUnsignedLong_2 1 (some Jvm.ClassFile.FieldType.long)) [vI x0] (.inl (some (vL r)), G, G, 1) :=
  zentry (M := mJ23_toUnsignedLong_2) (by decide +kernel) ⟨rfl, rfl, rfl, rfl⟩ (Nat.le_of_ble_eq_true rfl) (wfJ23_toUnsignedLong_2_0 (Nat.le_refl _) x0 G h ⟨rfl, rfl⟩)
theorem msJ23_788 : zSS RJ23 788 yJ23_toUnsignedLong_2 cJ23_toUnsignedLong_2 1 (some Jvm.ClassFile.FieldType.long) 1 := ⟨lw_S q565 q566 q152 q567, (by decide +kernel), (by decide)⟩
abbrev mJ23_makeLong_2 : zM := (cJ23_makeLong_2, RJ23, 4, (some Jvm.ClassFile.FieldType.long), "makeLong", [], "(SSSS)J")
def fJ23_makeLong_2_0 (x0 : Int32) (x1 : Int32) (x2 : Int32) (x3 : Int32)  (G : GS) : Option (Int64) :=
  (fJ23_toUnsignedLong_2_0 x0 G).bind fun l2 => (fJ23_pickPos_0 48 0 G).bind fun v4 => (fJ23_toUnsignedLong_2_0 x1 G).bind fun l6 => (fJ23_pickPos_0 48 16 G).bind fun v8 => (fJ23_toUnsignedLong_2_0 x2 G).bind fun l10 => (fJ23_pickPos_0 48 32 G).bind fun v12 => (fJ23_toUnsignedLong_2_0 x3 G).bind fun l14 => (fJ23_pickPos_0 48 48 G).bind fun v16 => some ((((l2 <<< (v4.toInt64 &&& 63)) ||| (l6 <<< (v8.toInt64 &&& 63))) ||| (l10 <<< (v12.toInt64 &&& 63))) ||| (l14 <<< (v16.toInt64 &&& 63)))
theorem wfJ23_makeLong_2_0 {F : zF} (hd : 2 ≤ F.2.2.2) (x0 : Int32) (x1 : Int32) (x2 : Int32) (x3 : Int32)  (G : GS) {a : Int64} (h : fJ23_makeLong_2_0 x0 x1 x2 x3  G = some a) (hk : zKPL F G a) : J mJ23_makeLong_2 F G 0 [(0, vI x0), (1, vI x1), (2, vI x2), (3, vI x3)] [] := by
  unfold fJ23_makeLong_2_0 at h
  refine j_iload_n (j := 0) dJ23_makeLong_2_0 rfl rfl ?_
  replace h := zbE h
  obtain ⟨l2, e1, h⟩ := h
  refine j_cont (zrS (As := [vI x0]) msJ23_788 (yJ23_toUnsignedLong_2_ok e1) (Nat.le_trans (Nat.le_of_ble_eq_true rfl) hd) rfl rfl (Nat.le_of_ble_eq_true rfl) dJ23_makeLong_2_1) ?_
  refine j_bipush (v := 48) dJ23_makeLong_2_4 (by decide) ?_
  refine j_iconst (v := 0) dJ23_makeLong_2_6 (by decide) ?_
  replace h := zbE h
  obtain ⟨v4, e3, h⟩ := h
  refine j_cont (zrS (As := [vI 48, vI 0]) msJ23_784 (yJ23_pickPos_ok e3) (Nat.le_trans (Nat.le_of_ble_eq_true rfl) hd) rfl rfl (Nat.le_of_ble_eq_true rfl) dJ23_makeLong_2_7) ?_
  refine j_lshl dJ23_makeLong_2_10 ?_
  refine j_iload_n (j := 1) dJ23_makeLong_2_11 rfl rfl ?_
  replace h := zbE h
  obtain ⟨l6, e5, h⟩ := h
  refine j_cont (zrS (As := [vI x1]) msJ23_788 (yJ23_toUnsignedLong_2_ok e5) (Nat.le_trans (Nat.le_of_ble_eq_true rfl) hd) rfl rfl (Nat.le_of_ble_eq_true rfl) dJ23_makeLong_2_12) ?_
  refine j_bipush (v := 48) dJ23_makeLong_2_15 (by decide) ?_
  refine j_bipush (v := 16) dJ23_makeLong_2_17 (by decide) ?_
  replace h := zbE h
  obtain ⟨v8, e7, h⟩ := h
  refine j_cont (zrS (As := [vI 48, vI 16]) msJ23_784 (yJ23_pickPos_ok e7) (Nat.le_trans (Nat.le_of_ble_eq_true rfl) hd) rfl rfl (Nat.le_of_ble_eq_true rfl) dJ23_makeLong_2_19) ?_
  refine j_lshl dJ23_makeLong_2_22 ?_
  refine j_lor dJ23_makeLong_2_23 ?_
  refine j_iload_n (j := 2) dJ23_makeLong_2_24 rfl rfl ?_
  replace h := zbE h
  obtain ⟨l10, e9, h⟩ := h
  refine j_cont (zrS (As := [vI x2]) msJ23_788 (yJ23_toUnsignedLong_2_ok e9) (Nat.le_trans (Nat.le_of_ble_eq_true rfl) hd) rfl rfl (Nat.le_of_ble_eq_true rfl) dJ23_makeLong_2_25) ?_
  refine j_bipush (v := 48) dJ23_makeLong_2_28 (by decide) ?_
  refine j_bipush (v := 32) dJ23_makeLong_2_30 (by decide) ?_
  replace h := zbE h
  obtain ⟨v12, e11, h⟩ := h
  refine j_cont (zrS (As := [vI 48, vI 32]) msJ23_784 (yJ23_pickPos_ok e11) (Nat.le_trans (Nat.le_of_ble_eq_true rfl) hd) rfl rfl (Nat.le_of_ble_eq_true rfl) dJ23_makeLong_2_32) ?_
  refine j_lshl dJ23_makeLong_2_35 ?_
  refine j_lor dJ23_makeLong_2_36 ?_
  refine j_iload_n (j := 3) dJ23_makeLong_2_37 rfl rfl ?_
  replace h := zbE h
  obtain ⟨l14, e13, h⟩ := h
  refine j_cont (zrS (As := [vI x3]) msJ23_788 (yJ23_toUnsignedLong_2_ok e13) (Nat.le_trans (Nat.le_of_ble_eq_true rfl) hd) rfl rfl (Nat.le_of_ble_eq_true rfl) dJ23_makeLong_2_38) ?_
  refine j_bipush (v := 48) dJ23_makeLong_2_41 (by decide) ?_
  refine j_bipush (v := 48) dJ23_makeLong_2_43 (by decide) ?_
  replace h := zbE h
  obtain ⟨v16, e15, h⟩ := h
  refine j_cont (zrS (As := [vI 48, vI 48]) msJ23_784 (yJ23_pickPos_ok e15) (Nat.le_trans (Nat.le_of_ble_eq_true rfl) hd) rfl rfl (Nat.le_of_ble_eq_true rfl) dJ23_makeLong_2_45) ?_
  refine j_lshl dJ23_makeLong_2_48 ?_
  refine j_lor dJ23_makeLong_2_49 ?_
  obtain rfl := Option.some.inj h
  exact j_lret hk.1 hk.2 rfl dJ23_makeLong_2_50
theorem yJ23_makeLong_2_ok {x0 : Int32} {x1 : Int32} {x2 : Int32} {x3 : Int32} {G : GS} {r : Int64} (h : fJ23_makeLong_2_0 x0 x1 x2 x3 G = some r) : zRuns yJ23_makeLong_2 (ws_ yJ23_makeLong_2 cJ23_makeLong_2 4 (some Jvm.ClassFile.FieldType.long)) [vI x0, vI x1, vI x2, vI x3] (.inl (some (vL r)), G, G, 2) :=
  zentry (M := mJ23_makeLong_2) (by decide +kernel) ⟨rfl, rfl, rfl, rfl⟩ (Nat.le_of_ble_eq_true rfl) (wfJ23_makeLong_2_0 (Nat.le_refl _) x0 x1 x2 x3 G h ⟨rfl, rfl⟩)
abbrev mJ23_toUnsignedLong_3 : zM := (cJ23_toUnsignedLong_3, RJ23, 1, (some Jvm.ClassFile.FieldType.long), "toUnsignedLong", [], "(B)J")
def fJ23_toUnsignedLong_3_0 (x0 : Int32)  (G : GS) : Option (Int64) :=
  some (x0.toInt64 &&& 255)
theorem wfJ23_toUnsignedLong_3_0 {F : zF} (hd : 1 ≤ F.2.2.2) (x0 : Int32)  (G : GS) {a : Int64} (h : fJ23_toUnsignedLong_3_0 x0  G = some a) (hk : zKPL F G a) : J mJ23_toUnsignedLong_3 F G 0 [(0, vI x0)] [] := by
  unfold fJ23_toUnsignedLong_3_0 at h
  refine j_iload_n (j := 0) dJ23_toUnsignedLong_3_0 rfl rfl ?_
  refine j_i2l dJ23_toUnsignedLong_3_1 ?_
  refine j_ldc2 (v := 255) q580 dJ23_toUnsignedLong_3_2 ?_
  refine j_land dJ23_toUnsignedLong_3_5 ?_
  obtain rfl := Option.some.inj h
  exact j_lret hk.1 hk.2 rfl dJ23_toUnsignedLong_3_6
theorem yJ23_toUnsignedLong_3_ok {x0 : Int32} {G : GS} {r : Int64} (h : fJ23_toUnsignedLong_3_0 x0 G = some r) : zRuns yJ23_toUnsignedLong_3 (ws_ yJ23_toUnsignedLong_3 cJ23_toUnsignedLong_3 1 (some Jvm.ClassFile.FieldType.long)) [vI x0] (.inl (some (vL r)), G, G, 1) :=
  zentry (M := mJ23_toUnsignedLong_3) (by decide +kernel) ⟨rfl, rfl, rfl, rfl⟩ (Nat.le_of_ble_eq_true rfl) (wfJ23_toUnsignedLong_3_0 (Nat.le_refl _) x0 G h ⟨rfl, rfl⟩)
theorem msJ23_781 : zSS RJ23 781 yJ23_toUnsignedLong_3 cJ23_toUnsignedLong_3 1 (some Jvm.ClassFile.FieldType.long) 1 := ⟨lw_S q577 q578 q152 q579, (by decide +kernel), (by decide)⟩
abbrev mJ23_makeLong_3 : zM := (cJ23_makeLong_3, RJ23, 8, (some Jvm.ClassFile.FieldType.long), "makeLong", [], "(BBBBBBBB)J")
def fJ23_makeLong_3_0 (x0 : Int32) (x1 : Int32) (x2 : Int32) (x3 : Int32) (x4 : Int32) (x5 : Int32) (x6 : Int32) (x7 : Int32)  (G : GS) : Option (Int64) :=
  (fJ23_toUnsignedLong_3_0 x0 G).bind fun l2 => (fJ23_pickPos_0 56 0 G).bind fun v4 => (fJ23_toUnsignedLong_3_0 x1 G).bind fun l6 => (fJ23_pickPos_0 56 8 G).bind fun v8 => (fJ23_toUnsignedLong_3_0 x2 G).bind fun l10 => (fJ23_pickPos_0 56 16 G).bind fun v12 => (fJ23_toUnsignedLong_3_0 x3 G).bind fun l14 => (fJ23_pickPos_0 56 24 G).bind fun v16 => (fJ23_toUnsignedLong_3_0 x4 G).bind fun l18 => (fJ23_pickPos_0 56 32 G).bind fun v20 => (fJ23_toUnsignedLong_3_0 x5 G).bind fun l22 => (fJ23_pickPos_0 56 40 G).bind fun v24 => (fJ23_toUnsignedLong_3_0 x6 G).bind fun l26 => (fJ23_pickPos_0 56 48 G).bind fun v28 => (fJ23_toUnsignedLong_3_0 x7 G).bind fun l30 => (fJ23_pickPos_0 56 56 G).bind fun v32 => some ((((((((l2 <<< (v4.toInt64 &&& 63)) ||| (l6 <<< (v8.toInt64 &&& 63))) ||| (l10 <<< (v12.toInt64 &&& 63))) ||| (l14 <<< (v16.toInt64 &&& 63))) ||| (l18 <<< (v20.toInt64 &&& 63))) ||| (l22 <<< (v24.toInt64 &&& 63))) ||| (l26 <<< (v28.toInt64 &&& 63))) ||| (l30 <<< (v32.toInt64 &&& 63)))
theorem wfJ23_makeLong_3_0 {F : zF} (hd : 2 ≤ F.2.2.2) (x0 : Int32) (x1 : Int32) (x2 : Int32) (x3 : Int32) (x4 : Int32) (x5 : Int32) (x6 : Int32) (x7 : Int32)  (G : GS) {a : Int64} (h : fJ23_makeLong_3_0 x0 x1 x2 x3 x4 x5 x6 x7  G = some a) (hk : zKPL F G a) : J mJ23_makeLong_3 F G 0 [(0, vI x0), (1, vI x1), (2, vI x2), (3, vI x3), (4, vI x4), (5, vI x5), (6, vI x6), (7, vI x7)] [] := by
  unfold fJ23_makeLong_3_0 at h
  refine j_iload_n (j := 0) dJ23_makeLong_3_0 rfl rfl ?_
  replace h := zbE h
  obtain ⟨l2, e1, h⟩ := h
  refine j_cont (zrS (As := [vI x0]) msJ23_781 (yJ23_toUnsignedLong_3_ok e1) (Nat.le_trans (Nat.le_of_ble_eq_true rfl) hd) rfl rfl (Nat.le_of_ble_eq_true rfl) dJ23_makeLong_3_1) ?_
  refine j_bipush (v := 56) dJ23_makeLong_3_4 (by decide) ?_
  refine j_iconst (v := 0) dJ23_makeLong_3_6 (by decide) ?_
  replace h := zbE h
  obtain ⟨v4, e3, h⟩ := h
  refine j_cont (zrS (As := [vI 56, vI 0]) msJ23_784 (yJ23_pickPos_ok e3) (Nat.le_trans (Nat.le_of_ble_eq_true rfl) hd) rfl rfl (Nat.le_of_ble_eq_true rfl) dJ23_makeLong_3_7) ?_
  refine j_lshl dJ23_makeLong_3_10 ?_
  refine j_iload_n (j := 1) dJ23_makeLong_3_11 rfl rfl ?_
  replace h := zbE h
  obtain ⟨l6, e5, h⟩ := h
  refine j_cont (zrS (As := [vI x1]) msJ23_781 (yJ23_toUnsignedLong_3_ok e5) (Nat.le_trans (Nat.le_of_ble_eq_true rfl) hd) rfl rfl (Nat.le_of_ble_eq_true rfl) dJ23_makeLong_3_12) ?_
  refine j_bipush (v := 56) dJ23_makeLong_3_15 (by decide) ?_
  refine j_bipush (v := 8) dJ23_makeLong_3_17 (by decide) ?_
  replace h := zbE h
  obtain ⟨v8, e7, h⟩ := h
  refine j_cont (zrS (As := [vI 56, vI 8]) msJ23_784 (yJ23_pickPos_ok e7) (Nat.le_trans (Nat.le_of_ble_eq_true rfl) hd) rfl rfl (Nat.le_of_ble_eq_true rfl) dJ23_makeLong_3_19) ?_
  refine j_lshl dJ23_makeLong_3_22 ?_
  refine j_lor dJ23_makeLong_3_23 ?_
  refine j_iload_n (j := 2) dJ23_makeLong_3_24 rfl rfl ?_
  replace h := zbE h
  obtain ⟨l10, e9, h⟩ := h
  refine j_cont (zrS (As := [vI x2]) msJ23_781 (yJ23_toUnsignedLong_3_ok e9) (Nat.le_trans (Nat.le_of_ble_eq_true rfl) hd) rfl rfl (Nat.le_of_ble_eq_true rfl) dJ23_makeLong_3_25) ?_
  refine j_bipush (v := 56) dJ23_makeLong_3_28 (by decide) ?_
  refine j_bipush (v := 16) dJ23_makeLong_3_30 (by decide) ?_
  replace h := zbE h
  obtain ⟨v12, e11, h⟩ := h
  refine j_cont (zrS (As := [vI 56, vI 16]) msJ23_784 (yJ23_pickPos_ok e11) (Nat.le_trans (Nat.le_of_ble_eq_true rfl) hd) rfl rfl (Nat.le_of_ble_eq_true rfl) dJ23_makeLong_3_32) ?_
  refine j_lshl dJ23_makeLong_3_35 ?_
  refine j_lor dJ23_makeLong_3_36 ?_
  refine j_iload_n (j := 3) dJ23_makeLong_3_37 rfl rfl ?_
  replace h := zbE h
  obtain ⟨l14, e13, h⟩ := h
  refine j_cont (zrS (As := [vI x3]) msJ23_781 (yJ23_toUnsignedLong_3_ok e13) (Nat.le_trans (Nat.le_of_ble_eq_true rfl) hd) rfl rfl (Nat.le_of_ble_eq_true rfl) dJ23_makeLong_3_38) ?_
  refine j_bipush (v := 56) dJ23_makeLong_3_41 (by decide) ?_
  refine j_bipush (v := 24) dJ23_makeLong_3_43 (by decide) ?_
  replace h := zbE h
  obtain ⟨v16, e15, h⟩ := h
  refine j_cont (zrS (As := [vI 56, vI 24]) msJ23_784 (yJ23_pickPos_ok e15) (Nat.le_trans (Nat.le_of_ble_eq_true rfl) hd) rfl rfl (Nat.le_of_ble_eq_true rfl) dJ23_makeLong_3_45) ?_
  refine j_lshl dJ23_makeLong_3_48 ?_
  refine j_lor dJ23_makeLong_3_49 ?_
  refine j_iload (j := 4) dJ23_makeLong_3_50 rfl ?_
  replace h := zbE h
  obtain ⟨l18, e17, h⟩ := h
  refine j_cont (zrS (As := [vI x4]) msJ23_781 (yJ23_toUnsignedLong_3_ok e17) (Nat.le_trans (Nat.le_of_ble_eq_true rfl) hd) rfl rfl (Nat.le_of_ble_eq_true rfl) dJ23_makeLong_3_52) ?_
  refine j_bipush (v := 56) dJ23_makeLong_3_55 (by decide) ?_
  refine j_bipush (v := 32) dJ23_makeLong_3_57 (by decide) ?_
  replace h := zbE h
  obtain ⟨v20, e19, h⟩ := h
  refine j_cont (zrS (As := [vI 56, vI 32]) msJ23_784 (yJ23_pickPos_ok e19) (Nat.le_trans (Nat.le_of_ble_eq_true rfl) hd) rfl rfl (Nat.le_of_ble_eq_true rfl) dJ23_makeLong_3_59) ?_
  refine j_lshl dJ23_makeLong_3_62 ?_
  refine j_lor dJ23_makeLong_3_63 ?_
  refine j_iload (j := 5) dJ23_makeLong_3_64 rfl ?_
  replace h := zbE h
  obtain ⟨l22, e21, h⟩ := h
  refine j_cont (zrS (As := [vI x5]) msJ23_781 (yJ23_toUnsignedLong_3_ok e21) (Nat.le_trans (Nat.le_of_ble_eq_true rfl) hd) rfl rfl (Nat.le_of_ble_eq_true rfl) dJ23_makeLong_3_66) ?_
  refine j_bipush (v := 56) dJ23_makeLong_3_69 (by decide) ?_
  refine j_bipush (v := 40) dJ23_makeLong_3_71 (by decide) ?_
  replace h := zbE h
  obtain ⟨v24, e23, h⟩ := h
  refine j_cont (zrS (As := [vI 56, vI 40]) msJ23_784 (yJ23_pickPos_ok e23) (Nat.le_trans (Nat.le_of_ble_eq_true rfl) hd) rfl rfl (Nat.le_of_ble_eq_true rfl) dJ23_makeLong_3_73) ?_
  refine j_lshl dJ23_makeLong_3_76 ?_
  refine j_lor dJ23_makeLong_3_77 ?_
  refine j_iload (j := 6) dJ23_makeLong_3_78 rfl ?_
  replace h := zbE h
  obtain ⟨l26, e25, h⟩ := h
  refine j_cont (zrS (As := [vI x6]) msJ23_781 (yJ23_toUnsignedLong_3_ok e25) (Nat.le_trans (Nat.le_of_ble_eq_true rfl) hd) rfl rfl (Nat.le_of_ble_eq_true rfl) dJ23_makeLong_3_80) ?_
  refine j_bipush (v := 56) dJ23_makeLong_3_83 (by decide) ?_
  refine j_bipush (v := 48) dJ23_makeLong_3_85 (by decide) ?_
  replace h := zbE h
  obtain ⟨v28, e27, h⟩ := h
  refine j_cont (zrS (As := [vI 56, vI 48]) msJ23_784 (yJ23_pickPos_ok e27) (Nat.le_trans (Nat.le_of_ble_eq_true rfl) hd) rfl rfl (Nat.le_of_ble_eq_true rfl) dJ23_makeLong_3_87) ?_
  refine j_lshl dJ23_makeLong_3_90 ?_
  refine j_lor dJ23_makeLong_3_91 ?_
  refine j_iload (j := 7) dJ23_makeLong_3_92 rfl ?_
  replace h := zbE h
  obtain ⟨l30, e29, h⟩ := h
  refine j_cont (zrS (As := [vI x7]) msJ23_781 (yJ23_toUnsignedLong_3_ok e29) (Nat.le_trans (Nat.le_of_ble_eq_true rfl) hd) rfl rfl (Nat.le_of_ble_eq_true rfl) dJ23_makeLong_3_94) ?_
  refine j_bipush (v := 56) dJ23_makeLong_3_97 (by decide) ?_
  refine j_bipush (v := 56) dJ23_makeLong_3_99 (by decide) ?_
  replace h := zbE h
  obtain ⟨v32, e31, h⟩ := h
  refine j_cont (zrS (As := [vI 56, vI 56]) msJ23_784 (yJ23_pickPos_ok e31) (Nat.le_trans (Nat.le_of_ble_eq_true rfl) hd) rfl rfl (Nat.le_of_ble_eq_true rfl) dJ23_makeLong_3_101) ?_
  refine j_lshl dJ23_makeLong_3_104 ?_
  refine j_lor dJ23_makeLong_3_105 ?_
  obtain rfl := Option.some.inj h
  exact j_lret hk.1 hk.2 rfl dJ23_makeLong_3_106
theorem yJ23_makeLong_3_ok {x0 : Int32} {x1 : Int32} {x2 : Int32} {x3 : Int32} {x4 : Int32} {x5 : Int32} {x6 : Int32} {x7 : Int32} {G : GS} {r : Int64} (h : fJ23_makeLong_3_0 x0 x1 x2 x3 x4 x5 x6 x7 G = some r) : zRuns yJ23_makeLong_3 (ws_ yJ23_makeLong_3 cJ23_makeLong_3 8 (some Jvm.ClassFile.FieldType.long)) [vI x0, vI x1, vI x2, vI x3, vI x4, vI x5, vI x6, vI x7] (.inl (some (vL r)), G, G, 2) :=
  zentry (M := mJ23_makeLong_3) (by decide +kernel) ⟨rfl, rfl, rfl, rfl⟩ (Nat.le_of_ble_eq_true rfl) (wfJ23_makeLong_3_0 (Nat.le_refl _) x0 x1 x2 x3 x4 x5 x6 x7 G h ⟨rfl, rfl⟩)
abbrev mJ23_getLongUnaligned : zM := (cJ23_getLongUnaligned, RJ23, 4, (some Jvm.ClassFile.FieldType.long), "getLongUnaligned", [], "(Ljava/lang/Object;J)J")
def fJ23_getLongUnaligned_0 (t : Nat) (x1 : Option Nat) (x2 : Int64)  (G : GS) : Option (Int64) :=
  if (lg_cmp (x2 &&& 7) (0 : Int64)) = 0 then (x1.bind fun a2 => zk [65] G t <| (zg8 G a2 x2).bind fun l6 => some l6) else (if (lg_cmp (x2 &&& 3) (0 : Int64)) = 0 then none else (if (lg_cmp (x2 &&& 1) (0 : Int64)) = 0 then none else none))
theorem wfJ23_getLongUnaligned_0 {F : zF} (hd : 3 ≤ F.2.2.2) (t : Nat) (x1 : Option Nat) (x2 : Int64)  (G : GS) {a : Int64} (h : fJ23_getLongUnaligned_0 t x1 x2  G = some a) (hk : zKPL F G a) : J mJ23_getLongUnaligned F G 0 [(0, vR (some t)), (1, vR x1), (2, vL x2)] [] := by
  unfold fJ23_getLongUnaligned_0 at h
  refine j_lload_n (j := 2) dJ23_getLongUnaligned_0 rfl rfl ?_
  refine j_ldc2 (v := 7) q533 dJ23_getLongUnaligned_1 ?_
  refine j_land dJ23_getLongUnaligned_4 ?_
  refine j_lconst (v := 0) dJ23_getLongUnaligned_5 rfl ?_
  refine j_lcmp dJ23_getLongUnaligned_6 ?_
  refine j_if_ne (tgt := 17) dJ23_getLongUnaligned_7 (by decide) (fun c1 => ?_) (fun c1 => ?_)
  · rw [if_pos c1] at h
    refine j_aload_n (j := 0) dJ23_getLongUnaligned_10 rfl rfl ?_
    refine j_aload_n (j := 1) dJ23_getLongUnaligned_11 rfl rfl ?_
    refine j_lload_n (j := 2) dJ23_getLongUnaligned_12 rfl rfl ?_
    replace h := zbE h
    obtain ⟨a2, e3, h⟩ := h
    subst e3
    replace h := zkE h
    obtain ⟨e4, h⟩ := h
    replace h := zbE h
    obtain ⟨l6, e5, h⟩ := h
    refine j_get8 e5 (zKc_one e4) q534 (Nat.le_trans (Nat.le_of_ble_eq_true rfl) hd) (Nat.le_of_ble_eq_true rfl) dJ23_getLongUnaligned_13 ?_
    obtain rfl := Option.some.inj h
    exact j_lret hk.1 hk.2 rfl dJ23_getLongUnaligned_16
  · rw [if_neg c1] at h
    refine j_lload_n (j := 2) dJ23_getLongUnaligned_17 rfl rfl ?_
    refine j_ldc2 (v := 3) q538 dJ23_getLongUnaligned_18 ?_
    refine j_land dJ23_getLongUnaligned_21 ?_
    refine j_lconst (v := 0) dJ23_getLongUnaligned_22 rfl ?_
    refine j_lcmp dJ23_getLongUnaligned_23 ?_
    refine j_if_ne (tgt := 47) dJ23_getLongUnaligned_24 (by decide) (fun c7 => ?_) (fun c7 => ?_)
    · rw [if_pos c7] at h
      refine j_aload_n (j := 0) dJ23_getLongUnaligned_27 rfl rfl ?_
      refine j_aload_n (j := 1) dJ23_getLongUnaligned_28 rfl rfl ?_
      refine j_lload_n (j := 2) dJ23_getLongUnaligned_29 rfl rfl ?_
      cases h
    · rw [if_neg c7] at h
      refine j_lload_n (j := 2) dJ23_getLongUnaligned_47 rfl rfl ?_
      refine j_lconst (v := 1) dJ23_getLongUnaligned_48 rfl ?_
      refine j_land dJ23_getLongUnaligned_49 ?_
      refine j_lconst (v := 0) dJ23_getLongUnaligned_50 rfl ?_
      refine j_lcmp dJ23_getLongUnaligned_51 ?_
      refine j_if_ne (tgt := 95) dJ23_getLongUnaligned_52 (by decide) (fun c8 => ?_) (fun c8 => ?_)
      · rw [if_pos c8] at h
        refine j_aload_n (j := 0) dJ23_getLongUnaligned_55 rfl rfl ?_
        refine j_aload_n (j := 1) dJ23_getLongUnaligned_56 rfl rfl ?_
        refine j_lload_n (j := 2) dJ23_getLongUnaligned_57 rfl rfl ?_
        cases h
      · rw [if_neg c8] at h
        refine j_aload_n (j := 0) dJ23_getLongUnaligned_95 rfl rfl ?_
        refine j_aload_n (j := 1) dJ23_getLongUnaligned_96 rfl rfl ?_
        refine j_lload_n (j := 2) dJ23_getLongUnaligned_97 rfl rfl ?_
        cases h
theorem yJ23_getLongUnaligned_ok {t : Nat} {x1 : Option Nat} {x2 : Int64} {G : GS} {r : Int64} (h : fJ23_getLongUnaligned_0 t x1 x2 G = some r) : zRuns yJ23_getLongUnaligned (ws_ yJ23_getLongUnaligned cJ23_getLongUnaligned 4 (some Jvm.ClassFile.FieldType.long)) [vR (some t), vR x1, vL x2] (.inl (some (vL r)), G, G, 3) :=
  zentry (M := mJ23_getLongUnaligned) (by decide +kernel) ⟨rfl, rfl, rfl, rfl⟩ (Nat.le_of_ble_eq_true rfl) (wfJ23_getLongUnaligned_0 (Nat.le_refl _) t x1 x2 G h ⟨rfl, rfl⟩)
abbrev mJ26_numberOfLeadingZeros : zM := (cJ26_numberOfLeadingZeros, RJ26, 2, (some Jvm.ClassFile.FieldType.int), "numberOfLeadingZeros", [], "(I)I")
def fJ26_numberOfLeadingZeros_73 (x0 : Int32) (x1 : Int32)  (G : GS) : Option (Int32) :=
  some (x1 - (x0.toUInt32 >>> ((1 : Int32).toUInt32 &&& Int32.toUInt32 31)).toInt32)
theorem wfJ26_numberOfLeadingZeros_73 {F : zF} (hd : 1 ≤ F.2.2.2) (x0 : Int32) (x1 : Int32)  (G : GS) {a : Int32} (h : fJ26_numberOfLeadingZeros_73 x0 x1  G = some a) (hk : zKPI F G a) : J mJ26_numberOfLeadingZeros F G 73 [(0, vI x0), (1, vI x1)] [] := by
  unfold fJ26_numberOfLeadingZeros_73 at h
  refine j_iload_n (j := 1) dJ26_numberOfLeadingZeros_73 rfl rfl ?_
  refine j_iload_n (j := 0) dJ26_numberOfLeadingZeros_74 rfl rfl ?_
  refine j_iconst (v := 1) dJ26_numberOfLeadingZeros_75 (by decide) ?_
  refine j_iushr dJ26_numberOfLeadingZeros_76 ?_
  refine j_isub dJ26_numberOfLeadingZeros_77 ?_
  obtain rfl := Option.some.inj h
  exact j_iret hk.1 hk.2 rfl dJ26_numberOfLeadingZeros_78
def fJ26_numberOfLeadingZeros_61 (x0 : Int32) (x1 : Int32)  (G : GS) : Option (Int32) :=
  if x0 < 4 then (fJ26_numberOfLeadingZeros_73 x0 x1 G) else (fJ26_numberOfLeadingZeros_73 ((x0.toUInt32 >>> ((2 : Int32).toUInt32 &&& Int32.toUInt32 31)).toInt32) (x1 + (-2)) G)
theorem wfJ26_numberOfLeadingZeros_61 {F : zF} (hd : 1 ≤ F.2.2.2) (x0 : Int32) (x1 : Int32)  (G : GS) {a : Int32} (h : fJ26_numberOfLeadingZeros_61 x0 x1  G = some a) (hk : zKPI F G a) : J mJ26_numberOfLeadingZeros F G 61 [(0, vI x0), (1, vI x1)] [] := by
  unfold fJ26_numberOfLeadingZeros_61 at h
  refine j_iload_n (j := 0) dJ26_numberOfLeadingZeros_61 rfl rfl ?_
  refine j_iconst (v := 4) dJ26_numberOfLeadingZeros_62 (by decide) ?_
  refine j_icmp_lt (tgt := 73) dJ26_numberOfLeadingZeros_63 (by decide) (fun c1 => ?_) (fun c1 => ?_)
  · rw [if_pos c1] at h
    exact J.sub (zall [0, 1] rfl) (wfJ26_numberOfLeadingZeros_73 hd x0 x1  G h hk)
  · rw [if_neg c1] at h
    refine j_iinc (j := 1) (v := (x1 + (-2))) (lv' := [(1, vI (x1 + (-2))), (0, vI x0)]) dJ26_numberOfLeadingZeros_66 rfl rfl (Nat.le_of_ble_eq_true rfl) rfl ?_
    refine j_iload_n (j := 1) dJ26_numberOfLeadingZeros_69 rfl rfl ?_
    refine j_iconst (v := 2) dJ26_numberOfLeadingZeros_70 (by decide) ?_
    refine j_iushr dJ26_numberOfLeadingZeros_71 ?_
    refine j_istore_n (lv' := [(0, vI ((x0.toUInt32 >>> ((2 : Int32).toUInt32 &&& Int32.toUInt32 31)).toInt32)), (1, vI (x1 + (-2)))]) dJ26_numberOfLeadingZeros_72 rfl (Nat.le_of_ble_eq_true rfl) rfl ?_
    exact J.sub (zall [0, 1] rfl) (wfJ26_numberOfLeadingZeros_73 hd ((x0.toUInt32 >>> ((2 : Int32).toUInt32 &&& Int32.toUInt32 31)).toInt32) (x1 + (-2))  G h hk)
def fJ26_numberOfLeadingZeros_48 (x0 : Int32) (x1 : Int32)  (G : GS) : Option (Int32) :=
  if x0 < 16 then (fJ26_numberOfLeadingZeros_61 x0 x1 G) else (fJ26_numberOfLeadingZeros_61 ((x0.toUInt32 >>> ((4 : Int32).toUInt32 &&& Int32.toUInt32 31)).toInt32) (x1 + (-4)) G)
theorem wfJ26_numberOfLeadingZeros_48 {F : zF} (hd : 1 ≤ F.2.2.2) (x0 : Int32) (x1 : Int32)  (G : GS) {a : Int32} (h : fJ26_numberOfLeadingZeros_48 x0 x1  G = some a) (hk : zKPI F G a) : J mJ26_numberOfLeadingZeros F G 48 [(0, vI x0), (1, vI x1)] [] := by
  unfold fJ26_numberOfLeadingZeros_48 at h
  refine j_iload_n (j := 0) dJ26_numberOfLeadingZeros_48 rfl rfl ?_
  refine j_bipush (v := 16) dJ26_numberOfLeadingZeros_49 (by decide) ?_
  refine j_icmp_lt (tgt := 61) dJ26_numberOfLeadingZeros_51 (by decide) (fun c1 => ?_) (fun c1 => ?_)
  · rw [if_pos c1] at h
    exact J.sub (zall [0, 1] rfl) (wfJ26_numberOfLeadingZeros_61 hd x0 x1  G h hk)
  · rw [if_neg c1] at h
    refine j_iinc (j := 1) (v := (x1 + (-4))) (lv' := [(1, vI (x1 + (-4))), (0, vI x0)]) dJ26_numberOfLeadingZeros_54 rfl rfl (Nat.le_of_ble_eq_true rfl) rfl ?_
    refine j_iload_n (j := 1) dJ26_numberOfLeadingZeros_57 rfl rfl ?_
    refine j_iconst (v := 4) dJ26_numberOfLeadingZeros_58 (by decide) ?_
    refine j_iushr dJ26_numberOfLeadingZeros_59 ?_
    refine j_istore_n (lv' := [(0, vI ((x0.toUInt32 >>> ((4 : Int32).toUInt32 &&& Int32.toUInt32 31)).toInt32)), (1, vI (x1 + (-4)))]) dJ26_numberOfLeadingZeros_60 rfl (Nat.le_of_ble_eq_true rfl) rfl ?_
    exact J.sub (zall [0, 1] rfl) (wfJ26_numberOfLeadingZeros_61 hd ((x0.toUInt32 >>> ((4 : Int32).toUInt32 &&& Int32.toUInt32 31)).toInt32) (x1 + (-4))  G h hk)
def fJ26_numberOfLeadingZeros_33 (x0 : Int32) (x1 : Int32)  (G : GS) : Option (Int32) :=
  if x0 < 256 then (fJ26_numberOfLeadingZeros_48 x0 x1 G) else (fJ26_numberOfLeadingZeros_48 ((x0.toUInt32 >>> ((8 : Int32).toUInt32 &&& Int32.toUInt32 31)).toInt32) (x1 + (-8)) G)
theorem wfJ26_numberOfLeadingZeros_33 {F : zF} (hd : 1 ≤ F.2.2.2) (x0 : Int32) (x1 : Int32)  (G : GS) {a : Int32} (h : fJ26_numberOfLeadingZeros_33 x0 x1  G = some a) (hk : zKPI F G a) : J mJ26_numberOfLeadingZeros F G 33 [(0, vI x0), (1, vI x1)] [] := by
  unfold fJ26_numberOfLeadingZeros_33 at h
  refine j_iload_n (j := 0) dJ26_numberOfLeadingZeros_33 rfl rfl ?_
  refine j_sipush (v := 256) dJ26_numberOfLeadingZeros_34 (by decide) ?_
  refine j_icmp_lt (tgt := 48) dJ26_numberOfLeadingZeros_37 (by decide) (fun c1 => ?_) (fun c1 => ?_)
  · rw [if_pos c1] at h
    exact J.sub (zall [0, 1] rfl) (wfJ26_numberOfLeadingZeros_48 hd x0 x1  G h hk)
  · rw [if_neg c1] at h
    refine j_iinc (j := 1) (v := (x1 + (-8))) (lv' := [(1, vI (x1 + (-8))), (0, vI x0)]) dJ26_numberOfLeadingZeros_40 rfl rfl (Nat.le_of_ble_eq_true rfl) rfl ?_
    refine j_iload_n (j := 1) dJ26_numberOfLeadingZeros_43 rfl rfl ?_
    refine j_bipush (v := 8) dJ26_numberOfLeadingZeros_44 (by decide) ?_
    refine j_iushr dJ26_numberOfLeadingZeros_46 ?_
    refine j_istore_n (lv' := [(0, vI ((x0.toUInt32 >>> ((8 : Int32).toUInt32 &&& Int32.toUInt32 31)).toInt32)), (1, vI (x1 + (-8)))]) dJ26_numberOfLeadingZeros_47 rfl (Nat.le_of_ble_eq_true rfl) rfl ?_
    exact J.sub (zall [0, 1] rfl) (wfJ26_numberOfLeadingZeros_48 hd ((x0.toUInt32 >>> ((8 : Int32).toUInt32 &&& Int32.toUInt32 31)).toInt32) (x1 + (-8))  G h hk)
def fJ26_numberOfLeadingZeros_0 (x0 : Int32)  (G : GS) : Option (Int32) :=
  if 0 < x0 then (if x0 < 65536 then (fJ26_numberOfLeadingZeros_33 x0 31 G) else (fJ26_numberOfLeadingZeros_33 ((x0.toUInt32 >>> ((16 : Int32).toUInt32 &&& Int32.toUInt32 31)).toInt32) (31 + (-16)) G)) else (if x0 = 0 then (some 32) else (some 0))
theorem wfJ26_numberOfLeadingZeros_0 {F : zF} (hd : 1 ≤ F.2.2.2) (x0 : Int32)  (G : GS) {a : Int32} (h : fJ26_numberOfLeadingZeros_0 x0  G = some a) (hk : zKPI F G a) : J mJ26_numberOfLeadingZeros F G 0 [(0, vI x0)] [] := by
  unfold fJ26_numberOfLeadingZeros_0 at h
  refine j_iload_n (j := 0) dJ26_numberOfLeadingZeros_0 rfl rfl ?_
  refine j_if_gt (tgt := 15) dJ26_numberOfLeadingZeros_1 (by decide) (fun c1 => ?_) (fun c1 => ?_)
  · rw [if_pos c1] at h
    refine j_bipush (v := 31) dJ26_numberOfLeadingZeros_15 (by decide) ?_
    refine j_istore_n (lv' := [(1, vI 31), (0, vI x0)]) dJ26_numberOfLeadingZeros_17 rfl (Nat.le_of_ble_eq_true rfl) rfl ?_
    refine j_iload_n (j := 1) dJ26_numberOfLeadingZeros_18 rfl rfl ?_
    refine j_ldcw (v := 65536) q589 dJ26_numberOfLeadingZeros_19 ?_
    refine j_icmp_lt (tgt := 33) dJ26_numberOfLeadingZeros_22 (by decide) (fun c2 => ?_) (fun c2 => ?_)
    · rw [if_pos c2] at h
      exact J.sub (zall [1, 0] rfl) (wfJ26_numberOfLeadingZeros_33 hd x0 31  G h hk)
    · rw [if_neg c2] at h
      refine j_iinc (j := 0) (v := (31 + (-16))) (lv' := [(1, vI (31 + (-16))), (0, vI x0)]) dJ26_numberOfLeadingZeros_25 rfl rfl (Nat.le_of_ble_eq_true rfl) rfl ?_
      refine j_iload_n (j := 1) dJ26_numberOfLeadingZeros_28 rfl rfl ?_
      refine j_bipush (v := 16) dJ26_numberOfLeadingZeros_29 (by decide) ?_
      refine j_iushr dJ26_numberOfLeadingZeros_31 ?_
      refine j_istore_n (lv' := [(0, vI ((x0.toUInt32 >>> ((16 : Int32).toUInt32 &&& Int32.toUInt32 31)).toInt32)), (1, vI (31 + (-16)))]) dJ26_numberOfLeadingZeros_32 rfl (Nat.le_of_ble_eq_true rfl) rfl ?_
      exact J.sub (zall [0, 1] rfl) (wfJ26_numberOfLeadingZeros_33 hd ((x0.toUInt32 >>> ((16 : Int32).toUInt32 &&& Int32.toUInt32 31)).toInt32) (31 + (-16))  G h hk)
  · rw [if_neg c1] at h
    refine j_iload_n (j := 0) dJ26_numberOfLeadingZeros_4 rfl rfl ?_
    refine j_if_ne (tgt := 13) dJ26_numberOfLeadingZeros_5 (by decide) (fun c3 => ?_) (fun c3 => ?_)
    · rw [if_pos c3] at h
      refine j_bipush (v := 32) dJ26_numberOfLeadingZeros_8 (by decide) ?_
      refine j_goto (tgt := 14) dJ26_numberOfLeadingZeros_10 (by decide) ?_
      obtain rfl := Option.some.inj h
      exact j_iret hk.1 hk.2 rfl dJ26_numberOfLeadingZeros_14
    · rw [if_neg c3] at h
      refine j_iconst (v := 0) dJ26_numberOfLeadingZeros_13 (by decide) ?_
      obtain rfl := Option.some.inj h
      exact j_iret hk.1 hk.2 rfl dJ26_numberOfLeadingZeros_14
theorem yJ26_numberOfLeadingZeros_ok {x0 : Int32} {G : GS} {r : Int32} (h : fJ26_numberOfLeadingZeros_0 x0 G = some r) : zRuns yJ26_numberOfLeadingZeros (ws_ yJ26_numberOfLeadingZeros cJ26_numberOfLeadingZeros 2 (some Jvm.ClassFile.FieldType.int)) [vI x0] (.inl (some (vI r)), G, G, 1) :=
  zentry (M := mJ26_numberOfLeadingZeros) (plainFor_of_name (by decide +kernel)) ⟨rfl, rfl, rfl, rfl⟩ (Nat.le_of_ble_eq_true rfl) (wfJ26_numberOfLeadingZeros_0 (Nat.le_refl _) x0 G h ⟨rfl, rfl⟩)
end
