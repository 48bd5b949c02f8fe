/-! printed: functions and walks -/
set_option maxRecDepth 100000
noncomputable section
theorem msJ26_199 : zSI RJ26 199 yJ26_init cJ26_init 2 1 := ⟨q1044, q156, q1042, q1043, rfl, (by decide +kernel), (by decide)⟩
abbrev mJ26_valueOf : zM := (cJ26_valueOf, RJ26, 1, (some (Jvm.ClassFile.FieldType.object "java/lang/Integer")), "valueOf", [], "(I)Ljava/lang/Integer;")
def fJ26_valueOf_23 (x0 : Int32)  (G : GS) : Option ((Option Nat) × GS) :=
  zl (al G 21 0 1) fun G1 => (fJ26_init_0 (gz G) x0 G1).bind fun G4 => some ((some (gz G)), G4)
theorem wfJ26_valueOf_23 {F : zF} (hd : 4 ≤ F.2.2.2) (x0 : Int32)  (G : GS) {a : (Option Nat) × GS} (h : fJ26_valueOf_23 x0  G = some a) (hk : zKR F a) : J mJ26_valueOf F G 23 [(0, vI x0)] [] := by
  unfold fJ26_valueOf_23 at h
  replace h := zlE h
  obtain ⟨G1, e2, h⟩ := h
  refine j_new (c := 20) (n := 1) (r := (RJ26, TJ26, 1, tyJ26)) rfl rfl in_J26 tyJ26_ok nwJ26 q856 q1041 q156 dJ26_valueOf_23 ?_
  rw [show al G (20 + 1) 0 1 = G1 from e2.symm]
  refine j_dup dJ26_valueOf_26 rfl ?_
  refine j_iload_n (j := 0) dJ26_valueOf_27 rfl rfl ?_
  replace h := zbE h
  obtain ⟨G4, e3, h⟩ := h
  refine j_cont (zrI (As := [vI x0]) msJ26_199 (yJ26_init_ok e3) (Nat.le_trans (Nat.le_of_ble_eq_true rfl) hd) rfl rfl (Nat.le_of_ble_eq_true rfl) dJ26_valueOf_28) ?_
  obtain rfl := Option.some.inj h
  exact j_aret hk.1 hk.2 rfl (Or.inl ⟨_, rfl⟩) dJ26_valueOf_31
def fJ26_valueOf_0 (x0 : Int32)  (G : GS) : Option ((Option Nat) × GS) :=
  if x0 < (-128) then (fJ26_valueOf_23 x0 G) else (if 127 < x0 then (fJ26_valueOf_23 x0 G) else ((zaR G 63 (gS G 2) (x0 + 128)).bind fun r3 => some (r3, G)))
theorem wfJ26_valueOf_0 {F : zF} (hd : 4 ≤ F.2.2.2) (x0 : Int32)  (G : GS) {a : (Option Nat) × GS} (h : fJ26_valueOf_0 x0  G = some a) (hk : zKR F a) : J mJ26_valueOf F G 0 [(0, vI x0)] [] := by
  unfold fJ26_valueOf_0 at h
  refine j_iload_n (j := 0) dJ26_valueOf_0 rfl rfl ?_
  refine j_bipush (v := (-128)) dJ26_valueOf_1 (by decide) ?_
  refine j_icmp_lt (tgt := 23) dJ26_valueOf_3 (by decide) (fun c1 => ?_) (fun c1 => ?_)
  · rw [if_pos c1] at h
    exact J.sub (zall [0] rfl) (wfJ26_valueOf_23 hd x0  G h hk)
  · rw [if_neg c1] at h
    refine j_iload_n (j := 0) dJ26_valueOf_6 rfl rfl ?_
    refine j_gets (i := 5) (x := vI 127) rfl rfl q1037 dJ26_valueOf_7 ?_
    refine j_icmp_gt (tgt := 23) dJ26_valueOf_10 (by decide) (fun c2 => ?_) (fun c2 => ?_)
    · rw [if_pos c2] at h
      exact J.sub (zall [0] rfl) (wfJ26_valueOf_23 hd x0  G h hk)
    · rw [if_neg c2] at h
      refine j_gets (i := 2) (x := vR (some (gS G 2))) rfl rfl q1039 dJ26_valueOf_13 ?_
      refine j_iload_n (j := 0) dJ26_valueOf_16 rfl rfl ?_
      refine j_sipush (v := 128) dJ26_valueOf_17 (by decide) ?_
      refine j_iadd dJ26_valueOf_20 ?_
      replace h := zbE h
      obtain ⟨r3, e4, h⟩ := h
      refine j_aald (Or.inr (Or.inr (Or.inr rfl))) e4 dJ26_valueOf_21 ?_
      obtain rfl := Option.some.inj h
      exact j_aret hk.1 hk.2 rfl (Or.inl ⟨_, rfl⟩) dJ26_valueOf_22
theorem yJ26_valueOf_ok {x0 : Int32} {G : GS} {r : Option Nat} {G1 : GS} (h : fJ26_valueOf_0 x0 G = some (r, G1)) : zRuns yJ26_valueOf (ws_ yJ26_valueOf cJ26_valueOf 1 (some (Jvm.ClassFile.FieldType.object "java/lang/Integer"))) [vI x0] (.inl (some (vR r)), G, G1, 4) :=
  zentry (M := mJ26_valueOf) (plainFor_of_name (by decide +kernel)) ⟨rfl, rfl, rfl, rfl⟩ (Nat.le_of_ble_eq_true rfl) (wfJ26_valueOf_0 (Nat.le_refl _) x0 G h ⟨rfl, rfl⟩)
theorem msJ26_259 : zSS RJ26 259 yJ26_compare cJ26_compare 2 (some Jvm.ClassFile.FieldType.int) 2 := ⟨lw_S q861 q848 q156 q849, (by decide +kernel), (by decide)⟩
abbrev mJ26_compareTo_2 : zM := (cJ26_compareTo_2, RJ26, 2, (some Jvm.ClassFile.FieldType.int), "compareTo", [], "(Ljava/lang/Integer;)I")
def fJ26_compareTo_2_0 (t : Nat) (x1 : Option Nat)  (G : GS) : Option (Int32) :=
  (zgV G t).bind fun v1 => x1.bind fun a3 => (zgV G a3).bind fun v5 => (fJ26_compare_0 v1 v5 G).bind fun v8 => some v8
theorem wfJ26_compareTo_2_0 {F : zF} (hd : 2 ≤ F.2.2.2) (t : Nat) (x1 : Option Nat)  (G : GS) {a : Int32} (h : fJ26_compareTo_2_0 t x1  G = some a) (hk : zKPI F G a) : J mJ26_compareTo_2 F G 0 [(0, vR (some t)), (1, vR x1)] [] := by
  unfold fJ26_compareTo_2_0 at h
  refine j_aload_n (j := 0) dJ26_compareTo_2_0 rfl rfl ?_
  replace h := zbE h
  obtain ⟨v1, e2, h⟩ := h
  refine j_getV fgJ26_205 dJ26_compareTo_2_1 e2 ?_
  refine j_aload_n (j := 1) dJ26_compareTo_2_4 rfl rfl ?_
  replace h := zbE h
  obtain ⟨a3, e4, h⟩ := h
  subst e4
  replace h := zbE h
  obtain ⟨v5, e6, h⟩ := h
  refine j_getV fgJ26_205 dJ26_compareTo_2_5 e6 ?_
  replace h := zbE h
  obtain ⟨v8, e7, h⟩ := h
  refine j_cont (zrS (As := [vI v1, vI v5]) msJ26_259 (yJ26_compare_ok e7) (Nat.le_trans (Nat.le_of_ble_eq_true rfl) hd) rfl rfl (Nat.le_of_ble_eq_true rfl) dJ26_compareTo_2_8) ?_
  obtain rfl := Option.some.inj h
  exact j_iret hk.1 hk.2 rfl dJ26_compareTo_2_11
theorem yJ26_compareTo_2_ok {t : Nat} {x1 : Option Nat} {G : GS} {r : Int32} (h : fJ26_compareTo_2_0 t x1 G = some r) : zRuns yJ26_compareTo_2 (ws_ yJ26_compareTo_2 cJ26_compareTo_2 2 (some Jvm.ClassFile.FieldType.int)) [vR (some t), vR x1] (.inl (some (vI r)), G, G, 2) :=
  zentry (M := mJ26_compareTo_2) (plainFor_of_name (by decide +kernel)) ⟨rfl, rfl, rfl, rfl⟩ (Nat.le_of_ble_eq_true rfl) (wfJ26_compareTo_2_0 (Nat.le_refl _) t x1 G h ⟨rfl, rfl⟩)
theorem msJ26_284 : zSV RJ26 284 RJ26 yJ26_compareTo_2 cJ26_compareTo_2 2 (some Jvm.ClassFile.FieldType.int) 1 := ⟨lw_V q857 q858 q859 q156 q860, (by decide +kernel), (by decide)⟩
abbrev mJ26_compareTo : zM := (cJ26_compareTo, RJ26, 2, (some Jvm.ClassFile.FieldType.int), "compareTo", [], "(Ljava/lang/Object;)I")
def fJ26_compareTo_0 (t : Nat) (x1 : Option Nat)  (G : GS) : Option (Int32) :=
  zkq [21, 61] G x1 (zk [21, 61] G t <| (fJ26_compareTo_2_0 t x1 G).bind fun v4 => some v4)
theorem wfJ26_compareTo_0 {F : zF} (hd : 3 ≤ F.2.2.2) (t : Nat) (x1 : Option Nat)  (G : GS) {a : Int32} (h : fJ26_compareTo_0 t x1  G = some a) (hk : zKPI F G a) : J mJ26_compareTo F G 0 [(0, vR (some t)), (1, vR x1)] [] := by
  unfold fJ26_compareTo_0 at h
  refine j_aload_n (j := 0) dJ26_compareTo_0 rfl rfl ?_
  refine j_aload_n (j := 1) dJ26_compareTo_1 rfl rfl ?_
  replace h := zkqE h
  obtain ⟨e1, h⟩ := h
  refine j_castq (fun k => j_castN dJ26_compareTo_2 k) (fun b q5 k => j_castS (zk_21_61 _ (e1 b q5)) ⟨20, _, rfl, rfl⟩ q856 dJ26_compareTo_2 k) ?_
  replace h := zkE h
  obtain ⟨e2, h⟩ := h
  replace h := zbE h
  obtain ⟨v4, e3, h⟩ := h
  refine j_cont (zrV (As := [vR x1]) msJ26_284 (yJ26_compareTo_2_ok e3) (Nat.le_trans (Nat.le_of_ble_eq_true rfl) hd) (zk_21_61 _ e2) rfl rfl (Nat.le_of_ble_eq_true rfl) dJ26_compareTo_5) ?_
  obtain rfl := Option.some.inj h
  exact j_iret hk.1 hk.2 rfl dJ26_compareTo_8
theorem yJ26_compareTo_ok {t : Nat} {x1 : Option Nat} {G : GS} {r : Int32} (h : fJ26_compareTo_0 t x1 G = some r) : zRuns yJ26_compareTo (ws_ yJ26_compareTo cJ26_compareTo 2 (some Jvm.ClassFile.FieldType.int)) [vR (some t), vR x1] (.inl (some (vI r)), G, G, 3) :=
  zentry (M := mJ26_compareTo) (plainFor_of_name (by decide +kernel)) ⟨rfl, rfl, rfl, rfl⟩ (Nat.le_of_ble_eq_true rfl) (wfJ26_compareTo_0 (Nat.le_refl _) t x1 G h ⟨rfl, rfl⟩)
theorem fgJ22_16 : zFG RJ22 16 15 2 (.object "java/util/Comparator") := ⟨(RJ22, TJ22, 9, tyJ22), rfl, by decide, in_J22, rfl, "java/util/TreeMap", Or.inl rfl, Or.inl q429⟩
theorem msJ22_107_J26 : zSF RJ22 107 RJ26 ⟨"java/lang/Comparable", "compareTo", "(Ljava/lang/Object;)I"⟩ yJ26_compareTo cJ26_compareTo 2 (some Jvm.ClassFile.FieldType.int) 1 := ⟨lw_F q1077 q851 q853 q156 q855, zfw 1 rfl, ⟨20, _, rfl, rfl⟩, (by decide +kernel), (by decide)⟩
abbrev mJ22_compare : zM := (cJ22_compare, RJ22, 3, (some Jvm.ClassFile.FieldType.int), "compare", [], "(Ljava/lang/Object;Ljava/lang/Object;)I")
def fJ22_compare_0 (t : Nat) (x1 : Option Nat) (x2 : Option Nat)  (G : GS) : Option (Int32) :=
  (zgR G 16 t 2).bind fun r1 => zopt r1 (zkq [21, 61] G x1 (x1.bind fun a5 => zk [21, 61] G a5 <| (fJ26_compareTo_0 a5 x2 G).bind fun v9 => some v9)) (fun a3 => (zgR G 16 t 2).bind fun r11 => none)
theorem wfJ22_compare_0 {F : zF} (hd : 4 ≤ F.2.2.2) (t : Nat) (x1 : Option Nat) (x2 : Option Nat)  (G : GS) {a : Int32} (h : fJ22_compare_0 t x1 x2  G = some a) (hk : zKPI F G a) : J mJ22_compare F G 0 [(0, vR (some t)), (1, vR x1), (2, vR x2)] [] := by
  unfold fJ22_compare_0 at h
  refine j_aload_n (j := 0) dJ22_compare_0 rfl rfl ?_
  replace h := zbE h
  obtain ⟨r1, e2, h⟩ := h
  refine j_getR fgJ22_16 (fun _ _ _ => rfl) dJ22_compare_1 e2 ?_
  rcases r1 with _ | a3
  · replace h := zopt_n h
    refine j_ifnonnull0 dJ22_compare_4 ?_
    refine j_aload_n (j := 1) dJ22_compare_7 rfl rfl ?_
    replace h := zkqE h
    obtain ⟨e4, h⟩ := h
    refine j_castq (fun k => j_castN dJ22_compare_8 k) (fun b q10 k => j_cast (zk_21_61 _ (e4 b q10)) q1075 (zxw 25 rfl) dJ22_compare_8 k) ?_
    refine j_aload_n (j := 2) dJ22_compare_11 rfl rfl ?_
    replace h := zbE h
    obtain ⟨a5, e6, h⟩ := h
    subst e6
    replace h := zkE h
    obtain ⟨e7, h⟩ := h
    replace h := zbE h
    obtain ⟨v9, e8, h⟩ := h
    refine j_cont (zrF (As := [vR x2]) msJ22_107_J26 (yJ26_compareTo_ok e8) (Nat.le_trans (Nat.le_of_ble_eq_true rfl) hd) (zk_21_61 _ e7) rfl rfl (Nat.le_of_ble_eq_true rfl) dJ22_compare_12) ?_
    refine j_goto (tgt := 31) dJ22_compare_17 (by decide) ?_
    obtain rfl := Option.some.inj h
    exact j_iret hk.1 hk.2 rfl dJ22_compare_31
  · replace h := zopt_s h
    refine j_ifnonnull1 (tgt := 20) dJ22_compare_4 (by decide) ?_
    refine j_aload_n (j := 0) dJ22_compare_20 rfl rfl ?_
    replace h := zbE h
    obtain ⟨r11, e12, h⟩ := h
    refine j_getR fgJ22_16 (fun _ _ _ => rfl) dJ22_compare_21 e12 ?_
    refine j_aload_n (j := 1) dJ22_compare_24 rfl rfl ?_
    refine j_aload_n (j := 2) dJ22_compare_25 rfl rfl ?_
    cases h
theorem yJ22_compare_ok {t : Nat} {x1 : Option Nat} {x2 : Option Nat} {G : GS} {r : Int32} (h : fJ22_compare_0 t x1 x2 G = some r) : zRuns yJ22_compare (ws_ yJ22_compare cJ22_compare 3 (some Jvm.ClassFile.FieldType.int)) [vR (some t), vR x1, vR x2] (.inl (some (vI r)), G, G, 4) :=
  zentry (M := mJ22_compare) (plainFor_of_name (by decide +kernel)) ⟨rfl, rfl, rfl, rfl⟩ (Nat.le_of_ble_eq_true rfl) (wfJ22_compare_0 (Nat.le_refl _) t x1 x2 G h ⟨rfl, rfl⟩)
theorem fpJ30_15_J30 : zFP RJ30 15 16 0 (.object "java/lang/Object") false := ⟨(RJ30, TJ30, 6, tyJ30), rfl, by decide, in_J30, tyJ30_ok, nmJ30, rfl, rfl, (by decide), "java/util/TreeMap$Entry", Or.inl rfl, q1086⟩
theorem fpJ30_19_J30 : zFP RJ30 19 16 1 (.object "java/lang/Object") false := ⟨(RJ30, TJ30, 6, tyJ30), rfl, by decide, in_J30, tyJ30_ok, nmJ30, rfl, rfl, (by decide), "java/util/TreeMap$Entry", Or.inl rfl, q1088⟩
theorem fpJ30_22_J30 : zFP RJ30 22 16 4 (.object "java/util/TreeMap$Entry") false := ⟨(RJ30, TJ30, 6, tyJ30), rfl, by decide, in_J30, tyJ30_ok, nmJ30, rfl, rfl, (by decide), "java/util/TreeMap$Entry", Or.inl rfl, q1093⟩
theorem fpJ30_9_J30 : zFP RJ30 9 16 5 (.boolean) false := ⟨(RJ30, TJ30, 6, tyJ30), rfl, by decide, in_J30, tyJ30_ok, nmJ30, rfl, rfl, (by decide), "java/util/TreeMap$Entry", Or.inl rfl, q1095⟩
abbrev mJ30_init : zM := (cJ30_init, RJ30, 4, none, "<init>", [], "(Ljava/lang/Object;Ljava/lang/Object;Ljava/util/TreeMap$Entry;)V")
def fJ30_init_0 (t : Nat) (x1 : Option Nat) (x2 : Option Nat) (x3 : Option Nat)  (G : GS) : Option (GS) :=
  (zpZ G 17 t 5 1).bind fun G1 => (zpR G1 17 t 0 x1).bind fun G3 => (zpR G3 17 t 1 x2).bind fun G5 => (zpR G5 17 t 4 x3).bind fun G7 => some G7
theorem wfJ30_init_0 {F : zF} (hd : 2 ≤ F.2.2.2) (t : Nat) (x1 : Option Nat) (x2 : Option Nat) (x3 : Option Nat)  (G : GS) {a : GS} (h : fJ30_init_0 t x1 x2 x3  G = some a) (hk : zKV F a) : J mJ30_init F G 0 [(0, vR (some t)), (1, vR x1), (2, vR x2), (3, vR x3)] [] := by
  unfold fJ30_init_0 at h
  refine j_aload_n (j := 0) dJ30_init_0 rfl rfl ?_
  refine j_objinit q1085 q181 q182 (Nat.le_trans (Nat.le_of_ble_eq_true rfl) hd) (Nat.le_of_ble_eq_true rfl) dJ30_init_1 ?_
  refine j_aload_n (j := 0) dJ30_init_4 rfl rfl ?_
  refine j_iconst (v := 1) dJ30_init_5 (by decide) ?_
  replace h := zbE h
  obtain ⟨G1, e2, h⟩ := h
  refine j_putZ fpJ30_9_J30 (Or.inl rfl) rfl dJ30_init_6 e2 ?_
  refine j_aload_n (j := 0) dJ30_init_9 rfl rfl ?_
  refine j_aload_n (j := 1) dJ30_init_10 rfl rfl ?_
  replace h := zbE h
  obtain ⟨G3, e4, h⟩ := h
  refine j_putR fpJ30_15_J30 (Or.inl rfl) (Or.inl ⟨_, rfl⟩) dJ30_init_11 e4 ?_
  refine j_aload_n (j := 0) dJ30_init_14 rfl rfl ?_
  refine j_aload_n (j := 2) dJ30_init_15 rfl rfl ?_
  replace h := zbE h
  obtain ⟨G5, e6, h⟩ := h
  refine j_putR fpJ30_19_J30 (Or.inl rfl) (Or.inl ⟨_, rfl⟩) dJ30_init_16 e6 ?_
  refine j_aload_n (j := 0) dJ30_init_19 rfl rfl ?_
  refine j_aload_n (j := 3) dJ30_init_20 rfl rfl ?_
  replace h := zbE h
  obtain ⟨G7, e8, h⟩ := h
  refine j_putR fpJ30_22_J30 (Or.inl rfl) (Or.inl ⟨_, rfl⟩) dJ30_init_21 e8 ?_
  obtain rfl := Option.some.inj h
  exact j_vret hk.1 hk.2 rfl dJ30_init_24
theorem yJ30_init_ok {t : Nat} {x1 : Option Nat} {x2 : Option Nat} {x3 : Option Nat} {G : GS} {G1 : GS} (h : fJ30_init_0 t x1 x2 x3 G = some G1) : zRuns yJ30_init (ws_ yJ30_init cJ30_init 4 none) [vR (some t), vR x1, vR x2, vR x3] (.inl none, G, G1, 2) :=
  zentry (M := mJ30_init) (plainFor_of_name (by decide +kernel)) ⟨rfl, rfl, rfl, rfl⟩ (Nat.le_of_ble_eq_true rfl) (wfJ30_init_0 (Nat.le_refl _) t x1 x2 x3 G h ⟨rfl, rfl⟩)
theorem zk_16 : ∀ k, [16].contains k = true → zKc k = some "java/util/TreeMap" := fun k h => by rw [zKc_one h]; rfl
theorem fgJ22_13 : zFG RJ22 13 15 5 (.int) := ⟨(RJ22, TJ22, 9, tyJ22), rfl, by decide, in_J22, rfl, "java/util/TreeMap", Or.inl rfl, Or.inl q432⟩
theorem fpJ22_101_J22 : zFP RJ22 101 15 3 (.object "java/util/TreeMap$Entry") false := ⟨(RJ22, TJ22, 9, tyJ22), rfl, by decide, in_J22, tyJ22_ok, nmJ22, rfl, rfl, (by decide), "java/util/TreeMap", Or.inl rfl, q430⟩
theorem msJ22_123 : zSV RJ22 123 RJ22 yJ22_compare cJ22_compare 3 (some Jvm.ClassFile.FieldType.int) 2 := ⟨lw_V q1071 q1072 q1073 q150 q1074, (by decide +kernel), (by decide)⟩
theorem msJ22_167 : zSI RJ22 167 yJ30_init cJ30_init 4 3 := ⟨q1084, q162, q1082, q1083, rfl, (by decide +kernel), (by decide)⟩
abbrev mJ22_addEntryToEmptyMap : zM := (cJ22_addEntryToEmptyMap, RJ22, 3, none, "addEntryToEmptyMap", [], "(Ljava/lang/Object;Ljava/lang/Object;)V")
def fJ22_addEntryToEmptyMap_0 (t : Nat) (x1 : Option Nat) (x2 : Option Nat)  (G : GS) : Option (GS) :=
  zk [16] G t <| (fJ22_compare_0 t x1 x1 G).bind fun v3 => zl (al G 17 0 6) fun G4 => (fJ30_init_0 (gz G) x1 x2 none G4).bind fun G7 => (zpR G7 16 t 3 (some (gz G))).bind fun G8 => (zpI G8 16 t 4 1).bind fun G10 => (zgI G10 16 t 5).bind fun v12 => (zpI G10 16 t 5 (v12 + 1)).bind fun G14 => some G14
theorem wfJ22_addEntryToEmptyMap_0 {F : zF} (hd : 5 ≤ F.2.2.2) (t : Nat) (x1 : Option Nat) (x2 : Option Nat)  (G : GS) {a : GS} (h : fJ22_addEntryToEmptyMap_0 t x1 x2  G = some a) (hk : zKV F a) : J mJ22_addEntryToEmptyMap F G 0 [(0, vR (some t)), (1, vR x1), (2, vR x2)] [] := by
  unfold fJ22_addEntryToEmptyMap_0 at h
  refine j_aload_n (j := 0) dJ22_addEntryToEmptyMap_0 rfl rfl ?_
  refine j_aload_n (j := 1) dJ22_addEntryToEmptyMap_1 rfl rfl ?_
  refine j_aload_n (j := 1) dJ22_addEntryToEmptyMap_2 rfl rfl ?_
  replace h := zkE h
  obtain ⟨e1, h⟩ := h
  replace h := zbE h
  obtain ⟨v3, e2, h⟩ := h
  refine j_cont (zrV (As := [vR x1, vR x1]) msJ22_123 (yJ22_compare_ok e2) (Nat.le_trans (Nat.le_of_ble_eq_true rfl) hd) (zk_16 _ e1) rfl rfl (Nat.le_of_ble_eq_true rfl) dJ22_addEntryToEmptyMap_3) ?_
  refine j_pop dJ22_addEntryToEmptyMap_6 rfl ?_
  refine j_aload_n (j := 0) dJ22_addEntryToEmptyMap_7 rfl rfl ?_
  replace h := zlE h
  obtain ⟨G4, e5, h⟩ := h
  refine j_new (c := 16) (n := 6) (r := (RJ30, TJ30, 6, tyJ30)) rfl rfl in_J30 tyJ30_ok nwJ30 q1080 q1081 q162 dJ22_addEntryToEmptyMap_8 ?_
  rw [show al G (16 + 1) 0 6 = G4 from e5.symm]
  refine j_dup dJ22_addEntryToEmptyMap_11 rfl ?_
  refine j_aload_n (j := 1) dJ22_addEntryToEmptyMap_12 rfl rfl ?_
  refine j_aload_n (j := 2) dJ22_addEntryToEmptyMap_13 rfl rfl ?_
  refine j_null dJ22_addEntryToEmptyMap_14 ?_
  replace h := zbE h
  obtain ⟨G7, e6, h⟩ := h
  refine j_cont (zrI (As := [vR x1, vR x2, vR none]) msJ22_167 (yJ30_init_ok e6) (Nat.le_trans (Nat.le_of_ble_eq_true rfl) hd) rfl rfl (Nat.le_of_ble_eq_true rfl) dJ22_addEntryToEmptyMap_15) ?_
  replace h := zbE h
  obtain ⟨G8, e9, h⟩ := h
  refine j_putR fpJ22_101_J22 (Or.inl rfl) (Or.inl ⟨_, rfl⟩) dJ22_addEntryToEmptyMap_18 e9 ?_
  refine j_aload_n (j := 0) dJ22_addEntryToEmptyMap_21 rfl rfl ?_
  refine j_iconst (v := 1) dJ22_addEntryToEmptyMap_22 (by decide) ?_
  replace h := zbE h
  obtain ⟨G10, e11, h⟩ := h
  refine j_putI fpJ22_7_J22 (Or.inl rfl) rfl dJ22_addEntryToEmptyMap_23 e11 ?_
  refine j_aload_n (j := 0) dJ22_addEntryToEmptyMap_26 rfl rfl ?_
  refine j_dup dJ22_addEntryToEmptyMap_27 rfl ?_
  replace h := zbE h
  obtain ⟨v12, e13, h⟩ := h
  refine j_getI fgJ22_13 (fun _ _ _ => rfl) dJ22_addEntryToEmptyMap_28 e13 ?_
  refine j_iconst (v := 1) dJ22_addEntryToEmptyMap_31 (by decide) ?_
  refine j_iadd dJ22_addEntryToEmptyMap_32 ?_
  replace h := zbE h
  obtain ⟨G14, e15, h⟩ := h
  refine j_putI fpJ22_13_J22 (Or.inl rfl) rfl dJ22_addEntryToEmptyMap_33 e15 ?_
  obtain rfl := Option.some.inj h
  exact j_vret hk.1 hk.2 rfl dJ22_addEntryToEmptyMap_36
theorem yJ22_addEntryToEmptyMap_ok {t : Nat} {x1 : Option Nat} {x2 : Option Nat} {G : GS} {G1 : GS} (h : fJ22_addEntryToEmptyMap_0 t x1 x2 G = some G1) : zRuns yJ22_addEntryToEmptyMap (ws_ yJ22_addEntryToEmptyMap cJ22_addEntryToEmptyMap 3 none) [vR (some t), vR x1, vR x2] (.inl none, G, G1, 5) :=
  zentry (M := mJ22_addEntryToEmptyMap) (plainFor_of_name (by decide +kernel)) ⟨rfl, rfl, rfl, rfl⟩ (Nat.le_of_ble_eq_true rfl) (wfJ22_addEntryToEmptyMap_0 (Nat.le_refl _) t x1 x2 G h ⟨rfl, rfl⟩)
abbrev mJ16_requireNonNull : zM := (cJ16_requireNonNull, RJ16, 1, (some (Jvm.ClassFile.FieldType.object "java/lang/Object")), "requireNonNull", [], "(Ljava/lang/Object;)Ljava/lang/Object;")
def fJ16_requireNonNull_0 (x0 : Option Nat)  (G : GS) : Option ((Option Nat) × GS) :=
  zopt x0 none (fun a1 => some ((some a1), G))
theorem wfJ16_requireNonNull_0 {F : zF} (hd : 1 ≤ F.2.2.2) (x0 : Option Nat)  (G : GS) {a : (Option Nat) × GS} (h : fJ16_requireNonNull_0 x0  G = some a) (hk : zKR F a) : J mJ16_requireNonNull F G 0 [(0, vR x0)] [] := by
  unfold fJ16_requireNonNull_0 at h
  refine j_aload_n (j := 0) dJ16_requireNonNull_0 rfl rfl ?_
  rcases x0 with _ | a1
  · replace h := zopt_n h
    refine j_ifnonnull0 dJ16_requireNonNull_1 ?_
    cases h
  · replace h := zopt_s h
    refine j_ifnonnull1 (tgt := 12) dJ16_requireNonNull_1 (by decide) ?_
    refine j_aload_n (j := 0) dJ16_requireNonNull_12 rfl rfl ?_
    obtain rfl := Option.some.inj h
    exact j_aret hk.1 hk.2 rfl (Or.inl ⟨_, rfl⟩) dJ16_requireNonNull_13
theorem yJ16_requireNonNull_ok {x0 : Option Nat} {G : GS} {r : Option Nat} {G1 : GS} (h : fJ16_requireNonNull_0 x0 G = some (r, G1)) : zRuns yJ16_requireNonNull (ws_ yJ16_requireNonNull cJ16_requireNonNull 1 (some (Jvm.ClassFile.FieldType.object "java/lang/Object"))) [vR x0] (.inl (some (vR r)), G, G1, 1) :=
  zentry (M := mJ16_requireNonNull) (plainFor_of_name (by decide +kernel)) ⟨rfl, rfl, rfl, rfl⟩ (Nat.le_of_ble_eq_true rfl) (wfJ16_requireNonNull_0 (Nat.le_refl _) x0 G h ⟨rfl, rfl⟩)
theorem fgJ22_124 : zFG RJ22 124 16 4 (.object "java/util/TreeMap$Entry") := ⟨(RJ30, TJ30, 6, tyJ30), rfl, by decide, in_J30, rfl, "java/util/TreeMap$Entry", Or.inl rfl, Or.inl q1094⟩
abbrev mJ22_parentOf : zM := (cJ22_parentOf, RJ22, 1, (some (Jvm.ClassFile.FieldType.object "java/util/TreeMap$Entry")), "parentOf", [], "(Ljava/util/TreeMap$Entry;)Ljava/util/TreeMap$Entry;")
def fJ22_parentOf_0 (x0 : Option Nat)  (G : GS) : Option (Option Nat) :=
  zopt x0 (some none) (fun a1 => (zgR G 17 a1 4).bind fun r2 => some r2)
theorem wfJ22_parentOf_0 {F : zF} (hd : 1 ≤ F.2.2.2) (x0 : Option Nat)  (G : GS) {a : Option Nat} (h : fJ22_parentOf_0 x0  G = some a) (hk : zKPR F G a) : J mJ22_parentOf F G 0 [(0, vR x0)] [] := by
  unfold fJ22_parentOf_0 at h
  refine j_aload_n (j := 0) dJ22_parentOf_0 rfl rfl ?_
  rcases x0 with _ | a1
  · replace h := zopt_n h
    refine j_ifnonnull0 dJ22_parentOf_1 ?_
    refine j_null dJ22_parentOf_4 ?_
    refine j_goto (tgt := 12) dJ22_parentOf_5 (by decide) ?_
    obtain rfl := Option.some.inj h
    exact j_aret hk.1 hk.2 rfl (Or.inl ⟨_, rfl⟩) dJ22_parentOf_12
  · replace h := zopt_s h
    refine j_ifnonnull1 (tgt := 8) dJ22_parentOf_1 (by decide) ?_
    refine j_aload_n (j := 0) dJ22_parentOf_8 rfl rfl ?_
    replace h := zbE h
    obtain ⟨r2, e3, h⟩ := h
    refine j_getR fgJ22_124 (fun _ _ _ => rfl) dJ22_parentOf_9 e3 ?_
    obtain rfl := Option.some.inj h
    exact j_aret hk.1 hk.2 rfl (Or.inl ⟨_, rfl⟩) dJ22_parentOf_12
theorem yJ22_parentOf_ok {x0 : Option Nat} {G : GS} {r : Option Nat} (h : fJ22_parentOf_0 x0 G = some r) : zRuns yJ22_parentOf (ws_ yJ22_parentOf cJ22_parentOf 1 (some (Jvm.ClassFile.FieldType.object "java/util/TreeMap$Entry"))) [vR x0] (.inl (some (vR r)), G, G, 1) :=
  zentry (M := mJ22_parentOf) (plainFor_of_name (by decide +kernel)) ⟨rfl, rfl, rfl, rfl⟩ (Nat.le_of_ble_eq_true rfl) (wfJ22_parentOf_0 (Nat.le_refl _) x0 G h ⟨rfl, rfl⟩)
theorem fgJ22_111 : zFG RJ22 111 16 2 (.object "java/util/TreeMap$Entry") := ⟨(RJ30, TJ30, 6, tyJ30), rfl, by decide, in_J30, rfl, "java/util/TreeMap$Entry", Or.inl rfl, Or.inl q1091⟩
abbrev mJ22_leftOf : zM := (cJ22_leftOf, RJ22, 1, (some (Jvm.ClassFile.FieldType.object "java/util/TreeMap$Entry")), "leftOf", [], "(Ljava/util/TreeMap$Entry;)Ljava/util/TreeMap$Entry;")
def fJ22_leftOf_0 (x0 : Option Nat)  (G : GS) : Option (Option Nat) :=
  zopt x0 (some none) (fun a1 => (zgR G 17 a1 2).bind fun r2 => some r2)
theorem wfJ22_leftOf_0 {F : zF} (hd : 1 ≤ F.2.2.2) (x0 : Option Nat)  (G : GS) {a : Option Nat} (h : fJ22_leftOf_0 x0  G = some a) (hk : zKPR F G a) : J mJ22_leftOf F G 0 [(0, vR x0)] [] := by
  unfold fJ22_leftOf_0 at h
  refine j_aload_n (j := 0) dJ22_leftOf_0 rfl rfl ?_
  rcases x0 with _ | a1
  · replace h := zopt_n h
    refine j_ifnonnull0 dJ22_leftOf_1 ?_
    refine j_null dJ22_leftOf_4 ?_
    refine j_goto (tgt := 12) dJ22_leftOf_5 (by decide) ?_
    obtain rfl := Option.some.inj h
    exact j_aret hk.1 hk.2 rfl (Or.inl ⟨_, rfl⟩) dJ22_leftOf_12
  · replace h := zopt_s h
    refine j_ifnonnull1 (tgt := 8) dJ22_leftOf_1 (by decide) ?_
    refine j_aload_n (j := 0) dJ22_leftOf_8 rfl rfl ?_
    replace h := zbE h
    obtain ⟨r2, e3, h⟩ := h
    refine j_getR fgJ22_111 (fun _ _ _ => rfl) dJ22_leftOf_9 e3 ?_
    obtain rfl := Option.some.inj h
    exact j_aret hk.1 hk.2 rfl (Or.inl ⟨_, rfl⟩) dJ22_leftOf_12
theorem yJ22_leftOf_ok {x0 : Option Nat} {G : GS} {r : Option Nat} (h : fJ22_leftOf_0 x0 G = some r) : zRuns yJ22_leftOf (ws_ yJ22_leftOf cJ22_leftOf 1 (some (Jvm.ClassFile.FieldType.object "java/util/TreeMap$Entry"))) [vR x0] (.inl (some (vR r)), G, G, 1) :=
  zentry (M := mJ22_leftOf) (plainFor_of_name (by decide +kernel)) ⟨rfl, rfl, rfl, rfl⟩ (Nat.le_of_ble_eq_true rfl) (wfJ22_leftOf_0 (Nat.le_refl _) x0 G h ⟨rfl, rfl⟩)
theorem fgJ22_114 : zFG RJ22 114 16 3 (.object "java/util/TreeMap$Entry") := ⟨(RJ30, TJ30, 6, tyJ30), rfl, by decide, in_J30, rfl, "java/util/TreeMap$Entry", Or.inl rfl, Or.inl q1092⟩
abbrev mJ22_rightOf : zM := (cJ22_rightOf, RJ22, 1, (some (Jvm.ClassFile.FieldType.object "java/util/TreeMap$Entry")), "rightOf", [], "(Ljava/util/TreeMap$Entry;)Ljava/util/TreeMap$Entry;")
def fJ22_rightOf_0 (x0 : Option Nat)  (G : GS) : Option (Option Nat) :=
  zopt x0 (some none) (fun a1 => (zgR G 17 a1 3).bind fun r2 => some r2)
theorem wfJ22_rightOf_0 {F : zF} (hd : 1 ≤ F.2.2.2) (x0 : Option Nat)  (G : GS) {a : Option Nat} (h : fJ22_rightOf_0 x0  G = some a) (hk : zKPR F G a) : J mJ22_rightOf F G 0 [(0, vR x0)] [] := by
  unfold fJ22_rightOf_0 at h
  refine j_aload_n (j := 0) dJ22_rightOf_0 rfl rfl ?_
  rcases x0 with _ | a1
  · replace h := zopt_n h
    refine j_ifnonnull0 dJ22_rightOf_1 ?_
    refine j_null dJ22_rightOf_4 ?_
    refine j_goto (tgt := 12) dJ22_rightOf_5 (by decide) ?_
    obtain rfl := Option.some.inj h
    exact j_aret hk.1 hk.2 rfl (Or.inl ⟨_, rfl⟩) dJ22_rightOf_12
  · replace h := zopt_s h
    refine j_ifnonnull1 (tgt := 8) dJ22_rightOf_1 (by decide) ?_
    refine j_aload_n (j := 0) dJ22_rightOf_8 rfl rfl ?_
    replace h := zbE h
    obtain ⟨r2, e3, h⟩ := h
    refine j_getR fgJ22_114 (fun _ _ _ => rfl) dJ22_rightOf_9 e3 ?_
    obtain rfl := Option.some.inj h
    exact j_aret hk.1 hk.2 rfl (Or.inl ⟨_, rfl⟩) dJ22_rightOf_12
theorem yJ22_rightOf_ok {x0 : Option Nat} {G : GS} {r : Option Nat} (h : fJ22_rightOf_0 x0 G = some r) : zRuns yJ22_rightOf (ws_ yJ22_rightOf cJ22_rightOf 1 (some (Jvm.ClassFile.FieldType.object "java/util/TreeMap$Entry"))) [vR x0] (.inl (some (vR r)), G, G, 1) :=
  zentry (M := mJ22_rightOf) (plainFor_of_name (by decide +kernel)) ⟨rfl, rfl, rfl, rfl⟩ (Nat.le_of_ble_eq_true rfl) (wfJ22_rightOf_0 (Nat.le_refl _) x0 G h ⟨rfl, rfl⟩)
theorem fgJ22_290 : zFG RJ22 290 16 5 (.boolean) := ⟨(RJ30, TJ30, 6, tyJ30), rfl, by decide, in_J30, rfl, "java/util/TreeMap$Entry", Or.inl rfl, Or.inl q1096⟩
abbrev mJ22_colorOf : zM := (cJ22_colorOf, RJ22, 1, (some Jvm.ClassFile.FieldType.boolean), "colorOf", [], "(Ljava/util/TreeMap$Entry;)Z")
def fJ22_colorOf_0 (x0 : Option Nat)  (G : GS) : Option (Int32) :=
  zopt x0 (zcond (zbb 1) (some 1)) (fun a1 => (zgI G 17 a1 5).bind fun v3 => zcond (zbb v3) (some v3))
theorem wfJ22_colorOf_0 {F : zF} (hd : 1 ≤ F.2.2.2) (x0 : Option Nat)  (G : GS) {a : Int32} (h : fJ22_colorOf_0 x0  G = some a) (hk : zKPI F G a) : J mJ22_colorOf F G 0 [(0, vR x0)] [] := by
  unfold fJ22_colorOf_0 at h
  refine j_aload_n (j := 0) dJ22_colorOf_0 rfl rfl ?_
  rcases x0 with _ | a1
  · replace h := zopt_n h
    refine j_ifnonnull0 dJ22_colorOf_1 ?_
    refine j_iconst (v := 1) dJ22_colorOf_4 (by decide) ?_
    refine j_goto (tgt := 12) dJ22_colorOf_5 (by decide) ?_
    replace h := zcondE h
    obtain ⟨e2, h⟩ := h
    obtain rfl := Option.some.inj h
    exact j_zret hk.1 hk.2 rfl (zbb_n e2) dJ22_colorOf_12
  · replace h := zopt_s h
    refine j_ifnonnull1 (tgt := 8) dJ22_colorOf_1 (by decide) ?_
    refine j_aload_n (j := 0) dJ22_colorOf_8 rfl rfl ?_
    replace h := zbE h
    obtain ⟨v3, e4, h⟩ := h
    refine j_getI fgJ22_290 (fun _ _ _ => rfl) dJ22_colorOf_9 e4 ?_
    replace h := zcondE h
    obtain ⟨e5, h⟩ := h
    obtain rfl := Option.some.inj h
    exact j_zret hk.1 hk.2 rfl (zbb_n e5) dJ22_colorOf_12
theorem yJ22_colorOf_ok {x0 : Option Nat} {G : GS} {r : Int32} (h : fJ22_colorOf_0 x0 G = some r) : zRuns yJ22_colorOf (ws_ yJ22_colorOf cJ22_colorOf 1 (some Jvm.ClassFile.FieldType.boolean)) [vR x0] (.inl (some (vI r)), G, G, 1) :=
  zentry (M := mJ22_colorOf) (plainFor_of_name (by decide +kernel)) ⟨rfl, rfl, rfl, rfl⟩ (Nat.le_of_ble_eq_true rfl) (wfJ22_colorOf_0 (Nat.le_refl _) x0 G h ⟨rfl, rfl⟩)
theorem fpJ22_290_J30 : zFP RJ22 290 16 5 (.boolean) false := ⟨(RJ30, TJ30, 6, tyJ30), rfl, by decide, in_J30, tyJ30_ok, nmJ30, rfl, rfl, (by decide), "java/util/TreeMap$Entry", Or.inl rfl, q1096⟩
abbrev mJ22_setColor : zM := (cJ22_setColor, RJ22, 2, none, "setColor", [], "(Ljava/util/TreeMap$Entry;Z)V")
def fJ22_setColor_0 (x0 : Option Nat) (x1 : Int32)  (G : GS) : Option (GS) :=
  zopt x0 (some G) (fun a1 => (zpZ G 17 a1 5 x1).bind fun G2 => some G2)
theorem wfJ22_setColor_0 {F : zF} (hd : 1 ≤ F.2.2.2) (x0 : Option Nat) (x1 : Int32)  (G : GS) {a : GS} (h : fJ22_setColor_0 x0 x1  G = some a) (hk : zKV F a) : J mJ22_setColor F G 0 [(0, vR x0), (1, vI x1)] [] := by
  unfold fJ22_setColor_0 at h
  refine j_aload_n (j := 0) dJ22_setColor_0 rfl rfl ?_
  rcases x0 with _ | a1
  · replace h := zopt_n h
    refine j_ifnull0 (tgt := 9) dJ22_setColor_1 (by decide) ?_
    obtain rfl := Option.some.inj h
    exact j_vret hk.1 hk.2 rfl dJ22_setColor_9
  · replace h := zopt_s h
    refine j_ifnull1 dJ22_setColor_1 ?_
    refine j_aload_n (j := 0) dJ22_setColor_4 rfl rfl ?_
    refine j_iload_n (j := 1) dJ22_setColor_5 rfl rfl ?_
    replace h := zbE h
    obtain ⟨G2, e3, h⟩ := h
    refine j_putZ fpJ22_290_J30 (Or.inl rfl) rfl dJ22_setColor_6 e3 ?_
    obtain rfl := Option.some.inj h
    exact j_vret hk.1 hk.2 rfl dJ22_setColor_9
theorem yJ22_setColor_ok {x0 : Option Nat} {x1 : Int32} {G : GS} {G1 : GS} (h : fJ22_setColor_0 x0 x1 G = some G1) : zRuns yJ22_setColor (ws_ yJ22_setColor cJ22_setColor 2 none) [vR x0, vI x1] (.inl none, G, G1, 1) :=
  zentry (M := mJ22_setColor) (plainFor_of_name (by decide +kernel)) ⟨rfl, rfl, rfl, rfl⟩ (Nat.le_of_ble_eq_true rfl) (wfJ22_setColor_0 (Nat.le_refl _) x0 x1 G h ⟨rfl, rfl⟩)
theorem fpJ22_111_J30 : zFP RJ22 111 16 2 (.object "java/util/TreeMap$Entry") false := ⟨(RJ30, TJ30, 6, tyJ30), rfl, by decide, in_J30, tyJ30_ok, nmJ30, rfl, rfl, (by decide), "java/util/TreeMap$Entry", Or.inl rfl, q1091⟩
theorem fpJ22_114_J30 : zFP RJ22 114 16 3 (.object "java/util/TreeMap$Entry") false := ⟨(RJ30, TJ30, 6, tyJ30), rfl, by decide, in_J30, tyJ30_ok, nmJ30, rfl, rfl, (by decide), "java/util/TreeMap$Entry", Or.inl rfl, q1092⟩
theorem fpJ22_124_J30 : zFP RJ22 124 16 4 (.object "java/util/TreeMap$Entry") false := ⟨(RJ30, TJ30, 6, tyJ30), rfl, by decide, in_J30, tyJ30_ok, nmJ30, rfl, rfl, (by decide), "java/util/TreeMap$Entry", Or.inl rfl, q1094⟩
abbrev mJ22_rotateLeft : zM := (cJ22_rotateLeft, RJ22, 3, none, "rotateLeft", [], "(Ljava/util/TreeMap$Entry;)V")
def fJ22_rotateLeft_85 (x1 : Option Nat) (x2 : Option Nat)  (G : GS) : Option (GS) :=
  x2.bind fun a1 => (zpR G 17 a1 2 x1).bind fun G3 => x1.bind fun a5 => (zpR G3 17 a5 4 (some a1)).bind fun G7 => some G7
theorem wfJ22_rotateLeft_85 {F : zF} (hd : 1 ≤ F.2.2.2) (x1 : Option Nat) (x2 : Option Nat)  (G : GS) {a : GS} (h : fJ22_rotateLeft_85 x1 x2  G = some a) (hk : zKV F a) : J mJ22_rotateLeft F G 85 [(1, vR x1), (2, vR x2)] [] := by
  unfold fJ22_rotateLeft_85 at h
  refine j_aload_n (j := 1) dJ22_rotateLeft_85 rfl rfl ?_
  refine j_aload_n (j := 0) dJ22_rotateLeft_86 rfl rfl ?_
  replace h := zbE h
  obtain ⟨a1, e2, h⟩ := h
  subst e2
  replace h := zbE h
  obtain ⟨G3, e4, h⟩ := h
  refine j_putR fpJ22_111_J30 (Or.inl rfl) (Or.inl ⟨_, rfl⟩) dJ22_rotateLeft_87 e4 ?_
  refine j_aload_n (j := 0) dJ22_rotateLeft_90 rfl rfl ?_
  refine j_aload_n (j := 1) dJ22_rotateLeft_91 rfl rfl ?_
  replace h := zbE h
  obtain ⟨a5, e6, h⟩ := h
  subst e6
  replace h := zbE h
  obtain ⟨G7, e8, h⟩ := h
  refine j_putR fpJ22_124_J30 (Or.inl rfl) (Or.inl ⟨_, rfl⟩) dJ22_rotateLeft_92 e8 ?_
  obtain rfl := Option.some.inj h
  exact j_vret hk.1 hk.2 rfl dJ22_rotateLeft_95
def fJ22_rotateLeft_32 (t : Nat) (x1 : Option Nat) (x2 : Option Nat)  (G : GS) : Option (GS) :=
  x1.bind fun a1 => (zgR G 17 a1 4).bind fun r3 => x2.bind fun a5 => (zpR G 17 a5 4 r3).bind fun G7 => (zgR G7 17 a1 4).bind fun r9 => zopt r9 ((zpR G7 16 t 3 (some a5)).bind fun G12 => fJ22_rotateLeft_85 (some a1) (some a5) G12) (fun a11 => (zgR G7 17 a1 4).bind fun r14 => r14.bind fun a16 => (zgR G7 17 a16 2).bind fun r18 => if r18 = (some a1) then ((zgR G7 17 a1 4).bind fun r21 => r21.bind fun a23 => (zpR G7 17 a23 2 (some a5)).bind fun G25 => fJ22_rotateLeft_85 (some a1) (some a5) G25) else ((zgR G7 17 a1 4).bind fun r27 => r27.bind fun a29 => (zpR G7 17 a29 3 (some a5)).bind fun G31 => fJ22_rotateLeft_85 (some a1) (some a5) G31))
theorem wfJ22_rotateLeft_32 {F : zF} (hd : 1 ≤ F.2.2.2) (t : Nat) (x1 : Option Nat) (x2 : Option Nat)  (G : GS) {a : GS} (h : fJ22_rotateLeft_32 t x1 x2  G = some a) (hk : zKV F a) : J mJ22_rotateLeft F G 32 [(0, vR (some t)), (1, vR x1), (2, vR x2)] [] := by
  unfold fJ22_rotateLeft_32 at h
  refine j_aload_n (j := 2) dJ22_rotateLeft_32 rfl rfl ?_
  refine j_aload_n (j := 1) dJ22_rotateLeft_33 rfl rfl ?_
  replace h := zbE h
  obtain ⟨a1, e2, h⟩ := h
  subst e2
  replace h := zbE h
  obtain ⟨r3, e4, h⟩ := h
  refine j_getR fgJ22_124 (fun _ _ _ => rfl) dJ22_rotateLeft_34 e4 ?_
  replace h := zbE h
  obtain ⟨a5, e6, h⟩ := h
  subst e6
  replace h := zbE h
  obtain ⟨G7, e8, h⟩ := h
  refine j_putR fpJ22_124_J30 (Or.inl rfl) (Or.inl ⟨_, rfl⟩) dJ22_rotateLeft_37 e8 ?_
  refine j_aload_n (j := 1) dJ22_rotateLeft_40 rfl rfl ?_
  replace h := zbE h
  obtain ⟨r9, e10, h⟩ := h
  refine j_getR fgJ22_124 (fun _ _ _ => rfl) dJ22_rotateLeft_41 e10 ?_
  rcases r9 with _ | a11
  · replace h := zopt_n h
    refine j_ifnonnull0 dJ22_rotateLeft_44 ?_
    refine j_aload_n (j := 0) dJ22_rotateLeft_47 rfl rfl ?_
    refine j_aload_n (j := 2) dJ22_rotateLeft_48 rfl rfl ?_
    replace h := zbE h
    obtain ⟨G12, e13, h⟩ := h
    refine j_putR fpJ22_101_J22 (Or.inl rfl) (Or.inl ⟨_, rfl⟩) dJ22_rotateLeft_49 e13 ?_
    refine j_goto (tgt := 85) dJ22_rotateLeft_52 (by decide) ?_
    exact J.sub (zall [1, 2] rfl) (wfJ22_rotateLeft_85 hd (some a1) (some a5)  G12 h hk)
  · replace h := zopt_s h
    refine j_ifnonnull1 (tgt := 55) dJ22_rotateLeft_44 (by decide) ?_
    refine j_aload_n (j := 1) dJ22_rotateLeft_55 rfl rfl ?_
    replace h := zbE h
    obtain ⟨r14, e15, h⟩ := h
    refine j_getR fgJ22_124 (fun _ _ _ => rfl) dJ22_rotateLeft_56 e15 ?_
    replace h := zbE h
    obtain ⟨a16, e17, h⟩ := h
    subst e17
    replace h := zbE h
    obtain ⟨r18, e19, h⟩ := h
    refine j_getR fgJ22_111 (fun _ _ _ => rfl) dJ22_rotateLeft_59 e19 ?_
    refine j_aload_n (j := 1) dJ22_rotateLeft_62 rfl rfl ?_
    refine j_acmp_ne (tgt := 77) dJ22_rotateLeft_63 (by decide) (fun c20 => ?_) (fun c20 => ?_)
    · rw [if_pos c20] at h
      refine j_aload_n (j := 1) dJ22_rotateLeft_66 rfl rfl ?_
      replace h := zbE h
      obtain ⟨r21, e22, h⟩ := h
      refine j_getR fgJ22_124 (fun _ _ _ => rfl) dJ22_rotateLeft_67 e22 ?_
      refine j_aload_n (j := 2) dJ22_rotateLeft_70 rfl rfl ?_
      replace h := zbE h
      obtain ⟨a23, e24, h⟩ := h
      subst e24
      replace h := zbE h
      obtain ⟨G25, e26, h⟩ := h
      refine j_putR fpJ22_111_J30 (Or.inl rfl) (Or.inl ⟨_, rfl⟩) dJ22_rotateLeft_71 e26 ?_
      refine j_goto (tgt := 85) dJ22_rotateLeft_74 (by decide) ?_
      exact J.sub (zall [1, 2] rfl) (wfJ22_rotateLeft_85 hd (some a1) (some a5)  G25 h hk)
    · rw [if_neg c20] at h
      refine j_aload_n (j := 1) dJ22_rotateLeft_77 rfl rfl ?_
      replace h := zbE h
      obtain ⟨r27, e28, h⟩ := h
      refine j_getR fgJ22_124 (fun _ _ _ => rfl) dJ22_rotateLeft_78 e28 ?_
      refine j_aload_n (j := 2) dJ22_rotateLeft_81 rfl rfl ?_
      replace h := zbE h
      obtain ⟨a29, e30, h⟩ := h
      subst e30
      replace h := zbE h
      obtain ⟨G31, e32, h⟩ := h
      refine j_putR fpJ22_114_J30 (Or.inl rfl) (Or.inl ⟨_, rfl⟩) dJ22_rotateLeft_82 e32 ?_
      exact J.sub (zall [1, 2] rfl) (wfJ22_rotateLeft_85 hd (some a1) (some a5)  G31 h hk)
def fJ22_rotateLeft_0 (t : Nat) (x1 : Option Nat)  (G : GS) : Option (GS) :=
  zopt x1 (some G) (fun a1 => (zgR G 17 a1 3).bind fun r2 => r2.bind fun a4 => (zgR G 17 a4 2).bind fun r6 => (zpR G 17 a1 3 r6).bind fun G8 => (zgR G8 17 a4 2).bind fun r10 => zopt r10 (fJ22_rotateLeft_32 t (some a1) (some a4) G8) (fun a12 => (zgR G8 17 a4 2).bind fun r13 => r13.bind fun a15 => (zpR G8 17 a15 4 (some a1)).bind fun G17 => fJ22_rotateLeft_32 t (some a1) (some a4) G17))
theorem wfJ22_rotateLeft_0 {F : zF} (hd : 1 ≤ F.2.2.2) (t : Nat) (x1 : Option Nat)  (G : GS) {a : GS} (h : fJ22_rotateLeft_0 t x1  G = some a) (hk : zKV F a) : J mJ22_rotateLeft F G 0 [(0, vR (some t)), (1, vR x1)] [] := by
  unfold fJ22_rotateLeft_0 at h
  refine j_aload_n (j := 1) dJ22_rotateLeft_0 rfl rfl ?_
  rcases x1 with _ | a1
  · replace h := zopt_n h
    refine j_ifnull0 (tgt := 95) dJ22_rotateLeft_1 (by decide) ?_
    obtain rfl := Option.some.inj h
    exact j_vret hk.1 hk.2 rfl dJ22_rotateLeft_95
  · replace h := zopt_s h
    refine j_ifnull1 dJ22_rotateLeft_1 ?_
    refine j_aload_n (j := 1) dJ22_rotateLeft_4 rfl rfl ?_
    replace h := zbE h
    obtain ⟨r2, e3, h⟩ := h
    refine j_getR fgJ22_114 (fun _ _ _ => rfl) dJ22_rotateLeft_5 e3 ?_
    refine j_astore_n (lv' := [(2, vR r2), (0, vR (some t)), (1, vR (some a1))]) dJ22_rotateLeft_8 rfl (Nat.le_of_ble_eq_true rfl) rfl ?_
    refine j_aload_n (j := 2) dJ22_rotateLeft_9 rfl rfl ?_
    refine j_aload_n (j := 0) dJ22_rotateLeft_10 rfl rfl ?_
    replace h := zbE h
    obtain ⟨a4, e5, h⟩ := h
    subst e5
    replace h := zbE h
    obtain ⟨r6, e7, h⟩ := h
    refine j_getR fgJ22_111 (fun _ _ _ => rfl) dJ22_rotateLeft_11 e7 ?_
    replace h := zbE h
    obtain ⟨G8, e9, h⟩ := h
    refine j_putR fpJ22_114_J30 (Or.inl rfl) (Or.inl ⟨_, rfl⟩) dJ22_rotateLeft_14 e9 ?_
    refine j_aload_n (j := 0) dJ22_rotateLeft_17 rfl rfl ?_
    replace h := zbE h
    obtain ⟨r10, e11, h⟩ := h
    refine j_getR fgJ22_111 (fun _ _ _ => rfl) dJ22_rotateLeft_18 e11 ?_
    rcases r10 with _ | a12
    · replace h := zopt_n h
      refine j_ifnull0 (tgt := 32) dJ22_rotateLeft_21 (by decide) ?_
      exact J.sub (zall [1, 2, 0] rfl) (wfJ22_rotateLeft_32 hd t (some a1) (some a4)  G8 h hk)
    · replace h := zopt_s h
      refine j_ifnull1 dJ22_rotateLeft_21 ?_
      refine j_aload_n (j := 0) dJ22_rotateLeft_24 rfl rfl ?_
      replace h := zbE h
      obtain ⟨r13, e14, h⟩ := h
      refine j_getR fgJ22_111 (fun _ _ _ => rfl) dJ22_rotateLeft_25 e14 ?_
      refine j_aload_n (j := 2) dJ22_rotateLeft_28 rfl rfl ?_
      replace h := zbE h
      obtain ⟨a15, e16, h⟩ := h
      subst e16
      replace h := zbE h
      obtain ⟨G17, e18, h⟩ := h
      refine j_putR fpJ22_124_J30 (Or.inl rfl) (Or.inl ⟨_, rfl⟩) dJ22_rotateLeft_29 e18 ?_
      exact J.sub (zall [1, 2, 0] rfl) (wfJ22_rotateLeft_32 hd t (some a1) (some a4)  G17 h hk)
theorem yJ22_rotateLeft_ok {t : Nat} {x1 : Option Nat} {G : GS} {G1 : GS} (h : fJ22_rotateLeft_0 t x1 G = some G1) : zRuns yJ22_rotateLeft (ws_ yJ22_rotateLeft cJ22_rotateLeft 3 none) [vR (some t), vR x1] (.inl none, G, G1, 1) :=
  zentry (M := mJ22_rotateLeft) (plainFor_of_name (by decide +kernel)) ⟨rfl, rfl, rfl, rfl⟩ (Nat.le_of_ble_eq_true rfl) (wfJ22_rotateLeft_0 (Nat.le_refl _) t x1 G h ⟨rfl, rfl⟩)
abbrev mJ22_rotateRight : zM := (cJ22_rotateRight, RJ22, 3, none, "rotateRight", [], "(Ljava/util/TreeMap$Entry;)V")
def fJ22_rotateRight_85 (x1 : Option Nat) (x2 : Option Nat)  (G : GS) : Option (GS) :=
  x2.bind fun a1 => (zpR G 17 a1 3 x1).bind fun G3 => x1.bind fun a5 => (zpR G3 17 a5 4 (some a1)).bind fun G7 => some G7
theorem wfJ22_rotateRight_85 {F : zF} (hd : 1 ≤ F.2.2.2) (x1 : Option Nat) (x2 : Option Nat)  (G : GS) {a : GS} (h : fJ22_rotateRight_85 x1 x2  G = some a) (hk : zKV F a) : J mJ22_rotateRight F G 85 [(1, vR x1), (2, vR x2)] [] := by
  unfold fJ22_rotateRight_85 at h
  refine j_aload_n (j := 1) dJ22_rotateRight_85 rfl rfl ?_
  refine j_aload_n (j := 0) dJ22_rotateRight_86 rfl rfl ?_
  replace h := zbE h
  obtain ⟨a1, e2, h⟩ := h
  subst e2
  replace h := zbE h
  obtain ⟨G3, e4, h⟩ := h
  refine j_putR fpJ22_114_J30 (Or.inl rfl) (Or.inl ⟨_, rfl⟩) dJ22_rotateRight_87 e4 ?_
  refine j_aload_n (j := 0) dJ22_rotateRight_90 rfl rfl ?_
  refine j_aload_n (j := 1) dJ22_rotateRight_91 rfl rfl ?_
  replace h := zbE h
  obtain ⟨a5, e6, h⟩ := h
  subst e6
  replace h := zbE h
  obtain ⟨G7, e8, h⟩ := h
  refine j_putR fpJ22_124_J30 (Or.inl rfl) (Or.inl ⟨_, rfl⟩) dJ22_rotateRight_92 e8 ?_
  obtain rfl := Option.some.inj h
  exact j_vret hk.1 hk.2 rfl dJ22_rotateRight_95
def fJ22_rotateRight_32 (t : Nat) (x1 : Option Nat) (x2 : Option Nat)  (G : GS) : Option (GS) :=
  x1.bind fun a1 => (zgR G 17 a1 4).bind fun r3 => x2.bind fun a5 => (zpR G 17 a5 4 r3).bind fun G7 => (zgR G7 17 a1 4).bind fun r9 => zopt r9 ((zpR G7 16 t 3 (some a5)).bind fun G12 => fJ22_rotateRight_85 (some a1) (some a5) G12) (fun a11 => (zgR G7 17 a1 4).bind fun r14 => r14.bind fun a16 => (zgR G7 17 a16 3).bind fun r18 => if r18 = (some a1) then ((zgR G7 17 a1 4).bind fun r21 => r21.bind fun a23 => (zpR G7 17 a23 3 (some a5)).bind fun G25 => fJ22_rotateRight_85 (some a1) (some a5) G25) else ((zgR G7 17 a1 4).bind fun r27 => r27.bind fun a29 => (zpR G7 17 a29 2 (some a5)).bind fun G31 => fJ22_rotateRight_85 (some a1) (some a5) G31))
theorem wfJ22_rotateRight_32 {F : zF} (hd : 1 ≤ F.2.2.2) (t : Nat) (x1 : Option Nat) (x2 : Option Nat)  (G : GS) {a : GS} (h : fJ22_rotateRight_32 t x1 x2  G = some a) (hk : zKV F a) : J mJ22_rotateRight F G 32 [(0, vR (some t)), (1, vR x1), (2, vR x2)] [] := by
  unfold fJ22_rotateRight_32 at h
  refine j_aload_n (j := 2) dJ22_rotateRight_32 rfl rfl ?_
  refine j_aload_n (j := 1) dJ22_rotateRight_33 rfl rfl ?_
  replace h := zbE h
  obtain ⟨a1, e2, h⟩ := h
  subst e2
  replace h := zbE h
  obtain ⟨r3, e4, h⟩ := h
  refine j_getR fgJ22_124 (fun _ _ _ => rfl) dJ22_rotateRight_34 e4 ?_
  replace h := zbE h
  obtain ⟨a5, e6, h⟩ := h
  subst e6
  replace h := zbE h
  obtain ⟨G7, e8, h⟩ := h
  refine j_putR fpJ22_124_J30 (Or.inl rfl) (Or.inl ⟨_, rfl⟩) dJ22_rotateRight_37 e8 ?_
  refine j_aload_n (j := 1) dJ22_rotateRight_40 rfl rfl ?_
  replace h := zbE h
  obtain ⟨r9, e10, h⟩ := h
  refine j_getR fgJ22_124 (fun _ _ _ => rfl) dJ22_rotateRight_41 e10 ?_
  rcases r9 with _ | a11
  · replace h := zopt_n h
    refine j_ifnonnull0 dJ22_rotateRight_44 ?_
    refine j_aload_n (j := 0) dJ22_rotateRight_47 rfl rfl ?_
    refine j_aload_n (j := 2) dJ22_rotateRight_48 rfl rfl ?_
    replace h := zbE h
    obtain ⟨G12, e13, h⟩ := h
    refine j_putR fpJ22_101_J22 (Or.inl rfl) (Or.inl ⟨_, rfl⟩) dJ22_rotateRight_49 e13 ?_
    refine j_goto (tgt := 85) dJ22_rotateRight_52 (by decide) ?_
    exact J.sub (zall [1, 2] rfl) (wfJ22_rotateRight_85 hd (some a1) (some a5)  G12 h hk)
  · replace h := zopt_s h
    refine j_ifnonnull1 (tgt := 55) dJ22_rotateRight_44 (by decide) ?_
    refine j_aload_n (j := 1) dJ22_rotateRight_55 rfl rfl ?_
    replace h := zbE h
    obtain ⟨r14, e15, h⟩ := h
    refine j_getR fgJ22_124 (fun _ _ _ => rfl) dJ22_rotateRight_56 e15 ?_
    replace h := zbE h
    obtain ⟨a16, e17, h⟩ := h
    subst e17
    replace h := zbE h
    obtain ⟨r18, e19, h⟩ := h
    refine j_getR fgJ22_114 (fun _ _ _ => rfl) dJ22_rotateRight_59 e19 ?_
    refine j_aload_n (j := 1) dJ22_rotateRight_62 rfl rfl ?_
    refine j_acmp_ne (tgt := 77) dJ22_rotateRight_63 (by decide) (fun c20 => ?_) (fun c20 => ?_)
    · rw [if_pos c20] at h
      refine j_aload_n (j := 1) dJ22_rotateRight_66 rfl rfl ?_
      replace h := zbE h
      obtain ⟨r21, e22, h⟩ := h
      refine j_getR fgJ22_124 (fun _ _ _ => rfl) dJ22_rotateRight_67 e22 ?_
      refine j_aload_n (j := 2) dJ22_rotateRight_70 rfl rfl ?_
      replace h := zbE h
      obtain ⟨a23, e24, h⟩ := h
      subst e24
      replace h := zbE h
      obtain ⟨G25, e26, h⟩ := h
      refine j_putR fpJ22_114_J30 (Or.inl rfl) (Or.inl ⟨_, rfl⟩) dJ22_rotateRight_71 e26 ?_
      refine j_goto (tgt := 85) dJ22_rotateRight_74 (by decide) ?_
      exact J.sub (zall [1, 2] rfl) (wfJ22_rotateRight_85 hd (some a1) (some a5)  G25 h hk)
    · rw [if_neg c20] at h
      refine j_aload_n (j := 1) dJ22_rotateRight_77 rfl rfl ?_
      replace h := zbE h
      obtain ⟨r27, e28, h⟩ := h
      refine j_getR fgJ22_124 (fun _ _ _ => rfl) dJ22_rotateRight_78 e28 ?_
      refine j_aload_n (j := 2) dJ22_rotateRight_81 rfl rfl ?_
      replace h := zbE h
      obtain ⟨a29, e30, h⟩ := h
      subst e30
      replace h := zbE h
      obtain ⟨G31, e32, h⟩ := h
      refine j_putR fpJ22_111_J30 (Or.inl rfl) (Or.inl ⟨_, rfl⟩) dJ22_rotateRight_82 e32 ?_
      exact J.sub (zall [1, 2] rfl) (wfJ22_rotateRight_85 hd (some a1) (some a5)  G31 h hk)
def fJ22_rotateRight_0 (t : Nat) (x1 : Option Nat)  (G : GS) : Option (GS) :=
  zopt x1 (some G) (fun a1 => (zgR G 17 a1 2).bind fun r2 => r2.bind fun a4 => (zgR G 17 a4 3).bind fun r6 => (zpR G 17 a1 2 r6).bind fun G8 => (zgR G8 17 a4 3).bind fun r10 => zopt r10 (fJ22_rotateRight_32 t (some a1) (some a4) G8) (fun a12 => (zgR G8 17 a4 3).bind fun r13 => r13.bind fun a15 => (zpR G8 17 a15 4 (some a1)).bind fun G17 => fJ22_rotateRight_32 t (some a1) (some a4) G17))
theorem wfJ22_rotateRight_0 {F : zF} (hd : 1 ≤ F.2.2.2) (t : Nat) (x1 : Option Nat)  (G : GS) {a : GS} (h : fJ22_rotateRight_0 t x1  G = some a) (hk : zKV F a) : J mJ22_rotateRight F G 0 [(0, vR (some t)), (1, vR x1)] [] := by
  unfold fJ22_rotateRight_0 at h
  refine j_aload_n (j := 1) dJ22_rotateRight_0 rfl rfl ?_
  rcases x1 with _ | a1
  · replace h := zopt_n h
    refine j_ifnull0 (tgt := 95) dJ22_rotateRight_1 (by decide) ?_
    obtain rfl := Option.some.inj h
    exact j_vret hk.1 hk.2 rfl dJ22_rotateRight_95
  · replace h := zopt_s h
    refine j_ifnull1 dJ22_rotateRight_1 ?_
    refine j_aload_n (j := 1) dJ22_rotateRight_4 rfl rfl ?_
    replace h := zbE h
    obtain ⟨r2, e3, h⟩ := h
    refine j_getR fgJ22_111 (fun _ _ _ => rfl) dJ22_rotateRight_5 e3 ?_
    refine j_astore_n (lv' := [(2, vR r2), (0, vR (some t)), (1, vR (some a1))]) dJ22_rotateRight_8 rfl (Nat.le_of_ble_eq_true rfl) rfl ?_
    refine j_aload_n (j := 2) dJ22_rotateRight_9 rfl rfl ?_
    refine j_aload_n (j := 0) dJ22_rotateRight_10 rfl rfl ?_
    replace h := zbE h
    obtain ⟨a4, e5, h⟩ := h
    subst e5
    replace h := zbE h
    obtain ⟨r6, e7, h⟩ := h
    refine j_getR fgJ22_114 (fun _ _ _ => rfl) dJ22_rotateRight_11 e7 ?_
    replace h := zbE h
    obtain ⟨G8, e9, h⟩ := h
    refine j_putR fpJ22_111_J30 (Or.inl rfl) (Or.inl ⟨_, rfl⟩) dJ22_rotateRight_14 e9 ?_
    refine j_aload_n (j := 0) dJ22_rotateRight_17 rfl rfl ?_
    replace h := zbE h
    obtain ⟨r10, e11, h⟩ := h
    refine j_getR fgJ22_114 (fun _ _ _ => rfl) dJ22_rotateRight_18 e11 ?_
    rcases r10 with _ | a12
    · replace h := zopt_n h
      refine j_ifnull0 (tgt := 32) dJ22_rotateRight_21 (by decide) ?_
      exact J.sub (zall [1, 2, 0] rfl) (wfJ22_rotateRight_32 hd t (some a1) (some a4)  G8 h hk)
    · replace h := zopt_s h
      refine j_ifnull1 dJ22_rotateRight_21 ?_
      refine j_aload_n (j := 0) dJ22_rotateRight_24 rfl rfl ?_
      replace h := zbE h
      obtain ⟨r13, e14, h⟩ := h
      refine j_getR fgJ22_114 (fun _ _ _ => rfl) dJ22_rotateRight_25 e14 ?_
      refine j_aload_n (j := 2) dJ22_rotateRight_28 rfl rfl ?_
      replace h := zbE h
      obtain ⟨a15, e16, h⟩ := h
      subst e16
      replace h := zbE h
      obtain ⟨G17, e18, h⟩ := h
      refine j_putR fpJ22_124_J30 (Or.inl rfl) (Or.inl ⟨_, rfl⟩) dJ22_rotateRight_29 e18 ?_
      exact J.sub (zall [1, 2, 0] rfl) (wfJ22_rotateRight_32 hd t (some a1) (some a4)  G17 h hk)
theorem yJ22_rotateRight_ok {t : Nat} {x1 : Option Nat} {G : GS} {G1 : GS} (h : fJ22_rotateRight_0 t x1 G = some G1) : zRuns yJ22_rotateRight (ws_ yJ22_rotateRight cJ22_rotateRight 3 none) [vR (some t), vR x1] (.inl none, G, G1, 1) :=
  zentry (M := mJ22_rotateRight) (plainFor_of_name (by decide +kernel)) ⟨rfl, rfl, rfl, rfl⟩ (Nat.le_of_ble_eq_true rfl) (wfJ22_rotateRight_0 (Nat.le_refl _) t x1 G h ⟨rfl, rfl⟩)
theorem fgJ22_101 : zFG RJ22 101 15 3 (.object "java/util/TreeMap$Entry") := ⟨(RJ22, TJ22, 9, tyJ22), rfl, by decide, in_J22, rfl, "java/util/TreeMap", Or.inl rfl, Or.inl q430⟩
theorem msJ22_294 : zSS RJ22 294 yJ22_parentOf cJ22_parentOf 1 (some (Jvm.ClassFile.FieldType.object "java/util/TreeMap$Entry")) 1 := ⟨lw_S q1121 q1122 q150 q1123, (by decide +kernel), (by decide)⟩
theorem msJ22_297 : zSS RJ22 297 yJ22_leftOf cJ22_leftOf 1 (some (Jvm.ClassFile.FieldType.object "java/util/TreeMap$Entry")) 1 := ⟨lw_S q1124 q1125 q150 q1126, (by decide +kernel), (by decide)⟩
theorem msJ22_300 : zSS RJ22 300 yJ22_rightOf cJ22_rightOf 1 (some (Jvm.ClassFile.FieldType.object "java/util/TreeMap$Entry")) 1 := ⟨lw_S q1127 q1128 q150 q1129, (by decide +kernel), (by decide)⟩
theorem msJ22_303 : zSS RJ22 303 yJ22_colorOf cJ22_colorOf 1 (some Jvm.ClassFile.FieldType.boolean) 1 := ⟨lw_S q1130 q1131 q150 q1132, (by decide +kernel), (by decide)⟩
theorem msJ22_307 : zSS RJ22 307 yJ22_setColor cJ22_setColor 2 none 2 := ⟨lw_S q1133 q1134 q150 q1135, (by decide +kernel), (by decide)⟩
theorem msJ22_311 : zSV RJ22 311 RJ22 yJ22_rotateLeft cJ22_rotateLeft 3 none 1 := ⟨lw_V q1136 q1138 qs18 q150 q1139, (by decide +kernel), (by decide)⟩
theorem msJ22_314 : zSV RJ22 314 RJ22 yJ22_rotateRight cJ22_rotateRight 3 none 1 := ⟨lw_V q1140 q1142 qs19 q150 q1143, (by decide +kernel), (by decide)⟩
abbrev mJ22_fixAfterInsertion : zM := (cJ22_fixAfterInsertion, RJ22, 3, none, "fixAfterInsertion", [], "(Ljava/util/TreeMap$Entry;)V")
def fJ22_fixAfterInsertion_258 (t : Nat)  (G : GS) : Option (GS) :=
  (zgR G 16 t 3).bind fun r1 => r1.bind fun a3 => (zpZ G 17 a3 5 1).bind fun G5 => some G5
theorem wfJ22_fixAfterInsertion_258 {F : zF} (hd : 2 ≤ F.2.2.2) (t : Nat)  (G : GS) {a : GS} (h : fJ22_fixAfterInsertion_258 t  G = some a) (hk : zKV F a) : J mJ22_fixAfterInsertion F G 258 [(0, vR (some t))] [] := by
  unfold fJ22_fixAfterInsertion_258 at h
  refine j_aload_n (j := 0) dJ22_fixAfterInsertion_258 rfl rfl ?_
  replace h := zbE h
  obtain ⟨r1, e2, h⟩ := h
  refine j_getR fgJ22_101 (fun _ _ _ => rfl) dJ22_fixAfterInsertion_259 e2 ?_
  refine j_iconst (v := 1) dJ22_fixAfterInsertion_262 (by decide) ?_
  replace h := zbE h
  obtain ⟨a3, e4, h⟩ := h
  subst e4
  replace h := zbE h
  obtain ⟨G5, e6, h⟩ := h
  refine j_putZ fpJ22_290_J30 (Or.inl rfl) rfl dJ22_fixAfterInsertion_263 e6 ?_
  obtain rfl := Option.some.inj h
  exact j_vret hk.1 hk.2 rfl dJ22_fixAfterInsertion_266
def fJ22_fixAfterInsertion_148 (t : Nat) (x1 : Option Nat)  (G : GS) : Option (((Option Nat) × GS) ⊕ (GS)) :=
  some (.inl (x1, G))
theorem wfJ22_fixAfterInsertion_148 {F : zF} (hd : 2 ≤ F.2.2.2) (t : Nat) (x1 : Option Nat)  (G : GS) {a : ((Option Nat) × GS) ⊕ (GS)} (h : fJ22_fixAfterInsertion_148 t x1  G = some a) (hk : (zcase (fun s : (Option Nat) × GS => J mJ22_fixAfterInsertion F s.2 5 [(0, vR (some t)), (1, vR s.1)] []) (zKV F)) a) : J mJ22_fixAfterInsertion F G 148 [(0, vR (some t)), (1, vR x1)] [] := by
  unfold fJ22_fixAfterInsertion_148 at h
  refine j_goto (tgt := 5) dJ22_fixAfterInsertion_148 (by decide) ?_
  obtain rfl := Option.some.inj h
  exact J.sub (zall [0, 1] rfl) hk
def fJ22_fixAfterInsertion_118 (t : Nat) (x1 : Option Nat)  (G : GS) : Option (((Option Nat) × GS) ⊕ (GS)) :=
  (fJ22_parentOf_0 x1 G).bind fun r2 => (fJ22_setColor_0 r2 1 G).bind fun G4 => (fJ22_parentOf_0 x1 G4).bind fun r6 => (fJ22_parentOf_0 r6 G4).bind fun r8 => (fJ22_setColor_0 r8 0 G4).bind fun G10 => (fJ22_parentOf_0 x1 G10).bind fun r12 => (fJ22_parentOf_0 r12 G10).bind fun r14 => zk [16] G10 t <| (fJ22_rotateRight_0 t r14 G10).bind fun G17 => fJ22_fixAfterInsertion_148 t x1 G17
theorem wfJ22_fixAfterInsertion_118 {F : zF} (hd : 2 ≤ F.2.2.2) (t : Nat) (x1 : Option Nat)  (G : GS) {a : ((Option Nat) × GS) ⊕ (GS)} (h : fJ22_fixAfterInsertion_118 t x1  G = some a) (hk : (zcase (fun s : (Option Nat) × GS => J mJ22_fixAfterInsertion F s.2 5 [(0, vR (some t)), (1, vR s.1)] []) (zKV F)) a) : J mJ22_fixAfterInsertion F G 118 [(0, vR (some t)), (1, vR x1)] [] := by
  unfold fJ22_fixAfterInsertion_118 at h
  refine j_aload_n (j := 1) dJ22_fixAfterInsertion_118 rfl rfl ?_
  replace h := zbE h
  obtain ⟨r2, e1, h⟩ := h
  refine j_cont (zrS (As := [vR x1]) msJ22_294 (yJ22_parentOf_ok e1) (Nat.le_trans (Nat.le_of_ble_eq_true rfl) hd) rfl rfl (Nat.le_of_ble_eq_true rfl) dJ22_fixAfterInsertion_119) ?_
  refine j_iconst (v := 1) dJ22_fixAfterInsertion_122 (by decide) ?_
  replace h := zbE h
  obtain ⟨G4, e3, h⟩ := h
  refine j_cont (zrS (As := [vR r2, vI 1]) msJ22_307 (yJ22_setColor_ok e3) (Nat.le_trans (Nat.le_of_ble_eq_true rfl) hd) rfl rfl (Nat.le_of_ble_eq_true rfl) dJ22_fixAfterInsertion_123) ?_
  refine j_aload_n (j := 1) dJ22_fixAfterInsertion_126 rfl rfl ?_
  replace h := zbE h
  obtain ⟨r6, e5, h⟩ := h
  refine j_cont (zrS (As := [vR x1]) msJ22_294 (yJ22_parentOf_ok e5) (Nat.le_trans (Nat.le_of_ble_eq_true rfl) hd) rfl rfl (Nat.le_of_ble_eq_true rfl) dJ22_fixAfterInsertion_127) ?_
  replace h := zbE h
  obtain ⟨r8, e7, h⟩ := h
  refine j_cont (zrS (As := [vR r6]) msJ22_294 (yJ22_parentOf_ok e7) (Nat.le_trans (Nat.le_of_ble_eq_true rfl) hd) rfl rfl (Nat.le_of_ble_eq_true rfl) dJ22_fixAfterInsertion_130) ?_
  refine j_iconst (v := 0) dJ22_fixAfterInsertion_133 (by decide) ?_
  replace h := zbE h
  obtain ⟨G10, e9, h⟩ := h
  refine j_cont (zrS (As := [vR r8, vI 0]) msJ22_307 (yJ22_setColor_ok e9) (Nat.le_trans (Nat.le_of_ble_eq_true rfl) hd) rfl rfl (Nat.le_of_ble_eq_true rfl) dJ22_fixAfterInsertion_134) ?_
  refine j_aload_n (j := 0) dJ22_fixAfterInsertion_137 rfl rfl ?_
  refine j_aload_n (j := 1) dJ22_fixAfterInsertion_138 rfl rfl ?_
  replace h := zbE h
  obtain ⟨r12, e11, h⟩ := h
  refine j_cont (zrS (As := [vR x1]) msJ22_294 (yJ22_parentOf_ok e11) (Nat.le_trans (Nat.le_of_ble_eq_true rfl) hd) rfl rfl (Nat.le_of_ble_eq_true rfl) dJ22_fixAfterInsertion_139) ?_
  replace h := zbE h
  obtain ⟨r14, e13, h⟩ := h
  refine j_cont (zrS (As := [vR r12]) msJ22_294 (yJ22_parentOf_ok e13) (Nat.le_trans (Nat.le_of_ble_eq_true rfl) hd) rfl rfl (Nat.le_of_ble_eq_true rfl) dJ22_fixAfterInsertion_142) ?_
  replace h := zkE h
  obtain ⟨e15, h⟩ := h
  replace h := zbE h
  obtain ⟨G17, e16, h⟩ := h
  refine j_cont (zrV (As := [vR r14]) msJ22_314 (yJ22_rotateRight_ok e16) (Nat.le_trans (Nat.le_of_ble_eq_true rfl) hd) (zk_16 _ e15) rfl rfl (Nat.le_of_ble_eq_true rfl) dJ22_fixAfterInsertion_145) ?_
  exact J.sub (zall [0, 1] rfl) (wfJ22_fixAfterInsertion_148 hd t x1  G17 h hk)
def fJ22_fixAfterInsertion_255 (t : Nat) (x1 : Option Nat)  (G : GS) : Option (((Option Nat) × GS) ⊕ (GS)) :=
  some (.inl (x1, G))
theorem wfJ22_fixAfterInsertion_255 {F : zF} (hd : 2 ≤ F.2.2.2) (t : Nat) (x1 : Option Nat)  (G : GS) {a : ((Option Nat) × GS) ⊕ (GS)} (h : fJ22_fixAfterInsertion_255 t x1  G = some a) (hk : (zcase (fun s : (Option Nat) × GS => J mJ22_fixAfterInsertion F s.2 5 [(0, vR (some t)), (1, vR s.1)] []) (zKV F)) a) : J mJ22_fixAfterInsertion F G 255 [(0, vR (some t)), (1, vR x1)] [] := by
  unfold fJ22_fixAfterInsertion_255 at h
  refine j_goto (tgt := 5) dJ22_fixAfterInsertion_255 (by decide) ?_
  obtain rfl := Option.some.inj h
  exact J.sub (zall [0, 1] rfl) hk
def fJ22_fixAfterInsertion_225 (t : Nat) (x1 : Option Nat)  (G : GS) : Option (((Option Nat) × GS) ⊕ (GS)) :=
  (fJ22_parentOf_0 x1 G).bind fun r2 => (fJ22_setColor_0 r2 1 G).bind fun G4 => (fJ22_parentOf_0 x1 G4).bind fun r6 => (fJ22_parentOf_0 r6 G4).bind fun r8 => (fJ22_setColor_0 r8 0 G4).bind fun G10 => (fJ22_parentOf_0 x1 G10).bind fun r12 => (fJ22_parentOf_0 r12 G10).bind fun r14 => zk [16] G10 t <| (fJ22_rotateLeft_0 t r14 G10).bind fun G17 => fJ22_fixAfterInsertion_255 t x1 G17
theorem wfJ22_fixAfterInsertion_225 {F : zF} (hd : 2 ≤ F.2.2.2) (t : Nat) (x1 : Option Nat)  (G : GS) {a : ((Option Nat) × GS) ⊕ (GS)} (h : fJ22_fixAfterInsertion_225 t x1  G = some a) (hk : (zcase (fun s : (Option Nat) × GS => J mJ22_fixAfterInsertion F s.2 5 [(0, vR (some t)), (1, vR s.1)] []) (zKV F)) a) : J mJ22_fixAfterInsertion F G 225 [(0, vR (some t)), (1, vR x1)] [] := by
  unfold fJ22_fixAfterInsertion_225 at h
  refine j_aload_n (j := 1) dJ22_fixAfterInsertion_225 rfl rfl ?_
  replace h := zbE h
  obtain ⟨r2, e1, h⟩ := h
  refine j_cont (zrS (As := [vR x1]) msJ22_294 (yJ22_parentOf_ok e1) (Nat.le_trans (Nat.le_of_ble_eq_true rfl) hd) rfl rfl (Nat.le_of_ble_eq_true rfl) dJ22_fixAfterInsertion_226) ?_
  refine j_iconst (v := 1) dJ22_fixAfterInsertion_229 (by decide) ?_
  replace h := zbE h
  obtain ⟨G4, e3, h⟩ := h
  refine j_cont (zrS (As := [vR r2, vI 1]) msJ22_307 (yJ22_setColor_ok e3) (Nat.le_trans (Nat.le_of_ble_eq_true rfl) hd) rfl rfl (Nat.le_of_ble_eq_true rfl) dJ22_fixAfterInsertion_230) ?_
  refine j_aload_n (j := 1) dJ22_fixAfterInsertion_233 rfl rfl ?_
  replace h := zbE h
  obtain ⟨r6, e5, h⟩ := h
  refine j_cont (zrS (As := [vR x1]) msJ22_294 (yJ22_parentOf_ok e5) (Nat.le_trans (Nat.le_of_ble_eq_true rfl) hd) rfl rfl (Nat.le_of_ble_eq_true rfl) dJ22_fixAfterInsertion_234) ?_
  replace h := zbE h
  obtain ⟨r8, e7, h⟩ := h
  refine j_cont (zrS (As := [vR r6]) msJ22_294 (yJ22_parentOf_ok e7) (Nat.le_trans (Nat.le_of_ble_eq_true rfl) hd) rfl rfl (Nat.le_of_ble_eq_true rfl) dJ22_fixAfterInsertion_237) ?_
  refine j_iconst (v := 0) dJ22_fixAfterInsertion_240 (by decide) ?_
  replace h := zbE h
  obtain ⟨G10, e9, h⟩ := h
  refine j_cont (zrS (As := [vR r8, vI 0]) msJ22_307 (yJ22_setColor_ok e9) (Nat.le_trans (Nat.le_of_ble_eq_true rfl) hd) rfl rfl (Nat.le_of_ble_eq_true rfl) dJ22_fixAfterInsertion_241) ?_
  refine j_aload_n (j := 0) dJ22_fixAfterInsertion_244 rfl rfl ?_
  refine j_aload_n (j := 1) dJ22_fixAfterInsertion_245 rfl rfl ?_
  replace h := zbE h
  obtain ⟨r12, e11, h⟩ := h
  refine j_cont (zrS (As := [vR x1]) msJ22_294 (yJ22_parentOf_ok e11) (Nat.le_trans (Nat.le_of_ble_eq_true rfl) hd) rfl rfl (Nat.le_of_ble_eq_true rfl) dJ22_fixAfterInsertion_246) ?_
  replace h := zbE h
  obtain ⟨r14, e13, h⟩ := h
  refine j_cont (zrS (As := [vR r12]) msJ22_294 (yJ22_parentOf_ok e13) (Nat.le_trans (Nat.le_of_ble_eq_true rfl) hd) rfl rfl (Nat.le_of_ble_eq_true rfl) dJ22_fixAfterInsertion_249) ?_
  replace h := zkE h
  obtain ⟨e15, h⟩ := h
  replace h := zbE h
  obtain ⟨G17, e16, h⟩ := h
  refine j_cont (zrV (As := [vR r14]) msJ22_311 (yJ22_rotateLeft_ok e16) (Nat.le_trans (Nat.le_of_ble_eq_true rfl) hd) (zk_16 _ e15) rfl rfl (Nat.le_of_ble_eq_true rfl) dJ22_fixAfterInsertion_252) ?_
  exact J.sub (zall [0, 1] rfl) (wfJ22_fixAfterInsertion_255 hd t x1  G17 h hk)
def fbJ22_fixAfterInsertion_5 (t : Nat) (x1 : Option Nat)  (G : GS) : Option (((Option Nat) × GS) ⊕ (GS)) :=
  zopt x1 (zo (fJ22_fixAfterInsertion_258 t G)) (fun a1 => (zgR G 16 t 3).bind fun r2 => if (some a1) = r2 then (zo (fJ22_fixAfterInsertion_258 t G)) else ((zgR G 17 a1 4).bind fun r5 => r5.bind fun a7 => (zgI G 17 a7 5).bind fun v9 => if v9 = 0 then ((fJ22_parentOf_0 (some a1) G).bind fun r13 => (fJ22_parentOf_0 (some a1) G).bind fun r15 => (fJ22_parentOf_0 r15 G).bind fun r17 => (fJ22_leftOf_0 r17 G).bind fun r19 => if r13 = r19 then ((fJ22_parentOf_0 (some a1) G).bind fun r22 => (fJ22_parentOf_0 r22 G).bind fun r24 => (fJ22_rightOf_0 r24 G).bind fun r26 => (fJ22_colorOf_0 r26 G).bind fun v28 => if v28 = 0 then ((fJ22_parentOf_0 (some a1) G).bind fun r31 => (fJ22_setColor_0 r31 1 G).bind fun G33 => (fJ22_setColor_0 r26 1 G33).bind fun G35 => (fJ22_parentOf_0 (some a1) G35).bind fun r37 => (fJ22_parentOf_0 r37 G35).bind fun r39 => (fJ22_setColor_0 r39 0 G35).bind fun G41 => (fJ22_parentOf_0 (some a1) G41).bind fun r43 => (fJ22_parentOf_0 r43 G41).bind fun r45 => fJ22_fixAfterInsertion_148 t r45 G41) else ((fJ22_parentOf_0 (some a1) G).bind fun r47 => (fJ22_rightOf_0 r47 G).bind fun r49 => if (some a1) = r49 then ((fJ22_parentOf_0 (some a1) G).bind fun r52 => zk [16] G t <| (fJ22_rotateLeft_0 t r52 G).bind fun G55 => fJ22_fixAfterInsertion_118 t r52 G55) else (fJ22_fixAfterInsertion_118 t (some a1) G))) else ((fJ22_parentOf_0 (some a1) G).bind fun r57 => (fJ22_parentOf_0 r57 G).bind fun r59 => (fJ22_leftOf_0 r59 G).bind fun r61 => (fJ22_colorOf_0 r61 G).bind fun v63 => if v63 = 0 then ((fJ22_parentOf_0 (some a1) G).bind fun r66 => (fJ22_setColor_0 r66 1 G).bind fun G68 => (fJ22_setColor_0 r61 1 G68).bind fun G70 => (fJ22_parentOf_0 (some a1) G70).bind fun r72 => (fJ22_parentOf_0 r72 G70).bind fun r74 => (fJ22_setColor_0 r74 0 G70).bind fun G76 => (fJ22_parentOf_0 (some a1) G76).bind fun r78 => (fJ22_parentOf_0 r78 G76).bind fun r80 => fJ22_fixAfterInsertion_255 t r80 G76) else ((fJ22_parentOf_0 (some a1) G).bind fun r82 => (fJ22_leftOf_0 r82 G).bind fun r84 => if (some a1) = r84 then ((fJ22_parentOf_0 (some a1) G).bind fun r87 => zk [16] G t <| (fJ22_rotateRight_0 t r87 G).bind fun G90 => fJ22_fixAfterInsertion_225 t r87 G90) else (fJ22_fixAfterInsertion_225 t (some a1) G)))) else (zo (fJ22_fixAfterInsertion_258 t G))))
def flJ22_fixAfterInsertion_5 (t : Nat) (x1 : Option Nat) (G : GS) : Option (GS) := zloop (fun s : (Option Nat) × GS => fbJ22_fixAfterInsertion_5 t s.1 s.2) (x1, G)
theorem wfbJ22_fixAfterInsertion_5 {F : zF} (hd : 2 ≤ F.2.2.2) (t : Nat) (x1 : Option Nat) (G : GS) {a : ((Option Nat) × GS) ⊕ (GS)} (h : fbJ22_fixAfterInsertion_5 t x1 G = some a) (hk : (zcase (fun s : (Option Nat) × GS => J mJ22_fixAfterInsertion F s.2 5 [(0, vR (some t)), (1, vR s.1)] []) (zKV F)) a) : J mJ22_fixAfterInsertion F G 5 [(0, vR (some t)), (1, vR x1)] [] := by
  unfold fbJ22_fixAfterInsertion_5 at h
  refine j_aload_n (j := 1) dJ22_fixAfterInsertion_5 rfl rfl ?_
  rcases x1 with _ | a1
  · replace h := zopt_n h
    refine j_ifnull0 (tgt := 258) dJ22_fixAfterInsertion_6 (by decide) ?_
    replace h := zoE h
    obtain ⟨a, h, rfl⟩ := h
    replace hk := hk
    exact J.sub (zall [0] rfl) (wfJ22_fixAfterInsertion_258 hd t  G h hk)
  · replace h := zopt_s h
    refine j_ifnull1 dJ22_fixAfterInsertion_6 ?_
    refine j_aload_n (j := 1) dJ22_fixAfterInsertion_9 rfl rfl ?_
    refine j_aload_n (j := 0) dJ22_fixAfterInsertion_10 rfl rfl ?_
    replace h := zbE h
    obtain ⟨r2, e3, h⟩ := h
    refine j_getR fgJ22_101 (fun _ _ _ => rfl) dJ22_fixAfterInsertion_11 e3 ?_
    refine j_acmp_eq (tgt := 258) dJ22_fixAfterInsertion_14 (by decide) (fun c4 => ?_) (fun c4 => ?_)
    · rw [if_pos c4] at h
      replace h := zoE h
      obtain ⟨a, h, rfl⟩ := h
      replace hk := hk
      exact J.sub (zall [0] rfl) (wfJ22_fixAfterInsertion_258 hd t  G h hk)
    · rw [if_neg c4] at h
      refine j_aload_n (j := 1) dJ22_fixAfterInsertion_17 rfl rfl ?_
      replace h := zbE h
      obtain ⟨r5, e6, h⟩ := h
      refine j_getR fgJ22_124 (fun _ _ _ => rfl) dJ22_fixAfterInsertion_18 e6 ?_
      replace h := zbE h
      obtain ⟨a7, e8, h⟩ := h
      subst e8
      replace h := zbE h
      obtain ⟨v9, e10, h⟩ := h
      refine j_getI fgJ22_290 (fun _ _ _ => rfl) dJ22_fixAfterInsertion_21 e10 ?_
      refine j_if_ne (tgt := 258) dJ22_fixAfterInsertion_24 (by decide) (fun c11 => ?_) (fun c11 => ?_)
      · rw [if_pos c11] at h
        refine j_aload_n (j := 1) dJ22_fixAfterInsertion_27 rfl rfl ?_
        replace h := zbE h
        obtain ⟨r13, e12, h⟩ := h
        refine j_cont (zrS (As := [vR (some a1)]) msJ22_294 (yJ22_parentOf_ok e12) (Nat.le_trans (Nat.le_of_ble_eq_true rfl) hd) rfl rfl (Nat.le_of_ble_eq_true rfl) dJ22_fixAfterInsertion_28) ?_
        refine j_aload_n (j := 1) dJ22_fixAfterInsertion_31 rfl rfl ?_
        replace h := zbE h
        obtain ⟨r15, e14, h⟩ := h
        refine j_cont (zrS (As := [vR (some a1)]) msJ22_294 (yJ22_parentOf_ok e14) (Nat.le_trans (Nat.le_of_ble_eq_true rfl) hd) rfl rfl (Nat.le_of_ble_eq_true rfl) dJ22_fixAfterInsertion_32) ?_
        replace h := zbE h
        obtain ⟨r17, e16, h⟩ := h
        refine j_cont (zrS (As := [vR r15]) msJ22_294 (yJ22_parentOf_ok e16) (Nat.le_trans (Nat.le_of_ble_eq_true rfl) hd) rfl rfl (Nat.le_of_ble_eq_true rfl) dJ22_fixAfterInsertion_35) ?_
        replace h := zbE h
        obtain ⟨r19, e18, h⟩ := h
        refine j_cont (zrS (As := [vR r17]) msJ22_297 (yJ22_leftOf_ok e18) (Nat.le_trans (Nat.le_of_ble_eq_true rfl) hd) rfl rfl (Nat.le_of_ble_eq_true rfl) dJ22_fixAfterInsertion_38) ?_
        refine j_acmp_ne (tgt := 151) dJ22_fixAfterInsertion_41 (by decide) (fun c20 => ?_) (fun c20 => ?_)
        · rw [if_pos c20] at h
          refine j_aload_n (j := 1) dJ22_fixAfterInsertion_44 rfl rfl ?_
          replace h := zbE h
          obtain ⟨r22, e21, h⟩ := h
          refine j_cont (zrS (As := [vR (some a1)]) msJ22_294 (yJ22_parentOf_ok e21) (Nat.le_trans (Nat.le_of_ble_eq_true rfl) hd) rfl rfl (Nat.le_of_ble_eq_true rfl) dJ22_fixAfterInsertion_45) ?_
          replace h := zbE h
          obtain ⟨r24, e23, h⟩ := h
          refine j_cont (zrS (As := [vR r22]) msJ22_294 (yJ22_parentOf_ok e23) (Nat.le_trans (Nat.le_of_ble_eq_true rfl) hd) rfl rfl (Nat.le_of_ble_eq_true rfl) dJ22_fixAfterInsertion_48) ?_
          replace h := zbE h
          obtain ⟨r26, e25, h⟩ := h
          refine j_cont (zrS (As := [vR r24]) msJ22_300 (yJ22_rightOf_ok e25) (Nat.le_trans (Nat.le_of_ble_eq_true rfl) hd) rfl rfl (Nat.le_of_ble_eq_true rfl) dJ22_fixAfterInsertion_51) ?_
          refine j_astore_n (lv' := [(2, vR r26), (0, vR (some t)), (1, vR (some a1))]) dJ22_fixAfterInsertion_54 rfl (Nat.le_of_ble_eq_true rfl) rfl ?_
          refine j_aload_n (j := 0) dJ22_fixAfterInsertion_55 rfl rfl ?_
          replace h := zbE h
          obtain ⟨v28, e27, h⟩ := h
          refine j_cont (zrS (As := [vR r26]) msJ22_303 (yJ22_colorOf_ok e27) (Nat.le_trans (Nat.le_of_ble_eq_true rfl) hd) rfl rfl (Nat.le_of_ble_eq_true rfl) dJ22_fixAfterInsertion_56) ?_
          refine j_if_ne (tgt := 97) dJ22_fixAfterInsertion_59 (by decide) (fun c29 => ?_) (fun c29 => ?_)
          · rw [if_pos c29] at h
            refine j_aload_n (j := 2) dJ22_fixAfterInsertion_62 rfl rfl ?_
            replace h := zbE h
            obtain ⟨r31, e30, h⟩ := h
            refine j_cont (zrS (As := [vR (some a1)]) msJ22_294 (yJ22_parentOf_ok e30) (Nat.le_trans (Nat.le_of_ble_eq_true rfl) hd) rfl rfl (Nat.le_of_ble_eq_true rfl) dJ22_fixAfterInsertion_63) ?_
            refine j_iconst (v := 1) dJ22_fixAfterInsertion_66 (by decide) ?_
            replace h := zbE h
            obtain ⟨G33, e32, h⟩ := h
            refine j_cont (zrS (As := [vR r31, vI 1]) msJ22_307 (yJ22_setColor_ok e32) (Nat.le_trans (Nat.le_of_ble_eq_true rfl) hd) rfl rfl (Nat.le_of_ble_eq_true rfl) dJ22_fixAfterInsertion_67) ?_
            refine j_aload_n (j := 0) dJ22_fixAfterInsertion_70 rfl rfl ?_
            refine j_iconst (v := 1) dJ22_fixAfterInsertion_71 (by decide) ?_
            replace h := zbE h
            obtain ⟨G35, e34, h⟩ := h
            refine j_cont (zrS (As := [vR r26, vI 1]) msJ22_307 (yJ22_setColor_ok e34) (Nat.le_trans (Nat.le_of_ble_eq_true rfl) hd) rfl rfl (Nat.le_of_ble_eq_true rfl) dJ22_fixAfterInsertion_72) ?_
            refine j_aload_n (j := 2) dJ22_fixAfterInsertion_75 rfl rfl ?_
            replace h := zbE h
            obtain ⟨r37, e36, h⟩ := h
            refine j_cont (zrS (As := [vR (some a1)]) msJ22_294 (yJ22_parentOf_ok e36) (Nat.le_trans (Nat.le_of_ble_eq_true rfl) hd) rfl rfl (Nat.le_of_ble_eq_true rfl) dJ22_fixAfterInsertion_76) ?_
            replace h := zbE h
            obtain ⟨r39, e38, h⟩ := h
            refine j_cont (zrS (As := [vR r37]) msJ22_294 (yJ22_parentOf_ok e38) (Nat.le_trans (Nat.le_of_ble_eq_true rfl) hd) rfl rfl (Nat.le_of_ble_eq_true rfl) dJ22_fixAfterInsertion_79) ?_
            refine j_iconst (v := 0) dJ22_fixAfterInsertion_82 (by decide) ?_
            replace h := zbE h
            obtain ⟨G41, e40, h⟩ := h
            refine j_cont (zrS (As := [vR r39, vI 0]) msJ22_307 (yJ22_setColor_ok e40) (Nat.le_trans (Nat.le_of_ble_eq_true rfl) hd) rfl rfl (Nat.le_of_ble_eq_true rfl) dJ22_fixAfterInsertion_83) ?_
            refine j_aload_n (j := 2) dJ22_fixAfterInsertion_86 rfl rfl ?_
            replace h := zbE h
            obtain ⟨r43, e42, h⟩ := h
            refine j_cont (zrS (As := [vR (some a1)]) msJ22_294 (yJ22_parentOf_ok e42) (Nat.le_trans (Nat.le_of_ble_eq_true rfl) hd) rfl rfl (Nat.le_of_ble_eq_true rfl) dJ22_fixAfterInsertion_87) ?_
            replace h := zbE h
            obtain ⟨r45, e44, h⟩ := h
            refine j_cont (zrS (As := [vR r43]) msJ22_294 (yJ22_parentOf_ok e44) (Nat.le_trans (Nat.le_of_ble_eq_true rfl) hd) rfl rfl (Nat.le_of_ble_eq_true rfl) dJ22_fixAfterInsertion_90) ?_
            refine j_astore_n (lv' := [(1, vR r45), (2, vR r26), (0, vR (some t))]) dJ22_fixAfterInsertion_93 rfl (Nat.le_of_ble_eq_true rfl) rfl ?_
            refine j_goto (tgt := 148) dJ22_fixAfterInsertion_94 (by decide) ?_
            exact J.sub (zall [2, 0] rfl) (wfJ22_fixAfterInsertion_148 hd t r45  G41 h hk)
          · rw [if_neg c29] at h
            refine j_aload_n (j := 2) dJ22_fixAfterInsertion_97 rfl rfl ?_
            refine j_aload_n (j := 2) dJ22_fixAfterInsertion_98 rfl rfl ?_
            replace h := zbE h
            obtain ⟨r47, e46, h⟩ := h
            refine j_cont (zrS (As := [vR (some a1)]) msJ22_294 (yJ22_parentOf_ok e46) (Nat.le_trans (Nat.le_of_ble_eq_true rfl) hd) rfl rfl (Nat.le_of_ble_eq_true rfl) dJ22_fixAfterInsertion_99) ?_
            replace h := zbE h
            obtain ⟨r49, e48, h⟩ := h
            refine j_cont (zrS (As := [vR r47]) msJ22_300 (yJ22_rightOf_ok e48) (Nat.le_trans (Nat.le_of_ble_eq_true rfl) hd) rfl rfl (Nat.le_of_ble_eq_true rfl) dJ22_fixAfterInsertion_102) ?_
            refine j_acmp_ne (tgt := 118) dJ22_fixAfterInsertion_105 (by decide) (fun c50 => ?_) (fun c50 => ?_)
            · rw [if_pos c50] at h
              refine j_aload_n (j := 2) dJ22_fixAfterInsertion_108 rfl rfl ?_
              replace h := zbE h
              obtain ⟨r52, e51, h⟩ := h
              refine j_cont (zrS (As := [vR (some a1)]) msJ22_294 (yJ22_parentOf_ok e51) (Nat.le_trans (Nat.le_of_ble_eq_true rfl) hd) rfl rfl (Nat.le_of_ble_eq_true rfl) dJ22_fixAfterInsertion_109) ?_
              refine j_astore_n (lv' := [(1, vR r52), (2, vR r26), (0, vR (some t))]) dJ22_fixAfterInsertion_112 rfl (Nat.le_of_ble_eq_true rfl) rfl ?_
              refine j_aload_n (j := 2) dJ22_fixAfterInsertion_113 rfl rfl ?_
              refine j_aload_n (j := 0) dJ22_fixAfterInsertion_114 rfl rfl ?_
              replace h := zkE h
              obtain ⟨e53, h⟩ := h
              replace h := zbE h
              obtain ⟨G55, e54, h⟩ := h
              refine j_cont (zrV (As := [vR r52]) msJ22_311 (yJ22_rotateLeft_ok e54) (Nat.le_trans (Nat.le_of_ble_eq_true rfl) hd) (zk_16 _ e53) rfl rfl (Nat.le_of_ble_eq_true rfl) dJ22_fixAfterInsertion_115) ?_
              exact J.sub (zall [2, 0] rfl) (wfJ22_fixAfterInsertion_118 hd t r52  G55 h hk)
            · rw [if_neg c50] at h
              exact J.sub (zall [1, 2] rfl) (wfJ22_fixAfterInsertion_118 hd t (some a1)  G h hk)
        · rw [if_neg c20] at h
          refine j_aload_n (j := 1) dJ22_fixAfterInsertion_151 rfl rfl ?_
          replace h := zbE h
          obtain ⟨r57, e56, h⟩ := h
          refine j_cont (zrS (As := [vR (some a1)]) msJ22_294 (yJ22_parentOf_ok e56) (Nat.le_trans (Nat.le_of_ble_eq_true rfl) hd) rfl rfl (Nat.le_of_ble_eq_true rfl) dJ22_fixAfterInsertion_152) ?_
          replace h := zbE h
          obtain ⟨r59, e58, h⟩ := h
          refine j_cont (zrS (As := [vR r57]) msJ22_294 (yJ22_parentOf_ok e58) (Nat.le_trans (Nat.le_of_ble_eq_true rfl) hd) rfl rfl (Nat.le_of_ble_eq_true rfl) dJ22_fixAfterInsertion_155) ?_
          replace h := zbE h
          obtain ⟨r61, e60, h⟩ := h
          refine j_cont (zrS (As := [vR r59]) msJ22_297 (yJ22_leftOf_ok e60) (Nat.le_trans (Nat.le_of_ble_eq_true rfl) hd) rfl rfl (Nat.le_of_ble_eq_true rfl) dJ22_fixAfterInsertion_158) ?_
          refine j_astore_n (lv' := [(2, vR r61), (0, vR (some t)), (1, vR (some a1))]) dJ22_fixAfterInsertion_161 rfl (Nat.le_of_ble_eq_true rfl) rfl ?_
          refine j_aload_n (j := 0) dJ22_fixAfterInsertion_162 rfl rfl ?_
          replace h := zbE h
          obtain ⟨v63, e62, h⟩ := h
          refine j_cont (zrS (As := [vR r61]) msJ22_303 (yJ22_colorOf_ok e62) (Nat.le_trans (Nat.le_of_ble_eq_true rfl) hd) rfl rfl (Nat.le_of_ble_eq_true rfl) dJ22_fixAfterInsertion_163) ?_
          refine j_if_ne (tgt := 204) dJ22_fixAfterInsertion_166 (by decide) (fun c64 => ?_) (fun c64 => ?_)
          · rw [if_pos c64] at h
            refine j_aload_n (j := 2) dJ22_fixAfterInsertion_169 rfl rfl ?_
            replace h := zbE h
            obtain ⟨r66, e65, h⟩ := h
            refine j_cont (zrS (As := [vR (some a1)]) msJ22_294 (yJ22_parentOf_ok e65) (Nat.le_trans (Nat.le_of_ble_eq_true rfl) hd) rfl rfl (Nat.le_of_ble_eq_true rfl) dJ22_fixAfterInsertion_170) ?_
            refine j_iconst (v := 1) dJ22_fixAfterInsertion_173 (by decide) ?_
            replace h := zbE h
            obtain ⟨G68, e67, h⟩ := h
            refine j_cont (zrS (As := [vR r66, vI 1]) msJ22_307 (yJ22_setColor_ok e67) (Nat.le_trans (Nat.le_of_ble_eq_true rfl) hd) rfl rfl (Nat.le_of_ble_eq_true rfl) dJ22_fixAfterInsertion_174) ?_
            refine j_aload_n (j := 0) dJ22_fixAfterInsertion_177 rfl rfl ?_
            refine j_iconst (v := 1) dJ22_fixAfterInsertion_178 (by decide) ?_
            replace h := zbE h
            obtain ⟨G70, e69, h⟩ := h
            refine j_cont (zrS (As := [vR r61, vI 1]) msJ22_307 (yJ22_setColor_ok e69) (Nat.le_trans (Nat.le_of_ble_eq_true rfl) hd) rfl rfl (Nat.le_of_ble_eq_true rfl) dJ22_fixAfterInsertion_179) ?_
            refine j_aload_n (j := 2) dJ22_fixAfterInsertion_182 rfl rfl ?_
            replace h := zbE h
            obtain ⟨r72, e71, h⟩ := h
            refine j_cont (zrS (As := [vR (some a1)]) msJ22_294 (yJ22_parentOf_ok e71) (Nat.le_trans (Nat.le_of_ble_eq_true rfl) hd) rfl rfl (Nat.le_of_ble_eq_true rfl) dJ22_fixAfterInsertion_183) ?_
            replace h := zbE h
            obtain ⟨r74, e73, h⟩ := h
            refine j_cont (zrS (As := [vR r72]) msJ22_294 (yJ22_parentOf_ok e73) (Nat.le_trans (Nat.le_of_ble_eq_true rfl) hd) rfl rfl (Nat.le_of_ble_eq_true rfl) dJ22_fixAfterInsertion_186) ?_
            refine j_iconst (v := 0) dJ22_fixAfterInsertion_189 (by decide) ?_
            replace h := zbE h
            obtain ⟨G76, e75, h⟩ := h
            refine j_cont (zrS (As := [vR r74, vI 0]) msJ22_307 (yJ22_setColor_ok e75) (Nat.le_trans (Nat.le_of_ble_eq_true rfl) hd) rfl rfl (Nat.le_of_ble_eq_true rfl) dJ22_fixAfterInsertion_190) ?_
            refine j_aload_n (j := 2) dJ22_fixAfterInsertion_193 rfl rfl ?_
            replace h := zbE h
            obtain ⟨r78, e77, h⟩ := h
            refine j_cont (zrS (As := [vR (some a1)]) msJ22_294 (yJ22_parentOf_ok e77) (Nat.le_trans (Nat.le_of_ble_eq_true rfl) hd) rfl rfl (Nat.le_of_ble_eq_true rfl) dJ22_fixAfterInsertion_194) ?_
            replace h := zbE h
            obtain ⟨r80, e79, h⟩ := h
            refine j_cont (zrS (As := [vR r78]) msJ22_294 (yJ22_parentOf_ok e79) (Nat.le_trans (Nat.le_of_ble_eq_true rfl) hd) rfl rfl (Nat.le_of_ble_eq_true rfl) dJ22_fixAfterInsertion_197) ?_
            refine j_astore_n (lv' := [(1, vR r80), (2, vR r61), (0, vR (some t))]) dJ22_fixAfterInsertion_200 rfl (Nat.le_of_ble_eq_true rfl) rfl ?_
            refine j_goto (tgt := 255) dJ22_fixAfterInsertion_201 (by decide) ?_
            exact J.sub (zall [2, 0] rfl) (wfJ22_fixAfterInsertion_255 hd t r80  G76 h hk)
          · rw [if_neg c64] at h
            refine j_aload_n (j := 2) dJ22_fixAfterInsertion_204 rfl rfl ?_
            refine j_aload_n (j := 2) dJ22_fixAfterInsertion_205 rfl rfl ?_
            replace h := zbE h
            obtain ⟨r82, e81, h⟩ := h
            refine j_cont (zrS (As := [vR (some a1)]) msJ22_294 (yJ22_parentOf_ok e81) (Nat.le_trans (Nat.le_of_ble_eq_true rfl) hd) rfl rfl (Nat.le_of_ble_eq_true rfl) dJ22_fixAfterInsertion_206) ?_
            replace h := zbE h
            obtain ⟨r84, e83, h⟩ := h
            refine j_cont (zrS (As := [vR r82]) msJ22_297 (yJ22_leftOf_ok e83) (Nat.le_trans (Nat.le_of_ble_eq_true rfl) hd) rfl rfl (Nat.le_of_ble_eq_true rfl) dJ22_fixAfterInsertion_209) ?_
            refine j_acmp_ne (tgt := 225) dJ22_fixAfterInsertion_212 (by decide) (fun c85 => ?_) (fun c85 => ?_)
            · rw [if_pos c85] at h
              refine j_aload_n (j := 2) dJ22_fixAfterInsertion_215 rfl rfl ?_
              replace h := zbE h
              obtain ⟨r87, e86, h⟩ := h
              refine j_cont (zrS (As := [vR (some a1)]) msJ22_294 (yJ22_parentOf_ok e86) (Nat.le_trans (Nat.le_of_ble_eq_true rfl) hd) rfl rfl (Nat.le_of_ble_eq_true rfl) dJ22_fixAfterInsertion_216) ?_
              refine j_astore_n (lv' := [(1, vR r87), (2, vR r61), (0, vR (some t))]) dJ22_fixAfterInsertion_219 rfl (Nat.le_of_ble_eq_true rfl) rfl ?_
              refine j_aload_n (j := 2) dJ22_fixAfterInsertion_220 rfl rfl ?_
              refine j_aload_n (j := 0) dJ22_fixAfterInsertion_221 rfl rfl ?_
              replace h := zkE h
              obtain ⟨e88, h⟩ := h
              replace h := zbE h
              obtain ⟨G90, e89, h⟩ := h
              refine j_cont (zrV (As := [vR r87]) msJ22_314 (yJ22_rotateRight_ok e89) (Nat.le_trans (Nat.le_of_ble_eq_true rfl) hd) (zk_16 _ e88) rfl rfl (Nat.le_of_ble_eq_true rfl) dJ22_fixAfterInsertion_222) ?_
              exact J.sub (zall [2, 0] rfl) (wfJ22_fixAfterInsertion_225 hd t r87  G90 h hk)
            · rw [if_neg c85] at h
              exact J.sub (zall [1, 2] rfl) (wfJ22_fixAfterInsertion_225 hd t (some a1)  G h hk)
      · rw [if_neg c11] at h
        replace h := zoE h
        obtain ⟨a, h, rfl⟩ := h
        replace hk := hk
        exact J.sub (zall [0] rfl) (wfJ22_fixAfterInsertion_258 hd t  G h hk)
theorem wflJ22_fixAfterInsertion_5 {F : zF} (hd : 2 ≤ F.2.2.2) (t : Nat) (x1 : Option Nat) (G : GS) {a : GS} (h : flJ22_fixAfterInsertion_5 t x1 G = some a) (hk : zKV F a) : J mJ22_fixAfterInsertion F G 5 [(0, vR (some t)), (1, vR x1)] [] := by
  unfold flJ22_fixAfterInsertion_5 at h
  exact zloop_walk (P := (fun s : (Option Nat) × GS => J mJ22_fixAfterInsertion F s.2 5 [(0, vR (some t)), (1, vR s.1)] [])) (fun s b e hk => wfbJ22_fixAfterInsertion_5 hd t s.1 s.2 e hk) (x1, G) _ h hk
def fJ22_fixAfterInsertion_0 (t : Nat) (x1 : Option Nat)  (G : GS) : Option (GS) :=
  x1.bind fun a1 => (zpZ G 17 a1 5 0).bind fun G3 => flJ22_fixAfterInsertion_5 t (some a1) G3
theorem wfJ22_fixAfterInsertion_0 {F : zF} (hd : 2 ≤ F.2.2.2) (t : Nat) (x1 : Option Nat)  (G : GS) {a : GS} (h : fJ22_fixAfterInsertion_0 t x1  G = some a) (hk : zKV F a) : J mJ22_fixAfterInsertion F G 0 [(0, vR (some t)), (1, vR x1)] [] := by
  unfold fJ22_fixAfterInsertion_0 at h
  refine j_aload_n (j := 1) dJ22_fixAfterInsertion_0 rfl rfl ?_
  refine j_iconst (v := 0) dJ22_fixAfterInsertion_1 (by decide) ?_
  replace h := zbE h
  obtain ⟨a1, e2, h⟩ := h
  subst e2
  replace h := zbE h
  obtain ⟨G3, e4, h⟩ := h
  refine j_putZ fpJ22_290_J30 (Or.inl rfl) rfl dJ22_fixAfterInsertion_2 e4 ?_
  exact J.sub (zall [0, 1] rfl) (wflJ22_fixAfterInsertion_5 hd t (some a1)  G3 h hk)
theorem yJ22_fixAfterInsertion_ok {t : Nat} {x1 : Option Nat} {G : GS} {G1 : GS} (h : fJ22_fixAfterInsertion_0 t x1 G = some G1) : zRuns yJ22_fixAfterInsertion (ws_ yJ22_fixAfterInsertion cJ22_fixAfterInsertion 3 none) [vR (some t), vR x1] (.inl none, G, G1, 2) :=
  zentry (M := mJ22_fixAfterInsertion) (plainFor_of_name (by decide +kernel)) ⟨rfl, rfl, rfl, rfl⟩ (Nat.le_of_ble_eq_true rfl) (wfJ22_fixAfterInsertion_0 (Nat.le_refl _) t x1 G h ⟨rfl, rfl⟩)
theorem fgJ22_7 : zFG RJ22 7 15 4 (.int) := ⟨(RJ22, TJ22, 9, tyJ22), rfl, by decide, in_J22, rfl, "java/util/TreeMap", Or.inl rfl, Or.inl q431⟩
theorem msJ22_170 : zSV RJ22 170 RJ22 yJ22_fixAfterInsertion cJ22_fixAfterInsertion 3 none 1 := ⟨lw_V q1117 q1119 qs17 q150 q1120, (by decide +kernel), (by decide)⟩
abbrev mJ22_addEntry : zM := (cJ22_addEntry, RJ22, 6, none, "addEntry", [], "(Ljava/lang/Object;Ljava/lang/Object;Ljava/util/TreeMap$Entry;Z)V")
def fJ22_addEntry_32 (t : Nat) (x5 : Option Nat)  (G : GS) : Option (GS) :=
  zk [16] G t <| (fJ22_fixAfterInsertion_0 t x5 G).bind fun G3 => (zgI G3 16 t 4).bind fun v4 => (zpI G3 16 t 4 (v4 + 1)).bind fun G6 => (zgI G6 16 t 5).bind fun v8 => (zpI G6 16 t 5 (v8 + 1)).bind fun G10 => some G10
theorem wfJ22_addEntry_32 {F : zF} (hd : 3 ≤ F.2.2.2) (t : Nat) (x5 : Option Nat)  (G : GS) {a : GS} (h : fJ22_addEntry_32 t x5  G = some a) (hk : zKV F a) : J mJ22_addEntry F G 32 [(0, vR (some t)), (5, vR x5)] [] := by
  unfold fJ22_addEntry_32 at h
  refine j_aload_n (j := 0) dJ22_addEntry_32 rfl rfl ?_
  refine j_aload (j := 1) dJ22_addEntry_33 rfl ?_
  replace h := zkE h
  obtain ⟨e1, h⟩ := h
  replace h := zbE h
  obtain ⟨G3, e2, h⟩ := h
  refine j_cont (zrV (As := [vR x5]) msJ22_170 (yJ22_fixAfterInsertion_ok e2) (Nat.le_trans (Nat.le_of_ble_eq_true rfl) hd) (zk_16 _ e1) rfl rfl (Nat.le_of_ble_eq_true rfl) dJ22_addEntry_35) ?_
  refine j_aload_n (j := 0) dJ22_addEntry_38 rfl rfl ?_
  refine j_dup dJ22_addEntry_39 rfl ?_
  replace h := zbE h
  obtain ⟨v4, e5, h⟩ := h
  refine j_getI fgJ22_7 (fun _ _ _ => rfl) dJ22_addEntry_40 e5 ?_
  refine j_iconst (v := 1) dJ22_addEntry_43 (by decide) ?_
  refine j_iadd dJ22_addEntry_44 ?_
  replace h := zbE h
  obtain ⟨G6, e7, h⟩ := h
  refine j_putI fpJ22_7_J22 (Or.inl rfl) rfl dJ22_addEntry_45 e7 ?_
  refine j_aload_n (j := 0) dJ22_addEntry_48 rfl rfl ?_
  refine j_dup dJ22_addEntry_49 rfl ?_
  replace h := zbE h
  obtain ⟨v8, e9, h⟩ := h
  refine j_getI fgJ22_13 (fun _ _ _ => rfl) dJ22_addEntry_50 e9 ?_
  refine j_iconst (v := 1) dJ22_addEntry_53 (by decide) ?_
  refine j_iadd dJ22_addEntry_54 ?_
  replace h := zbE h
  obtain ⟨G10, e11, h⟩ := h
  refine j_putI fpJ22_13_J22 (Or.inl rfl) rfl dJ22_addEntry_55 e11 ?_
  obtain rfl := Option.some.inj h
  exact j_vret hk.1 hk.2 rfl dJ22_addEntry_58
def fJ22_addEntry_0 (t : Nat) (x1 : Option Nat) (x2 : Option Nat) (x3 : Option Nat) (x4 : Int32)  (G : GS) : Option (GS) :=
  zl (al G 17 0 6) fun G1 => (fJ30_init_0 (gz G) x1 x2 x3 G1).bind fun G4 => if x4 = 0 then (x3.bind fun a6 => (zpR G4 17 a6 3 (some (gz G))).bind fun G8 => fJ22_addEntry_32 t (some (gz G)) G8) else (x3.bind fun a10 => (zpR G4 17 a10 2 (some (gz G))).bind fun G12 => fJ22_addEntry_32 t (some (gz G)) G12)
theorem wfJ22_addEntry_0 {F : zF} (hd : 3 ≤ F.2.2.2) (t : Nat) (x1 : Option Nat) (x2 : Option Nat) (x3 : Option Nat) (x4 : Int32)  (G : GS) {a : GS} (h : fJ22_addEntry_0 t x1 x2 x3 x4  G = some a) (hk : zKV F a) : J mJ22_addEntry F G 0 [(0, vR (some t)), (1, vR x1), (2, vR x2), (3, vR x3), (4, vI x4)] [] := by
  unfold fJ22_addEntry_0 at h
  replace h := zlE h
  obtain ⟨G1, e2, h⟩ := h
  refine j_new (c := 16) (n := 6) (r := (RJ30, TJ30, 6, tyJ30)) rfl rfl in_J30 tyJ30_ok nwJ30 q1080 q1081 q162 dJ22_addEntry_0 ?_
  rw [show al G (16 + 1) 0 6 = G1 from e2.symm]
  refine j_dup dJ22_addEntry_3 rfl ?_
  refine j_aload_n (j := 1) dJ22_addEntry_4 rfl rfl ?_
  refine j_aload_n (j := 2) dJ22_addEntry_5 rfl rfl ?_
  refine j_aload_n (j := 3) dJ22_addEntry_6 rfl rfl ?_
  replace h := zbE h
  obtain ⟨G4, e3, h⟩ := h
  refine j_cont (zrI (As := [vR x1, vR x2, vR x3]) msJ22_167 (yJ30_init_ok e3) (Nat.le_trans (Nat.le_of_ble_eq_true rfl) hd) rfl rfl (Nat.le_of_ble_eq_true rfl) dJ22_addEntry_7) ?_
  refine j_astore (lv' := [(5, vR (some (gz G))), (0, vR (some t)), (1, vR x1), (2, vR x2), (3, vR x3), (4, vI x4)]) dJ22_addEntry_10 (Nat.le_of_ble_eq_true rfl) rfl ?_
  refine j_iload (j := 5) dJ22_addEntry_12 rfl ?_
  refine j_if_eq (tgt := 26) dJ22_addEntry_14 (by decide) (fun c5 => ?_) (fun c5 => ?_)
  · rw [if_pos c5] at h
    refine j_aload_n (j := 4) dJ22_addEntry_26 rfl rfl ?_
    refine j_aload (j := 0) dJ22_addEntry_27 rfl ?_
    replace h := zbE h
    obtain ⟨a6, e7, h⟩ := h
    subst e7
    replace h := zbE h
    obtain ⟨G8, e9, h⟩ := h
    refine j_putR fpJ22_114_J30 (Or.inl rfl) (Or.inl ⟨_, rfl⟩) dJ22_addEntry_29 e9 ?_
    exact J.sub (zall [1, 0] rfl) (wfJ22_addEntry_32 hd t (some (gz G))  G8 h hk)
  · rw [if_neg c5] at h
    refine j_aload_n (j := 4) dJ22_addEntry_17 rfl rfl ?_
    refine j_aload (j := 0) dJ22_addEntry_18 rfl ?_
    replace h := zbE h
    obtain ⟨a10, e11, h⟩ := h
    subst e11
    replace h := zbE h
    obtain ⟨G12, e13, h⟩ := h
    refine j_putR fpJ22_111_J30 (Or.inl rfl) (Or.inl ⟨_, rfl⟩) dJ22_addEntry_20 e13 ?_
    refine j_goto (tgt := 32) dJ22_addEntry_23 (by decide) ?_
    exact J.sub (zall [1, 0] rfl) (wfJ22_addEntry_32 hd t (some (gz G))  G12 h hk)
theorem yJ22_addEntry_ok {t : Nat} {x1 : Option Nat} {x2 : Option Nat} {x3 : Option Nat} {x4 : Int32} {G : GS} {G1 : GS} (h : fJ22_addEntry_0 t x1 x2 x3 x4 G = some G1) : zRuns yJ22_addEntry (ws_ yJ22_addEntry cJ22_addEntry 6 none) [vR (some t), vR x1, vR x2, vR x3, vI x4] (.inl none, G, G1, 3) :=
  zentry (M := mJ22_addEntry) (plainFor_of_name (by decide +kernel)) ⟨rfl, rfl, rfl, rfl⟩ (Nat.le_of_ble_eq_true rfl) (wfJ22_addEntry_0 (Nat.le_refl _) t x1 x2 x3 x4 G h ⟨rfl, rfl⟩)
theorem fgJ22_105 : zFG RJ22 105 16 0 (.object "java/lang/Object") := ⟨(RJ30, TJ30, 6, tyJ30), rfl, by decide, in_J30, rfl, "java/util/TreeMap$Entry", Or.inl rfl, Or.inl q1087⟩
theorem fgJ22_58 : zFG RJ22 58 16 1 (.object "java/lang/Object") := ⟨(RJ30, TJ30, 6, tyJ30), rfl, by decide, in_J30, rfl, "java/util/TreeMap$Entry", Or.inl rfl, Or.inl q1090⟩
theorem fpJ22_58_J30 : zFP RJ22 58 16 1 (.object "java/lang/Object") false := ⟨(RJ30, TJ30, 6, tyJ30), rfl, by decide, in_J30, tyJ30_ok, nmJ30, rfl, rfl, (by decide), "java/util/TreeMap$Entry", Or.inl rfl, q1090⟩
theorem msJ22_135 : zSV RJ22 135 RJ22 yJ22_addEntryToEmptyMap cJ22_addEntryToEmptyMap 3 none 2 := ⟨lw_V q1067 q1069 qs15 q150 q1070, (by decide +kernel), (by decide)⟩
theorem msJ22_139 : zSV RJ22 139 RJ22 yJ22_addEntry cJ22_addEntry 6 none 4 := ⟨lw_V q1113 q1115 qs16 q150 q1116, (by decide +kernel), (by decide)⟩
theorem msJ22_95 : zSS RJ22 95 yJ16_requireNonNull cJ16_requireNonNull 1 (some (Jvm.ClassFile.FieldType.object "java/lang/Object")) 1 := ⟨lw_S q1110 q1111 q143 q1112, (by decide +kernel), (by decide)⟩
abbrev mJ22_put_2 : zM := (cJ22_put_2, RJ22, 10, (some (Jvm.ClassFile.FieldType.object "java/lang/Object")), "put", [], "(Ljava/lang/Object;Ljava/lang/Object;Z)Ljava/lang/Object;")
def fJ22_put_2_187 (x2 : Option Nat) (x4 : Option Nat) (x9 : Option Nat)  (G : GS) : Option ((Option Nat) × GS) :=
  x4.bind fun a1 => (zpR G 17 a1 1 x2).bind fun G3 => some (x9, G3)
theorem wfJ22_put_2_187 {F : zF} (hd : 6 ≤ F.2.2.2) (x2 : Option Nat) (x4 : Option Nat) (x9 : Option Nat)  (G : GS) {a : (Option Nat) × GS} (h : fJ22_put_2_187 x2 x4 x9  G = some a) (hk : zKR F a) : J mJ22_put_2 F G 187 [(2, vR x2), (4, vR x4), (9, vR x9)] [] := by
  unfold fJ22_put_2_187 at h
  refine j_aload (j := 1) dJ22_put_2_187 rfl ?_
  refine j_aload_n (j := 0) dJ22_put_2_189 rfl rfl ?_
  replace h := zbE h
  obtain ⟨a1, e2, h⟩ := h
  subst e2
  replace h := zbE h
  obtain ⟨G3, e4, h⟩ := h
  refine j_putR fpJ22_58_J30 (Or.inl rfl) (Or.inl ⟨_, rfl⟩) dJ22_put_2_190 e4 ?_
  refine j_aload (j := 2) dJ22_put_2_193 rfl ?_
  obtain rfl := Option.some.inj h
  exact j_aret hk.1 hk.2 rfl (Or.inl ⟨_, rfl⟩) dJ22_put_2_195
def fJ22_put_2_171 (x2 : Option Nat) (x3 : Int32) (x4 : Option Nat)  (G : GS) : Option ((Option Nat) × GS) :=
  x4.bind fun a1 => (zgR G 17 a1 1).bind fun r3 => if x3 = 0 then (zopt r3 (fJ22_put_2_187 x2 (some a1) none G) (fun a6 => some ((some a6), G))) else (fJ22_put_2_187 x2 (some a1) r3 G)
theorem wfJ22_put_2_171 {F : zF} (hd : 6 ≤ F.2.2.2) (x2 : Option Nat) (x3 : Int32) (x4 : Option Nat)  (G : GS) {a : (Option Nat) × GS} (h : fJ22_put_2_171 x2 x3 x4  G = some a) (hk : zKR F a) : J mJ22_put_2 F G 171 [(2, vR x2), (3, vI x3), (4, vR x4)] [] := by
  unfold fJ22_put_2_171 at h
  refine j_aload (j := 2) dJ22_put_2_171 rfl ?_
  replace h := zbE h
  obtain ⟨a1, e2, h⟩ := h
  subst e2
  replace h := zbE h
  obtain ⟨r3, e4, h⟩ := h
  refine j_getR fgJ22_58 (fun _ _ _ => rfl) dJ22_put_2_173 e4 ?_
  refine j_astore (lv' := [(9, vR r3), (2, vR x2), (3, vI x3), (4, vR (some a1))]) dJ22_put_2_176 (Nat.le_of_ble_eq_true rfl) rfl ?_
  refine j_iload_n (j := 2) dJ22_put_2_178 rfl rfl ?_
  refine j_if_ne (tgt := 187) dJ22_put_2_179 (by decide) (fun c5 => ?_) (fun c5 => ?_)
  · rw [if_pos c5] at h
    refine j_aload (j := 0) dJ22_put_2_182 rfl ?_
    rcases r3 with _ | a6
    · replace h := zopt_n h
      refine j_ifnonnull0 dJ22_put_2_184 ?_
      exact J.sub (zall [1, 3, 0] rfl) (wfJ22_put_2_187 hd x2 (some a1) none  G h hk)
    · replace h := zopt_s h
      refine j_ifnonnull1 (tgt := 193) dJ22_put_2_184 (by decide) ?_
      refine j_aload (j := 0) dJ22_put_2_193 rfl ?_
      obtain rfl := Option.some.inj h
      exact j_aret hk.1 hk.2 rfl (Or.inl ⟨_, rfl⟩) dJ22_put_2_195
  · rw [if_neg c5] at h
    exact J.sub (zall [1, 3, 0] rfl) (wfJ22_put_2_187 hd x2 (some a1) r3  G h hk)
def fJ22_put_2_201 (t : Nat) (x1 : Option Nat) (x2 : Option Nat) (x5 : Int32) (x6 : Option Nat)  (G : GS) : Option ((Option Nat) × GS) :=
  if 0 ≤ x5 then (zk [16] G t <| (fJ22_addEntry_0 t x1 x2 x6 0 G).bind fun G4 => some (none, G4)) else (zk [16] G t <| (fJ22_addEntry_0 t x1 x2 x6 1 G).bind fun G7 => some (none, G7))
theorem wfJ22_put_2_201 {F : zF} (hd : 6 ≤ F.2.2.2) (t : Nat) (x1 : Option Nat) (x2 : Option Nat) (x5 : Int32) (x6 : Option Nat)  (G : GS) {a : (Option Nat) × GS} (h : fJ22_put_2_201 t x1 x2 x5 x6  G = some a) (hk : zKR F a) : J mJ22_put_2 F G 201 [(0, vR (some t)), (1, vR x1), (2, vR x2), (5, vI x5), (6, vR x6)] [] := by
  unfold fJ22_put_2_201 at h
  refine j_aload_n (j := 0) dJ22_put_2_201 rfl rfl ?_
  refine j_aload_n (j := 1) dJ22_put_2_202 rfl rfl ?_
  refine j_aload_n (j := 2) dJ22_put_2_203 rfl rfl ?_
  refine j_aload (j := 4) dJ22_put_2_204 rfl ?_
  refine j_iload (j := 3) dJ22_put_2_206 rfl ?_
  refine j_if_ge (tgt := 215) dJ22_put_2_208 (by decide) (fun c1 => ?_) (fun c1 => ?_)
  · rw [if_pos c1] at h
    refine j_iconst (v := 0) dJ22_put_2_215 (by decide) ?_
    replace h := zkE h
    obtain ⟨e2, h⟩ := h
    replace h := zbE h
    obtain ⟨G4, e3, h⟩ := h
    refine j_cont (zrV (As := [vR x1, vR x2, vR x6, vI 0]) msJ22_139 (yJ22_addEntry_ok e3) (Nat.le_trans (Nat.le_of_ble_eq_true rfl) hd) (zk_16 _ e2) rfl rfl (Nat.le_of_ble_eq_true rfl) dJ22_put_2_216) ?_
    refine j_null dJ22_put_2_219 ?_
    obtain rfl := Option.some.inj h
    exact j_aret hk.1 hk.2 rfl (Or.inl ⟨_, rfl⟩) dJ22_put_2_220
  · rw [if_neg c1] at h
    refine j_iconst (v := 1) dJ22_put_2_211 (by decide) ?_
    refine j_goto (tgt := 216) dJ22_put_2_212 (by decide) ?_
    replace h := zkE h
    obtain ⟨e5, h⟩ := h
    replace h := zbE h
    obtain ⟨G7, e6, h⟩ := h
    refine j_cont (zrV (As := [vR x1, vR x2, vR x6, vI 1]) msJ22_139 (yJ22_addEntry_ok e6) (Nat.le_trans (Nat.le_of_ble_eq_true rfl) hd) (zk_16 _ e5) rfl rfl (Nat.le_of_ble_eq_true rfl) dJ22_put_2_216) ?_
    refine j_null dJ22_put_2_219 ?_
    obtain rfl := Option.some.inj h
    exact j_aret hk.1 hk.2 rfl (Or.inl ⟨_, rfl⟩) dJ22_put_2_220
def fJ22_put_2_196 (t : Nat) (x1 : Option Nat) (x2 : Option Nat) (x3 : Int32) (x4 : Option Nat) (x5 : Int32) (x6 : Option Nat) (x8 : Option Nat)  (G : GS) : Option (((Option Nat)) ⊕ ((Option Nat) × GS)) :=
  zopt x4 (zo (fJ22_put_2_201 t x1 x2 x5 x6 G)) (fun a1 => some (.inl ((some a1))))
theorem wfJ22_put_2_196 {F : zF} (hd : 6 ≤ F.2.2.2) (t : Nat) (x1 : Option Nat) (x2 : Option Nat) (x3 : Int32) (x4 : Option Nat) (x5 : Int32) (x6 : Option Nat) (x8 : Option Nat)  (G : GS) {a : ((Option Nat)) ⊕ ((Option Nat) × GS)} (h : fJ22_put_2_196 t x1 x2 x3 x4 x5 x6 x8  G = some a) (hk : (zcase (fun s : (Option Nat) => J mJ22_put_2 F G 123 [(0, vR (some t)), (1, vR x1), (2, vR x2), (3, vI x3), (4, vR s), (8, vR x8)] []) (zKR F)) a) : J mJ22_put_2 F G 196 [(0, vR (some t)), (1, vR x1), (2, vR x2), (3, vI x3), (4, vR x4), (5, vI x5), (6, vR x6), (8, vR x8)] [] := by
  unfold fJ22_put_2_196 at h
  refine j_aload (j := 4) dJ22_put_2_196 rfl ?_
  rcases x4 with _ | a1
  · replace h := zopt_n h
    refine j_ifnonnull0 dJ22_put_2_198 ?_
    replace h := zoE h
    obtain ⟨a, h, rfl⟩ := h
    replace hk := hk
    exact J.sub (zall [0, 1, 2, 5, 6] rfl) (wfJ22_put_2_201 hd t x1 x2 x5 x6  G h hk)
  · replace h := zopt_s h
    refine j_ifnonnull1 (tgt := 123) dJ22_put_2_198 (by decide) ?_
    obtain rfl := Option.some.inj h
    exact J.sub (zall [0, 1, 2, 3, 4, 7] rfl) hk
def fbJ22_put_2_123 (t : Nat) (x1 : Option Nat) (x2 : Option Nat) (x3 : Int32) (x4 : Option Nat) (x8 : Option Nat)  (G : GS) : Option (((Option Nat)) ⊕ ((Option Nat) × GS)) :=
  x4.bind fun a1 => (zgR G 17 a1 0).bind fun r3 => x8.bind fun a5 => zk [21, 61] G a5 <| (fJ26_compareTo_0 a5 r3 G).bind fun v9 => if 0 ≤ v9 then (if v9 ≤ 0 then (zo (fJ22_put_2_171 x2 x3 (some a1) G)) else ((zgR G 17 a1 3).bind fun r12 => fJ22_put_2_196 t x1 x2 x3 r12 v9 (some a1) (some a5) G)) else ((zgR G 17 a1 2).bind fun r14 => fJ22_put_2_196 t x1 x2 x3 r14 v9 (some a1) (some a5) G)
def flJ22_put_2_123 (t : Nat) (x1 : Option Nat) (x2 : Option Nat) (x3 : Int32) (x4 : Option Nat) (x8 : Option Nat) (G : GS) : Option ((Option Nat) × GS) := zloop (fun s : (Option Nat) => fbJ22_put_2_123 t x1 x2 x3 s x8 G) (x4)
theorem wfbJ22_put_2_123 {F : zF} (hd : 6 ≤ F.2.2.2) (t : Nat) (x1 : Option Nat) (x2 : Option Nat) (x3 : Int32) (x4 : Option Nat) (x8 : Option Nat) (G : GS) {a : ((Option Nat)) ⊕ ((Option Nat) × GS)} (h : fbJ22_put_2_123 t x1 x2 x3 x4 x8 G = some a) (hk : (zcase (fun s : (Option Nat) => J mJ22_put_2 F G 123 [(0, vR (some t)), (1, vR x1), (2, vR x2), (3, vI x3), (4, vR s), (8, vR x8)] []) (zKR F)) a) : J mJ22_put_2 F G 123 [(0, vR (some t)), (1, vR x1), (2, vR x2), (3, vI x3), (4, vR x4), (8, vR x8)] [] := by
  unfold fbJ22_put_2_123 at h
  refine j_aload (j := 4) dJ22_put_2_123 rfl ?_
  refine j_astore (lv' := [(6, vR x4), (0, vR (some t)), (1, vR x1), (2, vR x2), (3, vI x3), (4, vR x4), (8, vR x8)]) dJ22_put_2_125 (Nat.le_of_ble_eq_true rfl) rfl ?_
  refine j_aload (j := 6) dJ22_put_2_127 rfl ?_
  refine j_aload (j := 5) dJ22_put_2_129 rfl ?_
  replace h := zbE h
  obtain ⟨a1, e2, h⟩ := h
  subst e2
  replace h := zbE h
  obtain ⟨r3, e4, h⟩ := h
  refine j_getR fgJ22_105 (fun _ _ _ => rfl) dJ22_put_2_131 e4 ?_
  replace h := zbE h
  obtain ⟨a5, e6, h⟩ := h
  subst e6
  replace h := zkE h
  obtain ⟨e7, h⟩ := h
  replace h := zbE h
  obtain ⟨v9, e8, h⟩ := h
  refine j_cont (zrF (As := [vR r3]) msJ22_107_J26 (yJ26_compareTo_ok e8) (Nat.le_trans (Nat.le_of_ble_eq_true rfl) hd) (zk_21_61 _ e7) rfl rfl (Nat.le_of_ble_eq_true rfl) dJ22_put_2_134) ?_
  refine j_istore (lv' := [(5, vI v9), (6, vR (some a1)), (0, vR (some t)), (1, vR x1), (2, vR x2), (3, vI x3), (4, vR (some a1)), (8, vR (some a5))]) dJ22_put_2_139 (Nat.le_of_ble_eq_true rfl) rfl ?_
  refine j_iload (j := 0) dJ22_put_2_141 rfl ?_
  refine j_if_ge (tgt := 156) dJ22_put_2_143 (by decide) (fun c10 => ?_) (fun c10 => ?_)
  · rw [if_pos c10] at h
    refine j_iload (j := 0) dJ22_put_2_156 rfl ?_
    refine j_if_le (tgt := 171) dJ22_put_2_158 (by decide) (fun c11 => ?_) (fun c11 => ?_)
    · rw [if_pos c11] at h
      replace h := zoE h
      obtain ⟨a, h, rfl⟩ := h
      replace hk := hk
      exact J.sub (zall [4, 5, 6] rfl) (wfJ22_put_2_171 hd x2 x3 (some a1)  G h hk)
    · rw [if_neg c11] at h
      refine j_aload (j := 6) dJ22_put_2_161 rfl ?_
      replace h := zbE h
      obtain ⟨r12, e13, h⟩ := h
      refine j_getR fgJ22_114 (fun _ _ _ => rfl) dJ22_put_2_163 e13 ?_
      refine j_astore (lv' := [(4, vR r12), (5, vI v9), (6, vR (some a1)), (0, vR (some t)), (1, vR x1), (2, vR x2), (3, vI x3), (8, vR (some a5))]) dJ22_put_2_166 (Nat.le_of_ble_eq_true rfl) rfl ?_
      refine j_goto (tgt := 196) dJ22_put_2_168 (by decide) ?_
      exact J.sub (zall [3, 4, 5, 6, 0, 1, 2, 7] rfl) (wfJ22_put_2_196 hd t x1 x2 x3 r12 v9 (some a1) (some a5)  G h hk)
  · rw [if_neg c10] at h
    refine j_aload (j := 6) dJ22_put_2_146 rfl ?_
    replace h := zbE h
    obtain ⟨r14, e15, h⟩ := h
    refine j_getR fgJ22_111 (fun _ _ _ => rfl) dJ22_put_2_148 e15 ?_
    refine j_astore (lv' := [(4, vR r14), (5, vI v9), (6, vR (some a1)), (0, vR (some t)), (1, vR x1), (2, vR x2), (3, vI x3), (8, vR (some a5))]) dJ22_put_2_151 (Nat.le_of_ble_eq_true rfl) rfl ?_
    refine j_goto (tgt := 196) dJ22_put_2_153 (by decide) ?_
    exact J.sub (zall [3, 4, 5, 6, 0, 1, 2, 7] rfl) (wfJ22_put_2_196 hd t x1 x2 x3 r14 v9 (some a1) (some a5)  G h hk)
theorem wflJ22_put_2_123 {F : zF} (hd : 6 ≤ F.2.2.2) (t : Nat) (x1 : Option Nat) (x2 : Option Nat) (x3 : Int32) (x4 : Option Nat) (x8 : Option Nat) (G : GS) {a : (Option Nat) × GS} (h : flJ22_put_2_123 t x1 x2 x3 x4 x8 G = some a) (hk : zKR F a) : J mJ22_put_2 F G 123 [(0, vR (some t)), (1, vR x1), (2, vR x2), (3, vI x3), (4, vR x4), (8, vR x8)] [] := by
  unfold flJ22_put_2_123 at h
  exact zloop_walk (P := (fun s : (Option Nat) => J mJ22_put_2 F G 123 [(0, vR (some t)), (1, vR x1), (2, vR x2), (3, vI x3), (4, vR s), (8, vR x8)] [])) (fun s b e hk => wfbJ22_put_2_123 hd t x1 x2 x3 s x8 G e hk) (x4) _ h hk
def fbJ22_put_2_30 (t : Nat) (x1 : Option Nat) (x2 : Option Nat) (x3 : Int32) (x4 : Option Nat) (x7 : Option Nat)  (G : GS) : Option (((Option Nat)) ⊕ ((Option Nat) × GS)) :=
  x4.bind fun a1 => (zgR G 17 a1 0).bind fun r3 => none
def flJ22_put_2_30 (t : Nat) (x1 : Option Nat) (x2 : Option Nat) (x3 : Int32) (x4 : Option Nat) (x7 : Option Nat) (G : GS) : Option ((Option Nat) × GS) := zloop (fun s : (Option Nat) => fbJ22_put_2_30 t x1 x2 x3 s x7 G) (x4)
theorem wfbJ22_put_2_30 {F : zF} (hd : 6 ≤ F.2.2.2) (t : Nat) (x1 : Option Nat) (x2 : Option Nat) (x3 : Int32) (x4 : Option Nat) (x7 : Option Nat) (G : GS) {a : ((Option Nat)) ⊕ ((Option Nat) × GS)} (h : fbJ22_put_2_30 t x1 x2 x3 x4 x7 G = some a) (hk : (zcase (fun s : (Option Nat) => J mJ22_put_2 F G 30 [(0, vR (some t)), (1, vR x1), (2, vR x2), (3, vI x3), (4, vR s), (7, vR x7)] []) (zKR F)) a) : J mJ22_put_2 F G 30 [(0, vR (some t)), (1, vR x1), (2, vR x2), (3, vI x3), (4, vR x4), (7, vR x7)] [] := by
  unfold fbJ22_put_2_30 at h
  refine j_aload (j := 4) dJ22_put_2_30 rfl ?_
  refine j_astore (lv' := [(6, vR x4), (0, vR (some t)), (1, vR x1), (2, vR x2), (3, vI x3), (4, vR x4), (7, vR x7)]) dJ22_put_2_32 (Nat.le_of_ble_eq_true rfl) rfl ?_
  refine j_aload (j := 6) dJ22_put_2_34 rfl ?_
  refine j_aload_n (j := 2) dJ22_put_2_36 rfl rfl ?_
  refine j_aload (j := 5) dJ22_put_2_37 rfl ?_
  replace h := zbE h
  obtain ⟨a1, e2, h⟩ := h
  subst e2
  replace h := zbE h
  obtain ⟨r3, e4, h⟩ := h
  refine j_getR fgJ22_105 (fun _ _ _ => rfl) dJ22_put_2_39 e4 ?_
  cases h
theorem wflJ22_put_2_30 {F : zF} (hd : 6 ≤ F.2.2.2) (t : Nat) (x1 : Option Nat) (x2 : Option Nat) (x3 : Int32) (x4 : Option Nat) (x7 : Option Nat) (G : GS) {a : (Option Nat) × GS} (h : flJ22_put_2_30 t x1 x2 x3 x4 x7 G = some a) (hk : zKR F a) : J mJ22_put_2 F G 30 [(0, vR (some t)), (1, vR x1), (2, vR x2), (3, vI x3), (4, vR x4), (7, vR x7)] [] := by
  unfold flJ22_put_2_30 at h
  exact zloop_walk (P := (fun s : (Option Nat) => J mJ22_put_2 F G 30 [(0, vR (some t)), (1, vR x1), (2, vR x2), (3, vI x3), (4, vR s), (7, vR x7)] [])) (fun s b e hk => wfbJ22_put_2_30 hd t x1 x2 x3 s x7 G e hk) (x4) _ h hk
def fJ22_put_2_0 (t : Nat) (x1 : Option Nat) (x2 : Option Nat) (x3 : Int32)  (G : GS) : Option ((Option Nat) × GS) :=
  (zgR G 16 t 3).bind fun r1 => zopt r1 (zk [16] G t <| (fJ22_addEntryToEmptyMap_0 t x1 x2 G).bind fun G6 => some (none, G6)) (fun a3 => (zgR G 16 t 2).bind fun r7 => zopt r7 (zb2 (fJ16_requireNonNull_0 x1 G) fun r11 G12 => zkq [21, 61] G12 x1 (flJ22_put_2_123 t x1 x2 x3 (some a3) x1 G12)) (fun a9 => flJ22_put_2_30 t x1 x2 x3 (some a3) (some a9) G))
theorem wfJ22_put_2_0 {F : zF} (hd : 6 ≤ F.2.2.2) (t : Nat) (x1 : Option Nat) (x2 : Option Nat) (x3 : Int32)  (G : GS) {a : (Option Nat) × GS} (h : fJ22_put_2_0 t x1 x2 x3  G = some a) (hk : zKR F a) : J mJ22_put_2 F G 0 [(0, vR (some t)), (1, vR x1), (2, vR x2), (3, vI x3)] [] := by
  unfold fJ22_put_2_0 at h
  refine j_aload_n (j := 0) dJ22_put_2_0 rfl rfl ?_
  replace h := zbE h
  obtain ⟨r1, e2, h⟩ := h
  refine j_getR fgJ22_101 (fun _ _ _ => rfl) dJ22_put_2_1 e2 ?_
  refine j_astore (lv' := [(4, vR r1), (0, vR (some t)), (1, vR x1), (2, vR x2), (3, vI x3)]) dJ22_put_2_4 (Nat.le_of_ble_eq_true rfl) rfl ?_
  refine j_aload (j := 0) dJ22_put_2_6 rfl ?_
  rcases r1 with _ | a3
  · replace h := zopt_n h
    refine j_ifnonnull0 dJ22_put_2_8 ?_
    refine j_aload_n (j := 1) dJ22_put_2_11 rfl rfl ?_
    refine j_aload_n (j := 2) dJ22_put_2_12 rfl rfl ?_
    refine j_aload_n (j := 3) dJ22_put_2_13 rfl rfl ?_
    replace h := zkE h
    obtain ⟨e4, h⟩ := h
    replace h := zbE h
    obtain ⟨G6, e5, h⟩ := h
    refine j_cont (zrV (As := [vR x1, vR x2]) msJ22_135 (yJ22_addEntryToEmptyMap_ok e5) (Nat.le_trans (Nat.le_of_ble_eq_true rfl) hd) (zk_16 _ e4) rfl rfl (Nat.le_of_ble_eq_true rfl) dJ22_put_2_14) ?_
    refine j_null dJ22_put_2_17 ?_
    obtain rfl := Option.some.inj h
    exact j_aret hk.1 hk.2 rfl (Or.inl ⟨_, rfl⟩) dJ22_put_2_18
  · replace h := zopt_s h
    refine j_ifnonnull1 (tgt := 19) dJ22_put_2_8 (by decide) ?_
    refine j_aload_n (j := 1) dJ22_put_2_19 rfl rfl ?_
    replace h := zbE h
    obtain ⟨r7, e8, h⟩ := h
    refine j_getR fgJ22_16 (fun _ _ _ => rfl) dJ22_put_2_20 e8 ?_
    refine j_astore (lv' := [(7, vR r7), (4, vR (some a3)), (0, vR (some t)), (1, vR x1), (2, vR x2), (3, vI x3)]) dJ22_put_2_23 (Nat.le_of_ble_eq_true rfl) rfl ?_
    refine j_aload (j := 0) dJ22_put_2_25 rfl ?_
    rcases r7 with _ | a9
    · replace h := zopt_n h
      refine j_ifnull0 (tgt := 112) dJ22_put_2_27 (by decide) ?_
      refine j_aload_n (j := 3) dJ22_put_2_112 rfl rfl ?_
      replace h := zb2E h
      obtain ⟨r11, G12, e10, h⟩ := h
      refine j_cont (zrS (As := [vR x1]) msJ22_95 (yJ16_requireNonNull_ok e10) (Nat.le_trans (Nat.le_of_ble_eq_true rfl) hd) rfl rfl (Nat.le_of_ble_eq_true rfl) dJ22_put_2_113) ?_
      refine j_pop dJ22_put_2_116 rfl ?_
      refine j_aload_n (j := 3) dJ22_put_2_117 rfl rfl ?_
      replace h := zkqE h
      obtain ⟨e13, h⟩ := h
      refine j_castq (fun k => j_castN dJ22_put_2_118 k) (fun b q14 k => j_cast (zk_21_61 _ (e13 b q14)) q1075 (zxw 25 rfl) dJ22_put_2_118 k) ?_
      refine j_astore (lv' := [(8, vR x1), (7, vR none), (4, vR (some a3)), (0, vR (some t)), (1, vR x1), (2, vR x2), (3, vI x3)]) dJ22_put_2_121 (Nat.le_of_ble_eq_true rfl) rfl ?_
      exact J.sub (zall [3, 4, 5, 6, 2, 0] rfl) (wflJ22_put_2_123 hd t x1 x2 x3 (some a3) x1  G12 h hk)
    · replace h := zopt_s h
      refine j_ifnull1 dJ22_put_2_27 ?_
      exact J.sub (zall [2, 3, 4, 5, 1, 0] rfl) (wflJ22_put_2_30 hd t x1 x2 x3 (some a3) (some a9)  G h hk)
theorem yJ22_put_2_ok {t : Nat} {x1 : Option Nat} {x2 : Option Nat} {x3 : Int32} {G : GS} {r : Option Nat} {G1 : GS} (h : fJ22_put_2_0 t x1 x2 x3 G = some (r, G1)) : zRuns yJ22_put_2 (ws_ yJ22_put_2 cJ22_put_2 10 (some (Jvm.ClassFile.FieldType.object "java/lang/Object"))) [vR (some t), vR x1, vR x2, vI x3] (.inl (some (vR r)), G, G1, 6) :=
  zentry (M := mJ22_put_2) (plainFor_of_name (by decide +kernel)) ⟨rfl, rfl, rfl, rfl⟩ (Nat.le_of_ble_eq_true rfl) (wfJ22_put_2_0 (Nat.le_refl _) t x1 x2 x3 G h ⟨rfl, rfl⟩)
theorem msJ22_127 : zSV RJ22 127 RJ22 yJ22_put_2 cJ22_put_2 10 (some (Jvm.ClassFile.FieldType.object "java/lang/Object")) 3 := ⟨lw_V q1063 q1065 qs14 q150 q1066, (by decide +kernel), (by decide)⟩
abbrev mJ22_put : zM := (cJ22_put, RJ22, 3, (some (Jvm.ClassFile.FieldType.object "java/lang/Object")), "put", [], "(Ljava/lang/Object;Ljava/lang/Object;)Ljava/lang/Object;")
def fJ22_put_0 (t : Nat) (x1 : Option Nat) (x2 : Option Nat)  (G : GS) : Option ((Option Nat) × GS) :=
  zk [16] G t <| zb2 (fJ22_put_2_0 t x1 x2 1 G) fun r3 G4 => some (r3, G4)
theorem wfJ22_put_0 {F : zF} (hd : 7 ≤ F.2.2.2) (t : Nat) (x1 : Option Nat) (x2 : Option Nat)  (G : GS) {a : (Option Nat) × GS} (h : fJ22_put_0 t x1 x2  G = some a) (hk : zKR F a) : J mJ22_put F G 0 [(0, vR (some t)), (1, vR x1), (2, vR x2)] [] := by
  unfold fJ22_put_0 at h
  refine j_aload_n (j := 0) dJ22_put_0 rfl rfl ?_
  refine j_aload_n (j := 1) dJ22_put_1 rfl rfl ?_
  refine j_aload_n (j := 2) dJ22_put_2 rfl rfl ?_
  refine j_iconst (v := 1) dJ22_put_3 (by decide) ?_
  replace h := zkE h
  obtain ⟨e1, h⟩ := h
  replace h := zb2E h
  obtain ⟨r3, G4, e2, h⟩ := h
  refine j_cont (zrV (As := [vR x1, vR x2, vI 1]) msJ22_127 (yJ22_put_2_ok e2) (Nat.le_trans (Nat.le_of_ble_eq_true rfl) hd) (zk_16 _ e1) rfl rfl (Nat.le_of_ble_eq_true rfl) dJ22_put_4) ?_
  obtain rfl := Option.some.inj h
  exact j_aret hk.1 hk.2 rfl (Or.inl ⟨_, rfl⟩) dJ22_put_7
theorem yJ22_put_ok {t : Nat} {x1 : Option Nat} {x2 : Option Nat} {G : GS} {r : Option Nat} {G1 : GS} (h : fJ22_put_0 t x1 x2 G = some (r, G1)) : zRuns yJ22_put (ws_ yJ22_put cJ22_put 3 (some (Jvm.ClassFile.FieldType.object "java/lang/Object"))) [vR (some t), vR x1, vR x2] (.inl (some (vR r)), G, G1, 7) :=
  zentry (M := mJ22_put) (plainFor_of_name (by decide +kernel)) ⟨rfl, rfl, rfl, rfl⟩ (Nat.le_of_ble_eq_true rfl) (wfJ22_put_0 (Nat.le_refl _) t x1 x2 G h ⟨rfl, rfl⟩)
end
