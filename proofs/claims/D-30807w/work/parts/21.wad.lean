/-! printed: functions and walks -/
set_option maxRecDepth 100000
noncomputable section
abbrev mJ28_siftUpUsingComparator : zM := (cJ28_siftUpUsingComparator, RJ28, 6, none, "siftUpUsingComparator", [], "(ILjava/lang/Object;[Ljava/lang/Object;Ljava/util/Comparator;)V")
def fJ28_siftUpUsingComparator_43 (x0 : Int32) (x1 : Option Nat) (x2 : Option Nat)  (G : GS) : Option (GS) :=
  x2.bind fun a1 => (zsR G 54 a1 x0 x1 [3, 6, 10, 21, 61]).bind fun G3 => some G3
theorem wfJ28_siftUpUsingComparator_43 {F : zF} (hd : 1 ≤ F.2.2.2) (x0 : Int32) (x1 : Option Nat) (x2 : Option Nat)  (G : GS) {a : GS} (h : fJ28_siftUpUsingComparator_43 x0 x1 x2  G = some a) (hk : zKV F a) : J mJ28_siftUpUsingComparator F G 43 [(0, vI x0), (1, vR x1), (2, vR x2)] [] := by
  unfold fJ28_siftUpUsingComparator_43 at h
  refine j_aload_n (j := 2) dJ28_siftUpUsingComparator_43 rfl rfl ?_
  refine j_iload_n (j := 0) dJ28_siftUpUsingComparator_44 rfl rfl ?_
  refine j_aload_n (j := 1) dJ28_siftUpUsingComparator_45 rfl rfl ?_
  replace h := zbE h
  obtain ⟨a1, e2, h⟩ := h
  subst e2
  replace h := zbE h
  obtain ⟨G3, e4, h⟩ := h
  refine j_aast (t := 4) rfl e4 zobjK dJ28_siftUpUsingComparator_46 ?_
  obtain rfl := Option.some.inj h
  exact j_vret hk.1 hk.2 rfl dJ28_siftUpUsingComparator_47
def fbJ28_siftUpUsingComparator_0 (x0 : Int32) (x1 : Option Nat) (x2 : Option Nat) (x3 : Option Nat)  (G : GS) : Option ((Int32 × GS) ⊕ (GS)) :=
  if x0 ≤ 0 then (zo (fJ28_siftUpUsingComparator_43 x0 x1 x2 G)) else (x2.bind fun a2 => (zaR G 54 a2 (((x0 - 1).toUInt32 >>> ((1 : Int32).toUInt32 &&& Int32.toUInt32 31)).toInt32)).bind fun r4 => none)
def flJ28_siftUpUsingComparator_0 (x0 : Int32) (x1 : Option Nat) (x2 : Option Nat) (x3 : Option Nat) (G : GS) : Option (GS) := zloop (fun s : Int32 × GS => fbJ28_siftUpUsingComparator_0 s.1 x1 x2 x3 s.2) (x0, G)
theorem wfbJ28_siftUpUsingComparator_0 {F : zF} (hd : 1 ≤ F.2.2.2) (x0 : Int32) (x1 : Option Nat) (x2 : Option Nat) (x3 : Option Nat) (G : GS) {a : (Int32 × GS) ⊕ (GS)} (h : fbJ28_siftUpUsingComparator_0 x0 x1 x2 x3 G = some a) (hk : (zcase (fun s : Int32 × GS => J mJ28_siftUpUsingComparator F s.2 0 [(0, vI s.1), (1, vR x1), (2, vR x2), (3, vR x3)] []) (zKV F)) a) : J mJ28_siftUpUsingComparator F G 0 [(0, vI x0), (1, vR x1), (2, vR x2), (3, vR x3)] [] := by
  unfold fbJ28_siftUpUsingComparator_0 at h
  refine j_iload_n (j := 0) dJ28_siftUpUsingComparator_0 rfl rfl ?_
  refine j_if_le (tgt := 43) dJ28_siftUpUsingComparator_1 (by decide) (fun c1 => ?_) (fun c1 => ?_)
  · rw [if_pos c1] at h
    replace h := zoE h
    obtain ⟨a, h, rfl⟩ := h
    replace hk := hk
    exact J.sub (zall [0, 1, 2] rfl) (wfJ28_siftUpUsingComparator_43 hd x0 x1 x2  G h hk)
  · rw [if_neg c1] at h
    refine j_iload_n (j := 0) dJ28_siftUpUsingComparator_4 rfl rfl ?_
    refine j_iconst (v := 1) dJ28_siftUpUsingComparator_5 (by decide) ?_
    refine j_isub dJ28_siftUpUsingComparator_6 ?_
    refine j_iconst (v := 1) dJ28_siftUpUsingComparator_7 (by decide) ?_
    refine j_iushr dJ28_siftUpUsingComparator_8 ?_
    refine j_istore (lv' := [(4, vI (((x0 - 1).toUInt32 >>> ((1 : Int32).toUInt32 &&& Int32.toUInt32 31)).toInt32)), (0, vI x0), (1, vR x1), (2, vR x2), (3, vR x3)]) dJ28_siftUpUsingComparator_9 (Nat.le_of_ble_eq_true rfl) rfl ?_
    refine j_aload_n (j := 3) dJ28_siftUpUsingComparator_11 rfl rfl ?_
    refine j_iload (j := 0) dJ28_siftUpUsingComparator_12 rfl ?_
    replace h := zbE h
    obtain ⟨a2, e3, h⟩ := h
    subst e3
    replace h := zbE h
    obtain ⟨r4, e5, h⟩ := h
    refine j_aald (Or.inl rfl) e5 dJ28_siftUpUsingComparator_14 ?_
    refine j_astore (lv' := [(5, vR r4), (4, vI (((x0 - 1).toUInt32 >>> ((1 : Int32).toUInt32 &&& Int32.toUInt32 31)).toInt32)), (0, vI x0), (1, vR x1), (2, vR (some a2)), (3, vR x3)]) dJ28_siftUpUsingComparator_15 (Nat.le_of_ble_eq_true rfl) rfl ?_
    refine j_aload_n (j := 5) dJ28_siftUpUsingComparator_17 rfl rfl ?_
    refine j_aload_n (j := 3) dJ28_siftUpUsingComparator_18 rfl rfl ?_
    refine j_aload (j := 0) dJ28_siftUpUsingComparator_19 rfl ?_
    cases h
theorem wflJ28_siftUpUsingComparator_0 {F : zF} (hd : 1 ≤ F.2.2.2) (x0 : Int32) (x1 : Option Nat) (x2 : Option Nat) (x3 : Option Nat) (G : GS) {a : GS} (h : flJ28_siftUpUsingComparator_0 x0 x1 x2 x3 G = some a) (hk : zKV F a) : J mJ28_siftUpUsingComparator F G 0 [(0, vI x0), (1, vR x1), (2, vR x2), (3, vR x3)] [] := by
  unfold flJ28_siftUpUsingComparator_0 at h
  exact zloop_walk (P := (fun s : Int32 × GS => J mJ28_siftUpUsingComparator F s.2 0 [(0, vI s.1), (1, vR x1), (2, vR x2), (3, vR x3)] [])) (fun s b e hk => wfbJ28_siftUpUsingComparator_0 hd s.1 x1 x2 x3 s.2 e hk) (x0, G) _ h hk
theorem yJ28_siftUpUsingComparator_ok {x0 : Int32} {x1 : Option Nat} {x2 : Option Nat} {x3 : Option Nat} {G : GS} {G1 : GS} (h : flJ28_siftUpUsingComparator_0 x0 x1 x2 x3 G = some G1) : zRuns yJ28_siftUpUsingComparator (ws_ yJ28_siftUpUsingComparator cJ28_siftUpUsingComparator 6 none) [vI x0, vR x1, vR x2, vR x3] (.inl none, G, G1, 1) :=
  zentry (M := mJ28_siftUpUsingComparator) (plainFor_of_name (by decide +kernel)) ⟨rfl, rfl, rfl, rfl⟩ (Nat.le_of_ble_eq_true rfl) (wflJ28_siftUpUsingComparator_0 (Nat.le_refl _) x0 x1 x2 x3 G h ⟨rfl, rfl⟩)
abbrev mJ26_compare : zM := (cJ26_compare, RJ26, 2, (some Jvm.ClassFile.FieldType.int), "compare", [], "(II)I")
def fJ26_compare_0 (x0 : Int32) (x1 : Int32)  (G : GS) : Option (Int32) :=
  if x1 ≤ x0 then (if x0 = x1 then (some 0) else (some 1)) else (some (-1))
theorem wfJ26_compare_0 {F : zF} (hd : 1 ≤ F.2.2.2) (x0 : Int32) (x1 : Int32)  (G : GS) {a : Int32} (h : fJ26_compare_0 x0 x1  G = some a) (hk : zKPI F G a) : J mJ26_compare F G 0 [(0, vI x0), (1, vI x1)] [] := by
  unfold fJ26_compare_0 at h
  refine j_iload_n (j := 0) dJ26_compare_0 rfl rfl ?_
  refine j_iload_n (j := 1) dJ26_compare_1 rfl rfl ?_
  refine j_icmp_ge (tgt := 9) dJ26_compare_2 (by decide) (fun c1 => ?_) (fun c1 => ?_)
  · rw [if_pos c1] at h
    refine j_iload_n (j := 0) dJ26_compare_9 rfl rfl ?_
    refine j_iload_n (j := 1) dJ26_compare_10 rfl rfl ?_
    refine j_icmp_ne (tgt := 18) dJ26_compare_11 (by decide) (fun c2 => ?_) (fun c2 => ?_)
    · rw [if_pos c2] at h
      refine j_iconst (v := 0) dJ26_compare_14 (by decide) ?_
      refine j_goto (tgt := 19) dJ26_compare_15 (by decide) ?_
      obtain rfl := Option.some.inj h
      exact j_iret hk.1 hk.2 rfl dJ26_compare_19
    · rw [if_neg c2] at h
      refine j_iconst (v := 1) dJ26_compare_18 (by decide) ?_
      obtain rfl := Option.some.inj h
      exact j_iret hk.1 hk.2 rfl dJ26_compare_19
  · rw [if_neg c1] at h
    refine j_iconst (v := (-1)) dJ26_compare_5 (by decide) ?_
    refine j_goto (tgt := 19) dJ26_compare_6 (by decide) ?_
    obtain rfl := Option.some.inj h
    exact j_iret hk.1 hk.2 rfl dJ26_compare_19
theorem yJ26_compare_ok {x0 : Int32} {x1 : Int32} {G : GS} {r : Int32} (h : fJ26_compare_0 x0 x1 G = some r) : zRuns yJ26_compare (ws_ yJ26_compare cJ26_compare 2 (some Jvm.ClassFile.FieldType.int)) [vI x0, vI x1] (.inl (some (vI r)), G, G, 1) :=
  zentry (M := mJ26_compare) (plainFor_of_name (by decide +kernel)) ⟨rfl, rfl, rfl, rfl⟩ (Nat.le_of_ble_eq_true rfl) (wfJ26_compare_0 (Nat.le_refl _) x0 x1 G h ⟨rfl, rfl⟩)
theorem fgX6_13 : zFG RX6 13 5 1 (.int) := ⟨(RX6, TX6, 2, tyX6), rfl, by decide, in_X6, rfl, "SelahGenerator$Length", Or.inl rfl, Or.inl q741⟩
theorem fgX6_7 : zFG RX6 7 5 0 (.int) := ⟨(RX6, TX6, 2, tyX6), rfl, by decide, in_X6, rfl, "SelahGenerator$Length", Or.inl rfl, Or.inl q739⟩
theorem msX6_16 : zSS RX6 16 yJ26_compare cJ26_compare 2 (some Jvm.ClassFile.FieldType.int) 2 := ⟨lw_S q847 q848 q156 q849, (by decide +kernel), (by decide)⟩
abbrev mX6_compareTo_2 : zM := (cX6_compareTo_2, RX6, 2, (some Jvm.ClassFile.FieldType.int), "compareTo", [], "(LSelahGenerator$Length;)I")
def fX6_compareTo_2_0 (t : Nat) (x1 : Option Nat)  (G : GS) : Option (Int32) :=
  (zgI G 6 t 1).bind fun v1 => x1.bind fun a3 => (zgI G 6 a3 1).bind fun v5 => if v1 = v5 then ((zgI G 6 t 0).bind fun v8 => (zgI G 6 a3 0).bind fun v10 => (fJ26_compare_0 v8 v10 G).bind fun v13 => some v13) else ((zgI G 6 t 1).bind fun v14 => (zgI G 6 a3 1).bind fun v16 => (fJ26_compare_0 v14 v16 G).bind fun v19 => some v19)
theorem wfX6_compareTo_2_0 {F : zF} (hd : 2 ≤ F.2.2.2) (t : Nat) (x1 : Option Nat)  (G : GS) {a : Int32} (h : fX6_compareTo_2_0 t x1  G = some a) (hk : zKPI F G a) : J mX6_compareTo_2 F G 0 [(0, vR (some t)), (1, vR x1)] [] := by
  unfold fX6_compareTo_2_0 at h
  refine j_aload_n (j := 0) dX6_compareTo_2_0 rfl rfl ?_
  replace h := zbE h
  obtain ⟨v1, e2, h⟩ := h
  refine j_getI fgX6_13 (fun _ _ _ => rfl) dX6_compareTo_2_1 e2 ?_
  refine j_aload_n (j := 1) dX6_compareTo_2_4 rfl rfl ?_
  replace h := zbE h
  obtain ⟨a3, e4, h⟩ := h
  subst e4
  replace h := zbE h
  obtain ⟨v5, e6, h⟩ := h
  refine j_getI fgX6_13 (fun _ _ _ => rfl) dX6_compareTo_2_5 e6 ?_
  refine j_icmp_eq (tgt := 25) dX6_compareTo_2_8 (by decide) (fun c7 => ?_) (fun c7 => ?_)
  · rw [if_pos c7] at h
    refine j_aload_n (j := 0) dX6_compareTo_2_25 rfl rfl ?_
    replace h := zbE h
    obtain ⟨v8, e9, h⟩ := h
    refine j_getI fgX6_7 (fun _ _ _ => rfl) dX6_compareTo_2_26 e9 ?_
    refine j_aload_n (j := 1) dX6_compareTo_2_29 rfl rfl ?_
    replace h := zbE h
    obtain ⟨v10, e11, h⟩ := h
    refine j_getI fgX6_7 (fun _ _ _ => rfl) dX6_compareTo_2_30 e11 ?_
    replace h := zbE h
    obtain ⟨v13, e12, h⟩ := h
    refine j_cont (zrS (As := [vI v8, vI v10]) msX6_16 (yJ26_compare_ok e12) (Nat.le_trans (Nat.le_of_ble_eq_true rfl) hd) rfl rfl (Nat.le_of_ble_eq_true rfl) dX6_compareTo_2_33) ?_
    obtain rfl := Option.some.inj h
    exact j_iret hk.1 hk.2 rfl dX6_compareTo_2_36
  · rw [if_neg c7] at h
    refine j_aload_n (j := 0) dX6_compareTo_2_11 rfl rfl ?_
    replace h := zbE h
    obtain ⟨v14, e15, h⟩ := h
    refine j_getI fgX6_13 (fun _ _ _ => rfl) dX6_compareTo_2_12 e15 ?_
    refine j_aload_n (j := 1) dX6_compareTo_2_15 rfl rfl ?_
    replace h := zbE h
    obtain ⟨v16, e17, h⟩ := h
    refine j_getI fgX6_13 (fun _ _ _ => rfl) dX6_compareTo_2_16 e17 ?_
    replace h := zbE h
    obtain ⟨v19, e18, h⟩ := h
    refine j_cont (zrS (As := [vI v14, vI v16]) msX6_16 (yJ26_compare_ok e18) (Nat.le_trans (Nat.le_of_ble_eq_true rfl) hd) rfl rfl (Nat.le_of_ble_eq_true rfl) dX6_compareTo_2_19) ?_
    refine j_goto (tgt := 36) dX6_compareTo_2_22 (by decide) ?_
    obtain rfl := Option.some.inj h
    exact j_iret hk.1 hk.2 rfl dX6_compareTo_2_36
theorem yX6_compareTo_2_ok {t : Nat} {x1 : Option Nat} {G : GS} {r : Int32} (h : fX6_compareTo_2_0 t x1 G = some r) : zRuns yX6_compareTo_2 (ws_ yX6_compareTo_2 cX6_compareTo_2 2 (some Jvm.ClassFile.FieldType.int)) [vR (some t), vR x1] (.inl (some (vI r)), G, G, 2) :=
  zentry (M := mX6_compareTo_2) (plainFor_of_name (by decide +kernel)) ⟨rfl, rfl, rfl, rfl⟩ (Nat.le_of_ble_eq_true rfl) (wfX6_compareTo_2_0 (Nat.le_refl _) t x1 G h ⟨rfl, rfl⟩)
theorem zk_6 : ∀ k, [6].contains k = true → zKc k = some "SelahGenerator$Length" := fun k h => by rw [zKc_one h]; rfl
theorem msX6_22 : zSV RX6 22 RX6 yX6_compareTo_2 cX6_compareTo_2 2 (some Jvm.ClassFile.FieldType.int) 1 := ⟨lw_V q843 q844 q845 q159 q846, (by decide +kernel), (by decide)⟩
abbrev mX6_compareTo : zM := (cX6_compareTo, RX6, 2, (some Jvm.ClassFile.FieldType.int), "compareTo", [], "(Ljava/lang/Object;)I")
def fX6_compareTo_0 (t : Nat) (x1 : Option Nat)  (G : GS) : Option (Int32) :=
  zkq [6] G x1 (zk [6] G t <| (fX6_compareTo_2_0 t x1 G).bind fun v4 => some v4)
theorem wfX6_compareTo_0 {F : zF} (hd : 3 ≤ F.2.2.2) (t : Nat) (x1 : Option Nat)  (G : GS) {a : Int32} (h : fX6_compareTo_0 t x1  G = some a) (hk : zKPI F G a) : J mX6_compareTo F G 0 [(0, vR (some t)), (1, vR x1)] [] := by
  unfold fX6_compareTo_0 at h
  refine j_aload_n (j := 0) dX6_compareTo_0 rfl rfl ?_
  refine j_aload_n (j := 1) dX6_compareTo_1 rfl rfl ?_
  replace h := zkqE h
  obtain ⟨e1, h⟩ := h
  refine j_castq (fun k => j_castN dX6_compareTo_2 k) (fun b q5 k => j_castS (zk_6 _ (e1 b q5)) ⟨5, _, rfl, rfl⟩ q842 dX6_compareTo_2 k) ?_
  replace h := zkE h
  obtain ⟨e2, h⟩ := h
  replace h := zbE h
  obtain ⟨v4, e3, h⟩ := h
  refine j_cont (zrV (As := [vR x1]) msX6_22 (yX6_compareTo_2_ok e3) (Nat.le_trans (Nat.le_of_ble_eq_true rfl) hd) (zk_6 _ e2) rfl rfl (Nat.le_of_ble_eq_true rfl) dX6_compareTo_5) ?_
  obtain rfl := Option.some.inj h
  exact j_iret hk.1 hk.2 rfl dX6_compareTo_8
theorem yX6_compareTo_ok {t : Nat} {x1 : Option Nat} {G : GS} {r : Int32} (h : fX6_compareTo_0 t x1 G = some r) : zRuns yX6_compareTo (ws_ yX6_compareTo cX6_compareTo 2 (some Jvm.ClassFile.FieldType.int)) [vR (some t), vR x1] (.inl (some (vI r)), G, G, 3) :=
  zentry (M := mX6_compareTo) (plainFor_of_name (by decide +kernel)) ⟨rfl, rfl, rfl, rfl⟩ (Nat.le_of_ble_eq_true rfl) (wfX6_compareTo_0 (Nat.le_refl _) t x1 G h ⟨rfl, rfl⟩)
theorem msJ28_146_X6 : zSF RJ28 146 RX6 ⟨"java/lang/Comparable", "compareTo", "(Ljava/lang/Object;)I"⟩ yX6_compareTo cX6_compareTo 2 (some Jvm.ClassFile.FieldType.int) 1 := ⟨lw_F q833 q837 q839 q159 q841, zfw 0 rfl, ⟨5, _, rfl, rfl⟩, (by decide +kernel), (by decide)⟩
abbrev mJ28_siftUpComparable : zM := (cJ28_siftUpComparable, RJ28, 6, none, "siftUpComparable", [], "(ILjava/lang/Object;[Ljava/lang/Object;)V")
def fJ28_siftUpComparable_47 (x0 : Int32) (x2 : Option Nat) (x3 : Option Nat)  (G : GS) : Option (GS) :=
  x2.bind fun a1 => (zsR G 54 a1 x0 x3 [6]).bind fun G3 => some G3
theorem wfJ28_siftUpComparable_47 {F : zF} (hd : 4 ≤ F.2.2.2) (x0 : Int32) (x2 : Option Nat) (x3 : Option Nat)  (G : GS) {a : GS} (h : fJ28_siftUpComparable_47 x0 x2 x3  G = some a) (hk : zKV F a) : J mJ28_siftUpComparable F G 47 [(0, vI x0), (2, vR x2), (3, vR x3)] [] := by
  unfold fJ28_siftUpComparable_47 at h
  refine j_aload_n (j := 1) dJ28_siftUpComparable_47 rfl rfl ?_
  refine j_iload_n (j := 0) dJ28_siftUpComparable_48 rfl rfl ?_
  refine j_aload_n (j := 2) dJ28_siftUpComparable_49 rfl rfl ?_
  replace h := zbE h
  obtain ⟨a1, e2, h⟩ := h
  subst e2
  replace h := zbE h
  obtain ⟨G3, e4, h⟩ := h
  refine j_aast (t := 4) rfl e4 (fun k hk => ⟨_, zk_6 k hk, (Or.inl (zxw 106 rfl))⟩) dJ28_siftUpComparable_50 ?_
  obtain rfl := Option.some.inj h
  exact j_vret hk.1 hk.2 rfl dJ28_siftUpComparable_51
def fJ28_siftUpComparable_33 (x0 : Int32) (x2 : Option Nat) (x3 : Option Nat)  (G : GS) : Option (GS) :=
  fJ28_siftUpComparable_47 x0 x2 x3 G
theorem wfJ28_siftUpComparable_33 {F : zF} (hd : 4 ≤ F.2.2.2) (x0 : Int32) (x2 : Option Nat) (x3 : Option Nat)  (G : GS) {a : GS} (h : fJ28_siftUpComparable_33 x0 x2 x3  G = some a) (hk : zKV F a) : J mJ28_siftUpComparable F G 33 [(0, vI x0), (2, vR x2), (3, vR x3)] [] := by
  unfold fJ28_siftUpComparable_33 at h
  refine j_goto (tgt := 47) dJ28_siftUpComparable_33 (by decide) ?_
  exact J.sub (zall [0, 1, 2] rfl) (wfJ28_siftUpComparable_47 hd x0 x2 x3  G h hk)
def fbJ28_siftUpComparable_5 (x0 : Int32) (x2 : Option Nat) (x3 : Option Nat)  (G : GS) : Option ((Int32 × GS) ⊕ (GS)) :=
  if x0 ≤ 0 then (zo (fJ28_siftUpComparable_47 x0 x2 x3 G)) else (x2.bind fun a2 => (zaR G 54 a2 (((x0 - 1).toUInt32 >>> ((1 : Int32).toUInt32 &&& Int32.toUInt32 31)).toInt32)).bind fun r4 => x3.bind fun a6 => zk [6] G a6 <| (fX6_compareTo_0 a6 r4 G).bind fun v10 => if v10 < 0 then ((zsR G 54 a2 x0 r4 [6]).bind fun G12 => some (.inl (((x0 - 1).toUInt32 >>> ((1 : Int32).toUInt32 &&& Int32.toUInt32 31)).toInt32, G12))) else (zo (fJ28_siftUpComparable_33 x0 (some a2) (some a6) G)))
def flJ28_siftUpComparable_5 (x0 : Int32) (x2 : Option Nat) (x3 : Option Nat) (G : GS) : Option (GS) := zloop (fun s : Int32 × GS => fbJ28_siftUpComparable_5 s.1 x2 x3 s.2) (x0, G)
theorem wfbJ28_siftUpComparable_5 {F : zF} (hd : 4 ≤ F.2.2.2) (x0 : Int32) (x2 : Option Nat) (x3 : Option Nat) (G : GS) {a : (Int32 × GS) ⊕ (GS)} (h : fbJ28_siftUpComparable_5 x0 x2 x3 G = some a) (hk : (zcase (fun s : Int32 × GS => J mJ28_siftUpComparable F s.2 5 [(0, vI s.1), (2, vR x2), (3, vR x3)] []) (zKV F)) a) : J mJ28_siftUpComparable F G 5 [(0, vI x0), (2, vR x2), (3, vR x3)] [] := by
  unfold fbJ28_siftUpComparable_5 at h
  refine j_iload_n (j := 0) dJ28_siftUpComparable_5 rfl rfl ?_
  refine j_if_le (tgt := 47) dJ28_siftUpComparable_6 (by decide) (fun c1 => ?_) (fun c1 => ?_)
  · rw [if_pos c1] at h
    replace h := zoE h
    obtain ⟨a, h, rfl⟩ := h
    replace hk := hk
    exact J.sub (zall [0, 1, 2] rfl) (wfJ28_siftUpComparable_47 hd x0 x2 x3  G h hk)
  · rw [if_neg c1] at h
    refine j_iload_n (j := 0) dJ28_siftUpComparable_9 rfl rfl ?_
    refine j_iconst (v := 1) dJ28_siftUpComparable_10 (by decide) ?_
    refine j_isub dJ28_siftUpComparable_11 ?_
    refine j_iconst (v := 1) dJ28_siftUpComparable_12 (by decide) ?_
    refine j_iushr dJ28_siftUpComparable_13 ?_
    refine j_istore (lv' := [(4, vI (((x0 - 1).toUInt32 >>> ((1 : Int32).toUInt32 &&& Int32.toUInt32 31)).toInt32)), (0, vI x0), (2, vR x2), (3, vR x3)]) dJ28_siftUpComparable_14 (Nat.le_of_ble_eq_true rfl) rfl ?_
    refine j_aload_n (j := 2) dJ28_siftUpComparable_16 rfl rfl ?_
    refine j_iload (j := 0) dJ28_siftUpComparable_17 rfl ?_
    replace h := zbE h
    obtain ⟨a2, e3, h⟩ := h
    subst e3
    replace h := zbE h
    obtain ⟨r4, e5, h⟩ := h
    refine j_aald (Or.inl rfl) e5 dJ28_siftUpComparable_19 ?_
    refine j_astore (lv' := [(5, vR r4), (4, vI (((x0 - 1).toUInt32 >>> ((1 : Int32).toUInt32 &&& Int32.toUInt32 31)).toInt32)), (0, vI x0), (2, vR (some a2)), (3, vR x3)]) dJ28_siftUpComparable_20 (Nat.le_of_ble_eq_true rfl) rfl ?_
    refine j_aload_n (j := 4) dJ28_siftUpComparable_22 rfl rfl ?_
    refine j_aload (j := 0) dJ28_siftUpComparable_23 rfl ?_
    replace h := zbE h
    obtain ⟨a6, e7, h⟩ := h
    subst e7
    replace h := zkE h
    obtain ⟨e8, h⟩ := h
    replace h := zbE h
    obtain ⟨v10, e9, h⟩ := h
    refine j_cont (zrF (As := [vR r4]) msJ28_146_X6 (yX6_compareTo_ok e9) (Nat.le_trans (Nat.le_of_ble_eq_true rfl) hd) (zk_6 _ e8) rfl rfl (Nat.le_of_ble_eq_true rfl) dJ28_siftUpComparable_25) ?_
    refine j_if_lt (tgt := 36) dJ28_siftUpComparable_30 (by decide) (fun c11 => ?_) (fun c11 => ?_)
    · rw [if_pos c11] at h
      refine j_aload_n (j := 3) dJ28_siftUpComparable_36 rfl rfl ?_
      refine j_iload_n (j := 2) dJ28_siftUpComparable_37 rfl rfl ?_
      refine j_aload (j := 0) dJ28_siftUpComparable_38 rfl ?_
      replace h := zbE h
      obtain ⟨G12, e13, h⟩ := h
      refine j_aast (t := 4) rfl e13 (fun k hk => ⟨_, zk_6 k hk, (Or.inl (zxw 106 rfl))⟩) dJ28_siftUpComparable_40 ?_
      refine j_iload (j := 1) dJ28_siftUpComparable_41 rfl ?_
      refine j_istore_n (lv' := [(0, vI (((x0 - 1).toUInt32 >>> ((1 : Int32).toUInt32 &&& Int32.toUInt32 31)).toInt32)), (5, vR r4), (4, vI (((x0 - 1).toUInt32 >>> ((1 : Int32).toUInt32 &&& Int32.toUInt32 31)).toInt32)), (2, vR (some a2)), (3, vR (some a6))]) dJ28_siftUpComparable_43 rfl (Nat.le_of_ble_eq_true rfl) rfl ?_
      refine j_goto (tgt := 5) dJ28_siftUpComparable_44 (by decide) ?_
      obtain rfl := Option.some.inj h
      exact J.sub (zall [0, 3, 4] rfl) hk
    · rw [if_neg c11] at h
      replace h := zoE h
      obtain ⟨a, h, rfl⟩ := h
      replace hk := hk
      exact J.sub (zall [2, 3, 4] rfl) (wfJ28_siftUpComparable_33 hd x0 (some a2) (some a6)  G h hk)
theorem wflJ28_siftUpComparable_5 {F : zF} (hd : 4 ≤ F.2.2.2) (x0 : Int32) (x2 : Option Nat) (x3 : Option Nat) (G : GS) {a : GS} (h : flJ28_siftUpComparable_5 x0 x2 x3 G = some a) (hk : zKV F a) : J mJ28_siftUpComparable F G 5 [(0, vI x0), (2, vR x2), (3, vR x3)] [] := by
  unfold flJ28_siftUpComparable_5 at h
  exact zloop_walk (P := (fun s : Int32 × GS => J mJ28_siftUpComparable F s.2 5 [(0, vI s.1), (2, vR x2), (3, vR x3)] [])) (fun s b e hk => wfbJ28_siftUpComparable_5 hd s.1 x2 x3 s.2 e hk) (x0, G) _ h hk
def fJ28_siftUpComparable_0 (x0 : Int32) (x1 : Option Nat) (x2 : Option Nat)  (G : GS) : Option (GS) :=
  zkq [6] G x1 (flJ28_siftUpComparable_5 x0 x2 x1 G)
theorem wfJ28_siftUpComparable_0 {F : zF} (hd : 4 ≤ F.2.2.2) (x0 : Int32) (x1 : Option Nat) (x2 : Option Nat)  (G : GS) {a : GS} (h : fJ28_siftUpComparable_0 x0 x1 x2  G = some a) (hk : zKV F a) : J mJ28_siftUpComparable F G 0 [(0, vI x0), (1, vR x1), (2, vR x2)] [] := by
  unfold fJ28_siftUpComparable_0 at h
  refine j_aload_n (j := 1) dJ28_siftUpComparable_0 rfl rfl ?_
  replace h := zkqE h
  obtain ⟨e1, h⟩ := h
  refine j_castq (fun k => j_castN dJ28_siftUpComparable_1 k) (fun b q2 k => j_cast (zk_6 _ (e1 b q2)) q831 (zxw 105 rfl) dJ28_siftUpComparable_1 k) ?_
  refine j_astore_n (lv' := [(3, vR x1), (0, vI x0), (1, vR x1), (2, vR x2)]) dJ28_siftUpComparable_4 rfl (Nat.le_of_ble_eq_true rfl) rfl ?_
  exact J.sub (zall [1, 3, 0] rfl) (wflJ28_siftUpComparable_5 hd x0 x2 x1  G h hk)
theorem yJ28_siftUpComparable_ok {x0 : Int32} {x1 : Option Nat} {x2 : Option Nat} {G : GS} {G1 : GS} (h : fJ28_siftUpComparable_0 x0 x1 x2 G = some G1) : zRuns yJ28_siftUpComparable (ws_ yJ28_siftUpComparable cJ28_siftUpComparable 6 none) [vI x0, vR x1, vR x2] (.inl none, G, G1, 4) :=
  zentry (M := mJ28_siftUpComparable) (plainFor_of_name (by decide +kernel)) ⟨rfl, rfl, rfl, rfl⟩ (Nat.le_of_ble_eq_true rfl) (wfJ28_siftUpComparable_0 (Nat.le_refl _) x0 x1 x2 G h ⟨rfl, rfl⟩)
theorem fgJ28_21 : zFG RJ28 21 19 2 (.object "java/util/Comparator") := ⟨(RJ28, TJ28, 4, tyJ28), rfl, by decide, in_J28, rfl, "java/util/PriorityQueue", Or.inl rfl, Or.inl q709⟩
theorem msJ28_136 : zSS RJ28 136 yJ28_siftUpUsingComparator cJ28_siftUpUsingComparator 6 none 4 := ⟨lw_S q821 q822 q158 q823, (by decide +kernel), (by decide)⟩
theorem msJ28_140 : zSS RJ28 140 yJ28_siftUpComparable cJ28_siftUpComparable 6 none 3 := ⟨lw_S q828 q829 q158 q830, (by decide +kernel), (by decide)⟩
abbrev mJ28_siftUp : zM := (cJ28_siftUp, RJ28, 3, none, "siftUp", [], "(ILjava/lang/Object;)V")
def fJ28_siftUp_0 (t : Nat) (x1 : Int32) (x2 : Option Nat)  (G : GS) : Option (GS) :=
  (zgR G 20 t 2).bind fun r1 => zopt r1 ((zgR G 20 t 0).bind fun r4 => (fJ28_siftUpComparable_0 x1 x2 r4 G).bind fun G7 => some G7) (fun a3 => (zgR G 20 t 0).bind fun r8 => (zgR G 20 t 2).bind fun r10 => (flJ28_siftUpUsingComparator_0 x1 x2 r8 r10 G).bind fun G13 => some G13)
theorem wfJ28_siftUp_0 {F : zF} (hd : 5 ≤ F.2.2.2) (t : Nat) (x1 : Int32) (x2 : Option Nat)  (G : GS) {a : GS} (h : fJ28_siftUp_0 t x1 x2  G = some a) (hk : zKV F a) : J mJ28_siftUp F G 0 [(0, vR (some t)), (1, vI x1), (2, vR x2)] [] := by
  unfold fJ28_siftUp_0 at h
  refine j_aload_n (j := 0) dJ28_siftUp_0 rfl rfl ?_
  replace h := zbE h
  obtain ⟨r1, e2, h⟩ := h
  refine j_getR fgJ28_21 (fun _ _ _ => rfl) dJ28_siftUp_1 e2 ?_
  rcases r1 with _ | a3
  · replace h := zopt_n h
    refine j_ifnull0 (tgt := 23) dJ28_siftUp_4 (by decide) ?_
    refine j_iload_n (j := 1) dJ28_siftUp_23 rfl rfl ?_
    refine j_aload_n (j := 2) dJ28_siftUp_24 rfl rfl ?_
    refine j_aload_n (j := 0) dJ28_siftUp_25 rfl rfl ?_
    replace h := zbE h
    obtain ⟨r4, e5, h⟩ := h
    refine j_getR fgJ28_17 (fun _ _ _ => rfl) dJ28_siftUp_26 e5 ?_
    replace h := zbE h
    obtain ⟨G7, e6, h⟩ := h
    refine j_cont (zrS (As := [vI x1, vR x2, vR r4]) msJ28_140 (yJ28_siftUpComparable_ok e6) (Nat.le_trans (Nat.le_of_ble_eq_true rfl) hd) rfl rfl (Nat.le_of_ble_eq_true rfl) dJ28_siftUp_29) ?_
    obtain rfl := Option.some.inj h
    exact j_vret hk.1 hk.2 rfl dJ28_siftUp_32
  · replace h := zopt_s h
    refine j_ifnull1 dJ28_siftUp_4 ?_
    refine j_iload_n (j := 1) dJ28_siftUp_7 rfl rfl ?_
    refine j_aload_n (j := 2) dJ28_siftUp_8 rfl rfl ?_
    refine j_aload_n (j := 0) dJ28_siftUp_9 rfl rfl ?_
    replace h := zbE h
    obtain ⟨r8, e9, h⟩ := h
    refine j_getR fgJ28_17 (fun _ _ _ => rfl) dJ28_siftUp_10 e9 ?_
    refine j_aload_n (j := 0) dJ28_siftUp_13 rfl rfl ?_
    replace h := zbE h
    obtain ⟨r10, e11, h⟩ := h
    refine j_getR fgJ28_21 (fun _ _ _ => rfl) dJ28_siftUp_14 e11 ?_
    replace h := zbE h
    obtain ⟨G13, e12, h⟩ := h
    refine j_cont (zrS (As := [vI x1, vR x2, vR r8, vR r10]) msJ28_136 (yJ28_siftUpUsingComparator_ok e12) (Nat.le_trans (Nat.le_of_ble_eq_true rfl) hd) rfl rfl (Nat.le_of_ble_eq_true rfl) dJ28_siftUp_17) ?_
    refine j_goto (tgt := 32) dJ28_siftUp_20 (by decide) ?_
    obtain rfl := Option.some.inj h
    exact j_vret hk.1 hk.2 rfl dJ28_siftUp_32
theorem yJ28_siftUp_ok {t : Nat} {x1 : Int32} {x2 : Option Nat} {G : GS} {G1 : GS} (h : fJ28_siftUp_0 t x1 x2 G = some G1) : zRuns yJ28_siftUp (ws_ yJ28_siftUp cJ28_siftUp 3 none) [vR (some t), vI x1, vR x2] (.inl none, G, G1, 5) :=
  zentry (M := mJ28_siftUp) (plainFor_of_name (by decide +kernel)) ⟨rfl, rfl, rfl, rfl⟩ (Nat.le_of_ble_eq_true rfl) (wfJ28_siftUp_0 (Nat.le_refl _) t x1 x2 G h ⟨rfl, rfl⟩)
theorem zk_20 : ∀ k, [20].contains k = true → zKc k = some "java/util/PriorityQueue" := fun k h => by rw [zKc_one h]; rfl
theorem fgJ28_58 : zFG RJ28 58 19 1 (.int) := ⟨(RJ28, TJ28, 4, tyJ28), rfl, by decide, in_J28, rfl, "java/util/PriorityQueue", Or.inl rfl, Or.inl q708⟩
theorem fgJ28_93 : zFG RJ28 93 19 3 (.int) := ⟨(RJ28, TJ28, 4, tyJ28), rfl, by decide, in_J28, rfl, "java/util/PriorityQueue", Or.inl rfl, Or.inl q711⟩
theorem fpJ28_58_J28 : zFP RJ28 58 19 1 (.int) false := ⟨(RJ28, TJ28, 4, tyJ28), rfl, by decide, in_J28, tyJ28_ok, nmJ28, rfl, rfl, (by decide), "java/util/PriorityQueue", Or.inl rfl, q708⟩
theorem fpJ28_93_J28 : zFP RJ28 93 19 3 (.int) false := ⟨(RJ28, TJ28, 4, tyJ28), rfl, by decide, in_J28, tyJ28_ok, nmJ28, rfl, rfl, (by decide), "java/util/PriorityQueue", Or.inl rfl, q711⟩
theorem msJ28_100 : zSV RJ28 100 RJ28 yJ28_siftUp cJ28_siftUp 3 none 2 := ⟨lw_V q817 q819 qs11 q158 q820, (by decide +kernel), (by decide)⟩
theorem msJ28_96 : zSV RJ28 96 RJ28 yJ28_grow cJ28_grow 4 none 1 := ⟨lw_V q756 q758 qs10 q158 q759, (by decide +kernel), (by decide)⟩
abbrev mJ28_offer : zM := (cJ28_offer, RJ28, 3, (some Jvm.ClassFile.FieldType.boolean), "offer", [], "(Ljava/lang/Object;)Z")
def fJ28_offer_43 (t : Nat) (x1 : Option Nat) (x2 : Int32)  (G : GS) : Option ((Int32) × GS) :=
  zk [20] G t <| (fJ28_siftUp_0 t x2 x1 G).bind fun G3 => (zpI G3 20 t 1 (x2 + 1)).bind fun G4 => zcond (zbb 1) (some (1, G4))
theorem wfJ28_offer_43 {F : zF} (hd : 6 ≤ F.2.2.2) (t : Nat) (x1 : Option Nat) (x2 : Int32)  (G : GS) {a : (Int32) × GS} (h : fJ28_offer_43 t x1 x2  G = some a) (hk : zKI F a) : J mJ28_offer F G 43 [(0, vR (some t)), (1, vR x1), (2, vI x2)] [] := by
  unfold fJ28_offer_43 at h
  refine j_aload_n (j := 0) dJ28_offer_43 rfl rfl ?_
  refine j_iload_n (j := 2) dJ28_offer_44 rfl rfl ?_
  refine j_aload_n (j := 1) dJ28_offer_45 rfl rfl ?_
  replace h := zkE h
  obtain ⟨e1, h⟩ := h
  replace h := zbE h
  obtain ⟨G3, e2, h⟩ := h
  refine j_cont (zrV (As := [vI x2, vR x1]) msJ28_100 (yJ28_siftUp_ok e2) (Nat.le_trans (Nat.le_of_ble_eq_true rfl) hd) (zk_20 _ e1) rfl rfl (Nat.le_of_ble_eq_true rfl) dJ28_offer_46) ?_
  refine j_aload_n (j := 0) dJ28_offer_49 rfl rfl ?_
  refine j_iload_n (j := 2) dJ28_offer_50 rfl rfl ?_
  refine j_iconst (v := 1) dJ28_offer_51 (by decide) ?_
  refine j_iadd dJ28_offer_52 ?_
  replace h := zbE h
  obtain ⟨G4, e5, h⟩ := h
  refine j_putI fpJ28_58_J28 (Or.inl rfl) rfl dJ28_offer_53 e5 ?_
  refine j_iconst (v := 1) dJ28_offer_56 (by decide) ?_
  replace h := zcondE h
  obtain ⟨e6, h⟩ := h
  obtain rfl := Option.some.inj h
  exact j_zret hk.1 hk.2 rfl (zbb_n e6) dJ28_offer_57
def fJ28_offer_0 (t : Nat) (x1 : Option Nat)  (G : GS) : Option ((Int32) × GS) :=
  zopt x1 none (fun a1 => (zgI G 20 t 3).bind fun v2 => (zpI G 20 t 3 (v2 + 1)).bind fun G4 => (zgI G4 20 t 1).bind fun v6 => (zgR G4 20 t 0).bind fun r8 => r8.bind fun a10 => (zln G4 a10).bind fun v12 => if v6 < v12 then (fJ28_offer_43 t (some a1) v6 G4) else (zk [20] G4 t <| (fJ28_grow_0 t (v6 + 1) G4).bind fun G17 => fJ28_offer_43 t (some a1) v6 G17))
theorem wfJ28_offer_0 {F : zF} (hd : 6 ≤ F.2.2.2) (t : Nat) (x1 : Option Nat)  (G : GS) {a : (Int32) × GS} (h : fJ28_offer_0 t x1  G = some a) (hk : zKI F a) : J mJ28_offer F G 0 [(0, vR (some t)), (1, vR x1)] [] := by
  unfold fJ28_offer_0 at h
  refine j_aload_n (j := 1) dJ28_offer_0 rfl rfl ?_
  rcases x1 with _ | a1
  · replace h := zopt_n h
    refine j_ifnonnull0 dJ28_offer_1 ?_
    cases h
  · replace h := zopt_s h
    refine j_ifnonnull1 (tgt := 12) dJ28_offer_1 (by decide) ?_
    refine j_aload_n (j := 0) dJ28_offer_12 rfl rfl ?_
    refine j_dup dJ28_offer_13 rfl ?_
    replace h := zbE h
    obtain ⟨v2, e3, h⟩ := h
    refine j_getI fgJ28_93 (fun _ _ _ => rfl) dJ28_offer_14 e3 ?_
    refine j_iconst (v := 1) dJ28_offer_17 (by decide) ?_
    refine j_iadd dJ28_offer_18 ?_
    replace h := zbE h
    obtain ⟨G4, e5, h⟩ := h
    refine j_putI fpJ28_93_J28 (Or.inl rfl) rfl dJ28_offer_19 e5 ?_
    refine j_aload_n (j := 0) dJ28_offer_22 rfl rfl ?_
    replace h := zbE h
    obtain ⟨v6, e7, h⟩ := h
    refine j_getI fgJ28_58 (fun _ _ _ => rfl) dJ28_offer_23 e7 ?_
    refine j_istore_n (lv' := [(2, vI v6), (0, vR (some t)), (1, vR (some a1))]) dJ28_offer_26 rfl (Nat.le_of_ble_eq_true rfl) rfl ?_
    refine j_iload_n (j := 0) dJ28_offer_27 rfl rfl ?_
    refine j_aload_n (j := 1) dJ28_offer_28 rfl rfl ?_
    replace h := zbE h
    obtain ⟨r8, e9, h⟩ := h
    refine j_getR fgJ28_17 (fun _ _ _ => rfl) dJ28_offer_29 e9 ?_
    replace h := zbE h
    obtain ⟨a10, e11, h⟩ := h
    subst e11
    replace h := zbE h
    obtain ⟨v12, e13, h⟩ := h
    refine j_alen e13 dJ28_offer_32 ?_
    refine j_icmp_lt (tgt := 43) dJ28_offer_33 (by decide) (fun c14 => ?_) (fun c14 => ?_)
    · rw [if_pos c14] at h
      exact J.sub (zall [1, 2, 0] rfl) (wfJ28_offer_43 hd t (some a1) v6  G4 h hk)
    · rw [if_neg c14] at h
      refine j_aload_n (j := 1) dJ28_offer_36 rfl rfl ?_
      refine j_iload_n (j := 0) dJ28_offer_37 rfl rfl ?_
      refine j_iconst (v := 1) dJ28_offer_38 (by decide) ?_
      refine j_iadd dJ28_offer_39 ?_
      replace h := zkE h
      obtain ⟨e15, h⟩ := h
      replace h := zbE h
      obtain ⟨G17, e16, h⟩ := h
      refine j_cont (zrV (As := [vI (v6 + 1)]) msJ28_96 (yJ28_grow_ok e16) (Nat.le_trans (Nat.le_of_ble_eq_true rfl) hd) (zk_20 _ e15) rfl rfl (Nat.le_of_ble_eq_true rfl) dJ28_offer_40) ?_
      exact J.sub (zall [1, 2, 0] rfl) (wfJ28_offer_43 hd t (some a1) v6  G17 h hk)
theorem yJ28_offer_ok {t : Nat} {x1 : Option Nat} {G : GS} {r : Int32} {G1 : GS} (h : fJ28_offer_0 t x1 G = some (r, G1)) : zRuns yJ28_offer (ws_ yJ28_offer cJ28_offer 3 (some Jvm.ClassFile.FieldType.boolean)) [vR (some t), vR x1] (.inl (some (vI r)), G, G1, 6) :=
  zentry (M := mJ28_offer) (plainFor_of_name (by decide +kernel)) ⟨rfl, rfl, rfl, rfl⟩ (Nat.le_of_ble_eq_true rfl) (wfJ28_offer_0 (Nat.le_refl _) t x1 G h ⟨rfl, rfl⟩)
theorem msJ28_89 : zSV RJ28 89 RJ28 yJ28_offer cJ28_offer 3 (some Jvm.ClassFile.FieldType.boolean) 1 := ⟨lw_V q752 q753 q754 q158 q755, (by decide +kernel), (by decide)⟩
abbrev mJ28_add : zM := (cJ28_add, RJ28, 2, (some Jvm.ClassFile.FieldType.boolean), "add", [], "(Ljava/lang/Object;)Z")
def fJ28_add_0 (t : Nat) (x1 : Option Nat)  (G : GS) : Option ((Int32) × GS) :=
  zk [20] G t <| zb2 (fJ28_offer_0 t x1 G) fun v3 G4 => zcond (zbb v3) (some (v3, G4))
theorem wfJ28_add_0 {F : zF} (hd : 7 ≤ F.2.2.2) (t : Nat) (x1 : Option Nat)  (G : GS) {a : (Int32) × GS} (h : fJ28_add_0 t x1  G = some a) (hk : zKI F a) : J mJ28_add F G 0 [(0, vR (some t)), (1, vR x1)] [] := by
  unfold fJ28_add_0 at h
  refine j_aload_n (j := 0) dJ28_add_0 rfl rfl ?_
  refine j_aload_n (j := 1) dJ28_add_1 rfl rfl ?_
  replace h := zkE h
  obtain ⟨e1, h⟩ := h
  replace h := zb2E h
  obtain ⟨v3, G4, e2, h⟩ := h
  refine j_cont (zrV (As := [vR x1]) msJ28_89 (yJ28_offer_ok e2) (Nat.le_trans (Nat.le_of_ble_eq_true rfl) hd) (zk_20 _ e1) rfl rfl (Nat.le_of_ble_eq_true rfl) dJ28_add_2) ?_
  replace h := zcondE h
  obtain ⟨e5, h⟩ := h
  obtain rfl := Option.some.inj h
  exact j_zret hk.1 hk.2 rfl (zbb_n e5) dJ28_add_5
theorem yJ28_add_ok {t : Nat} {x1 : Option Nat} {G : GS} {r : Int32} {G1 : GS} (h : fJ28_add_0 t x1 G = some (r, G1)) : zRuns yJ28_add (ws_ yJ28_add cJ28_add 2 (some Jvm.ClassFile.FieldType.boolean)) [vR (some t), vR x1] (.inl (some (vI r)), G, G1, 7) :=
  zentry (M := mJ28_add) (plainFor_of_name (by decide +kernel)) ⟨rfl, rfl, rfl, rfl⟩ (Nat.le_of_ble_eq_true rfl) (wfJ28_add_0 (Nat.le_refl _) t x1 G h ⟨rfl, rfl⟩)
theorem msX5_164 : zSV RX5 164 RX5 yX5_lengthOf cX5_lengthOf 8 (some Jvm.ClassFile.FieldType.int) 1 := ⟨lw_V q725 q727 qs9 q151 q728, (by decide +kernel), (by decide)⟩
theorem msX5_168 : zSI RX5 168 yX6_init cX6_init 3 2 := ⟨q737, q159, q735, q736, rfl, (by decide +kernel), (by decide)⟩
theorem msX5_171 : zSV RX5 171 RJ28 yJ28_add cJ28_add 2 (some Jvm.ClassFile.FieldType.boolean) 1 := ⟨lw_V q748 q749 q750 q158 q751, (by decide +kernel), (by decide)⟩
abbrev mX5_offer : zM := (cX5_offer, RX5, 6, none, "offer", [], "(Ljava/util/PriorityQueue;)V")
def fX5_offer_78 (t : Nat) (x1 : Option Nat) (x2 : Option Nat)  (G : GS) : Option ((GS) ⊕ (GS)) :=
  some (.inl (G))
theorem wfX5_offer_78 {F : zF} (hd : 8 ≤ F.2.2.2) (t : Nat) (x1 : Option Nat) (x2 : Option Nat)  (G : GS) {a : (GS) ⊕ (GS)} (h : fX5_offer_78 t x1 x2  G = some a) (hk : (zcase (fun s : GS => J mX5_offer F s 10 [(0, vR (some t)), (1, vR x1), (2, vR x2)] []) (zKV F)) a) : J mX5_offer F G 78 [(0, vR (some t)), (1, vR x1), (2, vR x2)] [] := by
  unfold fX5_offer_78 at h
  refine j_goto (tgt := 10) dX5_offer_78 (by decide) ?_
  obtain rfl := Option.some.inj h
  exact J.sub (zall [0, 1, 2] rfl) hk
def fbX5_offer_10 (t : Nat) (x1 : Option Nat) (x2 : Option Nat)  (G : GS) : Option ((GS) ⊕ (GS)) :=
  x2.bind fun a1 => zk [13] G a1 <| (fJ19_hasNext_0 a1 G).bind fun v5 => if v5 = 0 then (zo (some G)) else (zk [13] G a1 <| zb2 (fJ19_next_0 a1 G) fun r9 G10 => zkq [3] G10 r9 (r9.bind fun a12 => (zgI G10 3 a12 0).bind fun v14 => zk [5] G10 t <| (fX5_lengthOf_0 t (some a12) G10).bind fun v18 => if v18 = (-1) then (fX5_offer_78 t x1 (some a1) G10) else ((zgR G10 5 t 3).bind fun r20 => r20.bind fun a22 => (zaI G10 50 a22 (v14 - 20)).bind fun v24 => if v24 = (-1) then (zl (al G10 6 0 2) fun G27 => (fX6_init_0 (gz G10) (v14 - 20) v18 G27).bind fun G30 => x1.bind fun a31 => zk [20] G30 a31 <| zb2 (fJ28_add_0 a31 (some (gz G10)) G30) fun v35 G36 => fX5_offer_78 t (some a31) (some a1) G36) else (fX5_offer_78 t x1 (some a1) G10))))
def flX5_offer_10 (t : Nat) (x1 : Option Nat) (x2 : Option Nat) (G : GS) : Option (GS) := zloop (fun s : GS => fbX5_offer_10 t x1 x2 s) (G)
theorem wfbX5_offer_10 {F : zF} (hd : 8 ≤ F.2.2.2) (t : Nat) (x1 : Option Nat) (x2 : Option Nat) (G : GS) {a : (GS) ⊕ (GS)} (h : fbX5_offer_10 t x1 x2 G = some a) (hk : (zcase (fun s : GS => J mX5_offer F s 10 [(0, vR (some t)), (1, vR x1), (2, vR x2)] []) (zKV F)) a) : J mX5_offer F G 10 [(0, vR (some t)), (1, vR x1), (2, vR x2)] [] := by
  unfold fbX5_offer_10 at h
  refine j_aload_n (j := 2) dX5_offer_10 rfl rfl ?_
  replace h := zbE h
  obtain ⟨a1, e2, h⟩ := h
  subst e2
  replace h := zkE h
  obtain ⟨e3, h⟩ := h
  replace h := zbE h
  obtain ⟨v5, e4, h⟩ := h
  refine j_cont (zrF (As := []) msX5_82_J19 (yJ19_hasNext_ok e4) (Nat.le_trans (Nat.le_of_ble_eq_true rfl) hd) (zk_13 _ e3) rfl rfl (Nat.le_of_ble_eq_true rfl) dX5_offer_11) ?_
  refine j_if_eq (tgt := 81) dX5_offer_16 (by decide) (fun c6 => ?_) (fun c6 => ?_)
  · rw [if_pos c6] at h
    replace h := zoE h
    obtain ⟨a, h, rfl⟩ := h
    replace hk := hk
    obtain rfl := Option.some.inj h
    exact j_vret hk.1 hk.2 rfl dX5_offer_81
  · rw [if_neg c6] at h
    refine j_aload_n (j := 2) dX5_offer_19 rfl rfl ?_
    replace h := zkE h
    obtain ⟨e7, h⟩ := h
    replace h := zb2E h
    obtain ⟨r9, G10, e8, h⟩ := h
    refine j_cont (zrF (As := []) msX5_88_J19 (yJ19_next_ok e8) (Nat.le_trans (Nat.le_of_ble_eq_true rfl) hd) (zk_13 _ e7) rfl rfl (Nat.le_of_ble_eq_true rfl) dX5_offer_20) ?_
    replace h := zkqE h
    obtain ⟨e11, h⟩ := h
    refine j_castq (fun k => j_castN dX5_offer_25 k) (fun b q37 k => j_castS (zk_3 _ (e11 b q37)) ⟨2, _, rfl, rfl⟩ q476 dX5_offer_25 k) ?_
    refine j_astore_n (lv' := [(3, vR r9), (0, vR (some t)), (1, vR x1), (2, vR (some a1))]) dX5_offer_28 rfl (Nat.le_of_ble_eq_true rfl) rfl ?_
    refine j_aload_n (j := 0) dX5_offer_29 rfl rfl ?_
    replace h := zbE h
    obtain ⟨a12, e13, h⟩ := h
    subst e13
    replace h := zbE h
    obtain ⟨v14, e15, h⟩ := h
    refine j_getI fgX5_101 (fun _ _ _ => rfl) dX5_offer_30 e15 ?_
    refine j_bipush (v := 20) dX5_offer_33 (by decide) ?_
    refine j_isub dX5_offer_35 ?_
    refine j_istore (lv' := [(4, vI (v14 - 20)), (3, vR (some a12)), (0, vR (some t)), (1, vR x1), (2, vR (some a1))]) dX5_offer_36 (Nat.le_of_ble_eq_true rfl) rfl ?_
    refine j_aload_n (j := 2) dX5_offer_38 rfl rfl ?_
    refine j_aload_n (j := 1) dX5_offer_39 rfl rfl ?_
    replace h := zkE h
    obtain ⟨e16, h⟩ := h
    replace h := zbE h
    obtain ⟨v18, e17, h⟩ := h
    refine j_cont (zrV (As := [vR (some a12)]) msX5_164 (yX5_lengthOf_ok e17) (Nat.le_trans (Nat.le_of_ble_eq_true rfl) hd) (zk_5 _ e16) rfl rfl (Nat.le_of_ble_eq_true rfl) dX5_offer_40) ?_
    refine j_istore (lv' := [(5, vI v18), (4, vI (v14 - 20)), (3, vR (some a12)), (0, vR (some t)), (1, vR x1), (2, vR (some a1))]) dX5_offer_43 (Nat.le_of_ble_eq_true rfl) rfl ?_
    refine j_iload (j := 0) dX5_offer_45 rfl ?_
    refine j_iconst (v := (-1)) dX5_offer_47 (by decide) ?_
    refine j_icmp_eq (tgt := 78) dX5_offer_48 (by decide) (fun c19 => ?_) (fun c19 => ?_)
    · rw [if_pos c19] at h
      exact J.sub (zall [3, 4, 5] rfl) (wfX5_offer_78 hd t x1 (some a1)  G10 h hk)
    · rw [if_neg c19] at h
      refine j_aload_n (j := 3) dX5_offer_51 rfl rfl ?_
      replace h := zbE h
      obtain ⟨r20, e21, h⟩ := h
      refine j_getR fgX5_18 (fun _ _ _ => rfl) dX5_offer_52 e21 ?_
      refine j_iload (j := 1) dX5_offer_55 rfl ?_
      replace h := zbE h
      obtain ⟨a22, e23, h⟩ := h
      subst e23
      replace h := zbE h
      obtain ⟨v24, e25, h⟩ := h
      refine j_iald (Or.inl rfl) e25 dX5_offer_57 ?_
      refine j_iconst (v := (-1)) dX5_offer_58 (by decide) ?_
      refine j_icmp_ne (tgt := 78) dX5_offer_59 (by decide) (fun c26 => ?_) (fun c26 => ?_)
      · rw [if_pos c26] at h
        refine j_aload_n (j := 4) dX5_offer_62 rfl rfl ?_
        replace h := zlE h
        obtain ⟨G27, e28, h⟩ := h
        refine j_new (c := 5) (n := 2) (r := (RX6, TX6, 2, tyX6)) rfl rfl in_X6 tyX6_ok nwX6 q733 q734 q159 dX5_offer_63 ?_
        rw [show al G10 (5 + 1) 0 2 = G27 from e28.symm]
        refine j_dup dX5_offer_66 rfl ?_
        refine j_iload (j := 1) dX5_offer_67 rfl ?_
        refine j_iload (j := 0) dX5_offer_69 rfl ?_
        replace h := zbE h
        obtain ⟨G30, e29, h⟩ := h
        refine j_cont (zrI (As := [vI (v14 - 20), vI v18]) msX5_168 (yX6_init_ok e29) (Nat.le_trans (Nat.le_of_ble_eq_true rfl) hd) rfl rfl (Nat.le_of_ble_eq_true rfl) dX5_offer_71) ?_
        replace h := zbE h
        obtain ⟨a31, e32, h⟩ := h
        subst e32
        replace h := zkE h
        obtain ⟨e33, h⟩ := h
        replace h := zb2E h
        obtain ⟨v35, G36, e34, h⟩ := h
        refine j_cont (zrV (As := [vR (some (gz G10))]) msX5_171 (yJ28_add_ok e34) (Nat.le_trans (Nat.le_of_ble_eq_true rfl) hd) (zk_20 _ e33) rfl rfl (Nat.le_of_ble_eq_true rfl) dX5_offer_74) ?_
        refine j_pop dX5_offer_77 rfl ?_
        exact J.sub (zall [3, 4, 5] rfl) (wfX5_offer_78 hd t (some a31) (some a1)  G36 h hk)
      · rw [if_neg c26] at h
        exact J.sub (zall [3, 4, 5] rfl) (wfX5_offer_78 hd t x1 (some a1)  G10 h hk)
theorem wflX5_offer_10 {F : zF} (hd : 8 ≤ F.2.2.2) (t : Nat) (x1 : Option Nat) (x2 : Option Nat) (G : GS) {a : GS} (h : flX5_offer_10 t x1 x2 G = some a) (hk : zKV F a) : J mX5_offer F G 10 [(0, vR (some t)), (1, vR x1), (2, vR x2)] [] := by
  unfold flX5_offer_10 at h
  exact zloop_walk (P := (fun s : GS => J mX5_offer F s 10 [(0, vR (some t)), (1, vR x1), (2, vR x2)] [])) (fun s b e hk => wfbX5_offer_10 hd t x1 x2 s e hk) (G) _ h hk
def fX5_offer_0 (t : Nat) (x1 : Option Nat)  (G : GS) : Option (GS) :=
  (zgR G 5 t 0).bind fun r1 => r1.bind fun a3 => zk [12] G a3 <| zb2 (fJ2_iterator_0 a3 G) fun r7 G8 => flX5_offer_10 t x1 r7 G8
theorem wfX5_offer_0 {F : zF} (hd : 8 ≤ F.2.2.2) (t : Nat) (x1 : Option Nat)  (G : GS) {a : GS} (h : fX5_offer_0 t x1  G = some a) (hk : zKV F a) : J mX5_offer F G 0 [(0, vR (some t)), (1, vR x1)] [] := by
  unfold fX5_offer_0 at h
  refine j_aload_n (j := 0) dX5_offer_0 rfl rfl ?_
  replace h := zbE h
  obtain ⟨r1, e2, h⟩ := h
  refine j_getR fgX5_39 (fun _ _ _ => rfl) dX5_offer_1 e2 ?_
  replace h := zbE h
  obtain ⟨a3, e4, h⟩ := h
  subst e4
  replace h := zkE h
  obtain ⟨e5, h⟩ := h
  replace h := zb2E h
  obtain ⟨r7, G8, e6, h⟩ := h
  refine j_cont (zrF (As := []) msX5_78_J2 (yJ2_iterator_ok e6) (Nat.le_trans (Nat.le_of_ble_eq_true rfl) hd) (zk_12 _ e5) rfl rfl (Nat.le_of_ble_eq_true rfl) dX5_offer_4) ?_
  refine j_astore_n (lv' := [(2, vR r7), (0, vR (some t)), (1, vR x1)]) dX5_offer_9 rfl (Nat.le_of_ble_eq_true rfl) rfl ?_
  exact J.sub (zall [1, 2, 0] rfl) (wflX5_offer_10 hd t x1 r7  G8 h hk)
theorem yX5_offer_ok {t : Nat} {x1 : Option Nat} {G : GS} {G1 : GS} (h : fX5_offer_0 t x1 G = some G1) : zRuns yX5_offer (ws_ yX5_offer cX5_offer 6 none) [vR (some t), vR x1] (.inl none, G, G1, 8) :=
  zentry (M := mX5_offer) (plainFor_of_name (by decide +kernel)) ⟨rfl, rfl, rfl, rfl⟩ (Nat.le_of_ble_eq_true rfl) (wfX5_offer_0 (Nat.le_refl _) t x1 G h ⟨rfl, rfl⟩)
abbrev mJ28_size : zM := (cJ28_size, RJ28, 1, (some Jvm.ClassFile.FieldType.int), "size", [], "()I")
def fJ28_size_0 (t : Nat)  (G : GS) : Option (Int32) :=
  (zgI G 20 t 1).bind fun v1 => some v1
theorem wfJ28_size_0 {F : zF} (hd : 1 ≤ F.2.2.2) (t : Nat)  (G : GS) {a : Int32} (h : fJ28_size_0 t  G = some a) (hk : zKPI F G a) : J mJ28_size F G 0 [(0, vR (some t))] [] := by
  unfold fJ28_size_0 at h
  refine j_aload_n (j := 0) dJ28_size_0 rfl rfl ?_
  replace h := zbE h
  obtain ⟨v1, e2, h⟩ := h
  refine j_getI fgJ28_58 (fun _ _ _ => rfl) dJ28_size_1 e2 ?_
  obtain rfl := Option.some.inj h
  exact j_iret hk.1 hk.2 rfl dJ28_size_4
theorem yJ28_size_ok {t : Nat} {G : GS} {r : Int32} (h : fJ28_size_0 t G = some r) : zRuns yJ28_size (ws_ yJ28_size cJ28_size 1 (some Jvm.ClassFile.FieldType.int)) [vR (some t)] (.inl (some (vI r)), G, G, 1) :=
  zentry (M := mJ28_size) (plainFor_of_name (by decide +kernel)) ⟨rfl, rfl, rfl, rfl⟩ (Nat.le_of_ble_eq_true rfl) (wfJ28_size_0 (Nat.le_refl _) t G h ⟨rfl, rfl⟩)
theorem msJ0_7_J28 : GoodIn lw_all (va_wsU RJ0 7 "java/util/PriorityQueue" "java/util/AbstractCollection" ⟨"java/util/AbstractCollection", "size", "()I"⟩ yJ28_size (ws_ yJ28_size cJ28_size 1 (some Jvm.ClassFile.FieldType.int))) ∧ Cond.declares ⟨"java/util/AbstractCollection", "size", "()I"⟩ ∈ zxs ∧ ("java/util/AbstractCollection" ≠ "java/lang/invoke/MethodHandle" ∧ "java/util/AbstractCollection" ≠ "java/lang/invoke/VarHandle" ∧ (parseMethodDescriptor "()I").map (fun d => d.parameters.length) = some 0) ∧ 1 ≤ 45 := ⟨lw_U q977 q979 q987 q988 q158 q989, zxw 1 rfl, (by decide +kernel), (by decide)⟩
abbrev mJ0_isEmpty : zM := (cJ0_isEmpty, RJ0, 1, (some Jvm.ClassFile.FieldType.boolean), "isEmpty", [], "()Z")
def fJ0_isEmpty_0 (t : Nat)  (G : GS) : Option (Int32) :=
  zk [20] G t <| (fJ28_size_0 t G).bind fun v3 => if v3 = 0 then (zcond (zbb 1) (some 1)) else (zcond (zbb 0) (some 0))
theorem wfJ0_isEmpty_0 {F : zF} (hd : 2 ≤ F.2.2.2) (t : Nat)  (G : GS) {a : Int32} (h : fJ0_isEmpty_0 t  G = some a) (hk : zKPI F G a) : J mJ0_isEmpty F G 0 [(0, vR (some t))] [] := by
  unfold fJ0_isEmpty_0 at h
  refine j_aload_n (j := 0) dJ0_isEmpty_0 rfl rfl ?_
  replace h := zkE h
  obtain ⟨e1, h⟩ := h
  replace h := zbE h
  obtain ⟨v3, e2, h⟩ := h
  refine j_cont (zrA (As := []) msJ0_7_J28 (yJ28_size_ok e2) (Nat.le_trans (Nat.le_of_ble_eq_true rfl) hd) (zk_20 _ e1) rfl rfl (Nat.le_of_ble_eq_true rfl) dJ0_isEmpty_1) ?_
  refine j_if_ne (tgt := 11) dJ0_isEmpty_4 (by decide) (fun c4 => ?_) (fun c4 => ?_)
  · rw [if_pos c4] at h
    refine j_iconst (v := 1) dJ0_isEmpty_7 (by decide) ?_
    refine j_goto (tgt := 12) dJ0_isEmpty_8 (by decide) ?_
    replace h := zcondE h
    obtain ⟨e5, h⟩ := h
    obtain rfl := Option.some.inj h
    exact j_zret hk.1 hk.2 rfl (zbb_n e5) dJ0_isEmpty_12
  · rw [if_neg c4] at h
    refine j_iconst (v := 0) dJ0_isEmpty_11 (by decide) ?_
    replace h := zcondE h
    obtain ⟨e6, h⟩ := h
    obtain rfl := Option.some.inj h
    exact j_zret hk.1 hk.2 rfl (zbb_n e6) dJ0_isEmpty_12
theorem yJ0_isEmpty_ok {t : Nat} {G : GS} {r : Int32} (h : fJ0_isEmpty_0 t G = some r) : zRuns yJ0_isEmpty (ws_ yJ0_isEmpty cJ0_isEmpty 1 (some Jvm.ClassFile.FieldType.boolean)) [vR (some t)] (.inl (some (vI r)), G, G, 2) :=
  zentry (M := mJ0_isEmpty) (plainFor_of_name (by decide +kernel)) ⟨rfl, rfl, rfl, rfl⟩ (Nat.le_of_ble_eq_true rfl) (wfJ0_isEmpty_0 (Nat.le_refl _) t G h ⟨rfl, rfl⟩)
abbrev mJ28_siftDownComparable : zM := (cJ28_siftDownComparable, RJ28, 9, none, "siftDownComparable", [], "(ILjava/lang/Object;[Ljava/lang/Object;I)V")
def fJ28_siftDownComparable_94 (x0 : Int32) (x2 : Option Nat) (x4 : Option Nat)  (G : GS) : Option (GS) :=
  x2.bind fun a1 => (zsR G 54 a1 x0 x4 [6]).bind fun G3 => some G3
theorem wfJ28_siftDownComparable_94 {F : zF} (hd : 4 ≤ F.2.2.2) (x0 : Int32) (x2 : Option Nat) (x4 : Option Nat)  (G : GS) {a : GS} (h : fJ28_siftDownComparable_94 x0 x2 x4  G = some a) (hk : zKV F a) : J mJ28_siftDownComparable F G 94 [(0, vI x0), (2, vR x2), (4, vR x4)] [] := by
  unfold fJ28_siftDownComparable_94 at h
  refine j_aload_n (j := 1) dJ28_siftDownComparable_94 rfl rfl ?_
  refine j_iload_n (j := 0) dJ28_siftDownComparable_95 rfl rfl ?_
  refine j_aload (j := 2) dJ28_siftDownComparable_96 rfl ?_
  replace h := zbE h
  obtain ⟨a1, e2, h⟩ := h
  subst e2
  replace h := zbE h
  obtain ⟨G3, e4, h⟩ := h
  refine j_aast (t := 4) rfl e4 (fun k hk => ⟨_, zk_6 k hk, (Or.inl (zxw 106 rfl))⟩) dJ28_siftDownComparable_98 ?_
  obtain rfl := Option.some.inj h
  exact j_vret hk.1 hk.2 rfl dJ28_siftDownComparable_99
def fJ28_siftDownComparable_80 (x0 : Int32) (x2 : Option Nat) (x4 : Option Nat)  (G : GS) : Option (GS) :=
  fJ28_siftDownComparable_94 x0 x2 x4 G
theorem wfJ28_siftDownComparable_80 {F : zF} (hd : 4 ≤ F.2.2.2) (x0 : Int32) (x2 : Option Nat) (x4 : Option Nat)  (G : GS) {a : GS} (h : fJ28_siftDownComparable_80 x0 x2 x4  G = some a) (hk : zKV F a) : J mJ28_siftDownComparable F G 80 [(0, vI x0), (2, vR x2), (4, vR x4)] [] := by
  unfold fJ28_siftDownComparable_80 at h
  refine j_goto (tgt := 94) dJ28_siftDownComparable_80 (by decide) ?_
  exact J.sub (zall [0, 1, 2] rfl) (wfJ28_siftDownComparable_94 hd x0 x2 x4  G h hk)
def fJ28_siftDownComparable_68 (x0 : Int32) (x2 : Option Nat) (x3 : Int32) (x4 : Option Nat) (x5 : Int32) (x6 : Int32) (x7 : Option Nat)  (G : GS) : Option ((Int32 × GS) ⊕ (GS)) :=
  x4.bind fun a1 => zk [6] G a1 <| (fX6_compareTo_0 a1 x7 G).bind fun v5 => if 0 < v5 then (x2.bind fun a7 => (zsR G 54 a7 x0 x7 [6]).bind fun G9 => some (.inl (x6, G9))) else (zo (fJ28_siftDownComparable_80 x0 x2 (some a1) G))
theorem wfJ28_siftDownComparable_68 {F : zF} (hd : 4 ≤ F.2.2.2) (x0 : Int32) (x2 : Option Nat) (x3 : Int32) (x4 : Option Nat) (x5 : Int32) (x6 : Int32) (x7 : Option Nat)  (G : GS) {a : (Int32 × GS) ⊕ (GS)} (h : fJ28_siftDownComparable_68 x0 x2 x3 x4 x5 x6 x7  G = some a) (hk : (zcase (fun s : Int32 × GS => J mJ28_siftDownComparable F s.2 11 [(0, vI s.1), (2, vR x2), (3, vI x3), (4, vR x4), (5, vI x5)] []) (zKV F)) a) : J mJ28_siftDownComparable F G 68 [(0, vI x0), (2, vR x2), (3, vI x3), (4, vR x4), (5, vI x5), (6, vI x6), (7, vR x7)] [] := by
  unfold fJ28_siftDownComparable_68 at h
  refine j_aload (j := 3) dJ28_siftDownComparable_68 rfl ?_
  refine j_aload (j := 6) dJ28_siftDownComparable_70 rfl ?_
  replace h := zbE h
  obtain ⟨a1, e2, h⟩ := h
  subst e2
  replace h := zkE h
  obtain ⟨e3, h⟩ := h
  replace h := zbE h
  obtain ⟨v5, e4, h⟩ := h
  refine j_cont (zrF (As := [vR x7]) msJ28_146_X6 (yX6_compareTo_ok e4) (Nat.le_trans (Nat.le_of_ble_eq_true rfl) hd) (zk_6 _ e3) rfl rfl (Nat.le_of_ble_eq_true rfl) dJ28_siftDownComparable_72) ?_
  refine j_if_gt (tgt := 83) dJ28_siftDownComparable_77 (by decide) (fun c6 => ?_) (fun c6 => ?_)
  · rw [if_pos c6] at h
    refine j_aload_n (j := 1) dJ28_siftDownComparable_83 rfl rfl ?_
    refine j_iload_n (j := 0) dJ28_siftDownComparable_84 rfl rfl ?_
    refine j_aload (j := 6) dJ28_siftDownComparable_85 rfl ?_
    replace h := zbE h
    obtain ⟨a7, e8, h⟩ := h
    subst e8
    replace h := zbE h
    obtain ⟨G9, e10, h⟩ := h
    refine j_aast (t := 4) rfl e10 (fun k hk => ⟨_, zk_6 k hk, (Or.inl (zxw 106 rfl))⟩) dJ28_siftDownComparable_87 ?_
    refine j_iload (j := 5) dJ28_siftDownComparable_88 rfl ?_
    refine j_istore_n (lv' := [(0, vI x6), (2, vR (some a7)), (3, vI x3), (4, vR (some a1)), (5, vI x5), (6, vI x6), (7, vR x7)]) dJ28_siftDownComparable_90 rfl (Nat.le_of_ble_eq_true rfl) rfl ?_
    refine j_goto (tgt := 11) dJ28_siftDownComparable_91 (by decide) ?_
    obtain rfl := Option.some.inj h
    exact J.sub (zall [0, 1, 2, 3, 4] rfl) hk
  · rw [if_neg c6] at h
    replace h := zoE h
    obtain ⟨a, h, rfl⟩ := h
    replace hk := hk
    exact J.sub (zall [0, 1, 3] rfl) (wfJ28_siftDownComparable_80 hd x0 x2 (some a1)  G h hk)
def fbJ28_siftDownComparable_11 (x0 : Int32) (x2 : Option Nat) (x3 : Int32) (x4 : Option Nat) (x5 : Int32)  (G : GS) : Option ((Int32 × GS) ⊕ (GS)) :=
  if x5 ≤ x0 then (zo (fJ28_siftDownComparable_94 x0 x2 x4 G)) else (x2.bind fun a2 => (zaR G 54 a2 ((x0 <<< ((1 : Int32) &&& 31)) + 1)).bind fun r4 => if x3 ≤ (((x0 <<< ((1 : Int32) &&& 31)) + 1) + 1) then (fJ28_siftDownComparable_68 x0 (some a2) x3 x4 x5 ((x0 <<< ((1 : Int32) &&& 31)) + 1) r4 G) else (zkq [6] G r4 ((zaR G 54 a2 (((x0 <<< ((1 : Int32) &&& 31)) + 1) + 1)).bind fun r8 => r4.bind fun a10 => zk [6] G a10 <| (fX6_compareTo_0 a10 r8 G).bind fun v14 => if v14 ≤ 0 then (fJ28_siftDownComparable_68 x0 (some a2) x3 x4 x5 ((x0 <<< ((1 : Int32) &&& 31)) + 1) (some a10) G) else ((zaR G 54 a2 (((x0 <<< ((1 : Int32) &&& 31)) + 1) + 1)).bind fun r16 => fJ28_siftDownComparable_68 x0 (some a2) x3 x4 x5 (((x0 <<< ((1 : Int32) &&& 31)) + 1) + 1) r16 G))))
def flJ28_siftDownComparable_11 (x0 : Int32) (x2 : Option Nat) (x3 : Int32) (x4 : Option Nat) (x5 : Int32) (G : GS) : Option (GS) := zloop (fun s : Int32 × GS => fbJ28_siftDownComparable_11 s.1 x2 x3 x4 x5 s.2) (x0, G)
theorem wfbJ28_siftDownComparable_11 {F : zF} (hd : 4 ≤ F.2.2.2) (x0 : Int32) (x2 : Option Nat) (x3 : Int32) (x4 : Option Nat) (x5 : Int32) (G : GS) {a : (Int32 × GS) ⊕ (GS)} (h : fbJ28_siftDownComparable_11 x0 x2 x3 x4 x5 G = some a) (hk : (zcase (fun s : Int32 × GS => J mJ28_siftDownComparable F s.2 11 [(0, vI s.1), (2, vR x2), (3, vI x3), (4, vR x4), (5, vI x5)] []) (zKV F)) a) : J mJ28_siftDownComparable F G 11 [(0, vI x0), (2, vR x2), (3, vI x3), (4, vR x4), (5, vI x5)] [] := by
  unfold fbJ28_siftDownComparable_11 at h
  refine j_iload_n (j := 0) dJ28_siftDownComparable_11 rfl rfl ?_
  refine j_iload (j := 4) dJ28_siftDownComparable_12 rfl ?_
  refine j_icmp_ge (tgt := 94) dJ28_siftDownComparable_14 (by decide) (fun c1 => ?_) (fun c1 => ?_)
  · rw [if_pos c1] at h
    replace h := zoE h
    obtain ⟨a, h, rfl⟩ := h
    replace hk := hk
    exact J.sub (zall [0, 1, 3] rfl) (wfJ28_siftDownComparable_94 hd x0 x2 x4  G h hk)
  · rw [if_neg c1] at h
    refine j_iload_n (j := 0) dJ28_siftDownComparable_17 rfl rfl ?_
    refine j_iconst (v := 1) dJ28_siftDownComparable_18 (by decide) ?_
    refine j_ishl dJ28_siftDownComparable_19 ?_
    refine j_iconst (v := 1) dJ28_siftDownComparable_20 (by decide) ?_
    refine j_iadd dJ28_siftDownComparable_21 ?_
    refine j_istore (lv' := [(6, vI ((x0 <<< ((1 : Int32) &&& 31)) + 1)), (0, vI x0), (2, vR x2), (3, vI x3), (4, vR x4), (5, vI x5)]) dJ28_siftDownComparable_22 (Nat.le_of_ble_eq_true rfl) rfl ?_
    refine j_aload_n (j := 2) dJ28_siftDownComparable_24 rfl rfl ?_
    refine j_iload (j := 0) dJ28_siftDownComparable_25 rfl ?_
    replace h := zbE h
    obtain ⟨a2, e3, h⟩ := h
    subst e3
    replace h := zbE h
    obtain ⟨r4, e5, h⟩ := h
    refine j_aald (Or.inl rfl) e5 dJ28_siftDownComparable_27 ?_
    refine j_astore (lv' := [(7, vR r4), (6, vI ((x0 <<< ((1 : Int32) &&& 31)) + 1)), (0, vI x0), (2, vR (some a2)), (3, vI x3), (4, vR x4), (5, vI x5)]) dJ28_siftDownComparable_28 (Nat.le_of_ble_eq_true rfl) rfl ?_
    refine j_iload (j := 1) dJ28_siftDownComparable_30 rfl ?_
    refine j_iconst (v := 1) dJ28_siftDownComparable_32 (by decide) ?_
    refine j_iadd dJ28_siftDownComparable_33 ?_
    refine j_istore (lv' := [(8, vI (((x0 <<< ((1 : Int32) &&& 31)) + 1) + 1)), (7, vR r4), (6, vI ((x0 <<< ((1 : Int32) &&& 31)) + 1)), (0, vI x0), (2, vR (some a2)), (3, vI x3), (4, vR x4), (5, vI x5)]) dJ28_siftDownComparable_34 (Nat.le_of_ble_eq_true rfl) rfl ?_
    refine j_iload (j := 0) dJ28_siftDownComparable_36 rfl ?_
    refine j_iload_n (j := 5) dJ28_siftDownComparable_38 rfl rfl ?_
    refine j_icmp_ge (tgt := 68) dJ28_siftDownComparable_39 (by decide) (fun c6 => ?_) (fun c6 => ?_)
    · rw [if_pos c6] at h
      exact J.sub (zall [3, 4, 5, 6, 7, 2, 1] rfl) (wfJ28_siftDownComparable_68 hd x0 (some a2) x3 x4 x5 ((x0 <<< ((1 : Int32) &&& 31)) + 1) r4  G h hk)
    · rw [if_neg c6] at h
      refine j_aload (j := 1) dJ28_siftDownComparable_42 rfl ?_
      replace h := zkqE h
      obtain ⟨e7, h⟩ := h
      refine j_castq (fun k => j_castN dJ28_siftDownComparable_44 k) (fun b q18 k => j_cast (zk_6 _ (e7 b q18)) q831 (zxw 105 rfl) dJ28_siftDownComparable_44 k) ?_
      refine j_aload_n (j := 4) dJ28_siftDownComparable_47 rfl rfl ?_
      refine j_iload (j := 0) dJ28_siftDownComparable_48 rfl ?_
      replace h := zbE h
      obtain ⟨r8, e9, h⟩ := h
      refine j_aald (Or.inl rfl) e9 dJ28_siftDownComparable_50 ?_
      replace h := zbE h
      obtain ⟨a10, e11, h⟩ := h
      subst e11
      replace h := zkE h
      obtain ⟨e12, h⟩ := h
      replace h := zbE h
      obtain ⟨v14, e13, h⟩ := h
      refine j_cont (zrF (As := [vR r8]) msJ28_146_X6 (yX6_compareTo_ok e13) (Nat.le_trans (Nat.le_of_ble_eq_true rfl) hd) (zk_6 _ e12) rfl rfl (Nat.le_of_ble_eq_true rfl) dJ28_siftDownComparable_51) ?_
      refine j_if_le (tgt := 68) dJ28_siftDownComparable_56 (by decide) (fun c15 => ?_) (fun c15 => ?_)
      · rw [if_pos c15] at h
        exact J.sub (zall [3, 4, 5, 6, 7, 2, 1] rfl) (wfJ28_siftDownComparable_68 hd x0 (some a2) x3 x4 x5 ((x0 <<< ((1 : Int32) &&& 31)) + 1) (some a10)  G h hk)
      · rw [if_neg c15] at h
        refine j_aload_n (j := 4) dJ28_siftDownComparable_59 rfl rfl ?_
        refine j_iload (j := 0) dJ28_siftDownComparable_60 rfl ?_
        refine j_dup dJ28_siftDownComparable_62 rfl ?_
        refine j_istore (lv' := [(6, vI (((x0 <<< ((1 : Int32) &&& 31)) + 1) + 1)), (8, vI (((x0 <<< ((1 : Int32) &&& 31)) + 1) + 1)), (7, vR (some a10)), (0, vI x0), (2, vR (some a2)), (3, vI x3), (4, vR x4), (5, vI x5)]) dJ28_siftDownComparable_63 (Nat.le_of_ble_eq_true rfl) rfl ?_
        replace h := zbE h
        obtain ⟨r16, e17, h⟩ := h
        refine j_aald (Or.inl rfl) e17 dJ28_siftDownComparable_65 ?_
        refine j_astore (lv' := [(7, vR r16), (6, vI (((x0 <<< ((1 : Int32) &&& 31)) + 1) + 1)), (8, vI (((x0 <<< ((1 : Int32) &&& 31)) + 1) + 1)), (0, vI x0), (2, vR (some a2)), (3, vI x3), (4, vR x4), (5, vI x5)]) dJ28_siftDownComparable_66 (Nat.le_of_ble_eq_true rfl) rfl ?_
        exact J.sub (zall [3, 4, 5, 6, 7, 1, 0] rfl) (wfJ28_siftDownComparable_68 hd x0 (some a2) x3 x4 x5 (((x0 <<< ((1 : Int32) &&& 31)) + 1) + 1) r16  G h hk)
theorem wflJ28_siftDownComparable_11 {F : zF} (hd : 4 ≤ F.2.2.2) (x0 : Int32) (x2 : Option Nat) (x3 : Int32) (x4 : Option Nat) (x5 : Int32) (G : GS) {a : GS} (h : flJ28_siftDownComparable_11 x0 x2 x3 x4 x5 G = some a) (hk : zKV F a) : J mJ28_siftDownComparable F G 11 [(0, vI x0), (2, vR x2), (3, vI x3), (4, vR x4), (5, vI x5)] [] := by
  unfold flJ28_siftDownComparable_11 at h
  exact zloop_walk (P := (fun s : Int32 × GS => J mJ28_siftDownComparable F s.2 11 [(0, vI s.1), (2, vR x2), (3, vI x3), (4, vR x4), (5, vI x5)] [])) (fun s b e hk => wfbJ28_siftDownComparable_11 hd s.1 x2 x3 x4 x5 s.2 e hk) (x0, G) _ h hk
def fJ28_siftDownComparable_0 (x0 : Int32) (x1 : Option Nat) (x2 : Option Nat) (x3 : Int32)  (G : GS) : Option (GS) :=
  zkq [6] G x1 (flJ28_siftDownComparable_11 x0 x2 x3 x1 ((x3.toUInt32 >>> ((1 : Int32).toUInt32 &&& Int32.toUInt32 31)).toInt32) G)
theorem wfJ28_siftDownComparable_0 {F : zF} (hd : 4 ≤ F.2.2.2) (x0 : Int32) (x1 : Option Nat) (x2 : Option Nat) (x3 : Int32)  (G : GS) {a : GS} (h : fJ28_siftDownComparable_0 x0 x1 x2 x3  G = some a) (hk : zKV F a) : J mJ28_siftDownComparable F G 0 [(0, vI x0), (1, vR x1), (2, vR x2), (3, vI x3)] [] := by
  unfold fJ28_siftDownComparable_0 at h
  refine j_aload_n (j := 1) dJ28_siftDownComparable_0 rfl rfl ?_
  replace h := zkqE h
  obtain ⟨e1, h⟩ := h
  refine j_castq (fun k => j_castN dJ28_siftDownComparable_1 k) (fun b q2 k => j_cast (zk_6 _ (e1 b q2)) q831 (zxw 105 rfl) dJ28_siftDownComparable_1 k) ?_
  refine j_astore (lv' := [(4, vR x1), (0, vI x0), (1, vR x1), (2, vR x2), (3, vI x3)]) dJ28_siftDownComparable_4 (Nat.le_of_ble_eq_true rfl) rfl ?_
  refine j_iload_n (j := 4) dJ28_siftDownComparable_6 rfl rfl ?_
  refine j_iconst (v := 1) dJ28_siftDownComparable_7 (by decide) ?_
  refine j_iushr dJ28_siftDownComparable_8 ?_
  refine j_istore (lv' := [(5, vI ((x3.toUInt32 >>> ((1 : Int32).toUInt32 &&& Int32.toUInt32 31)).toInt32)), (4, vR x1), (0, vI x0), (1, vR x1), (2, vR x2), (3, vI x3)]) dJ28_siftDownComparable_9 (Nat.le_of_ble_eq_true rfl) rfl ?_
  exact J.sub (zall [2, 4, 5, 1, 0] rfl) (wflJ28_siftDownComparable_11 hd x0 x2 x3 x1 ((x3.toUInt32 >>> ((1 : Int32).toUInt32 &&& Int32.toUInt32 31)).toInt32)  G h hk)
theorem yJ28_siftDownComparable_ok {x0 : Int32} {x1 : Option Nat} {x2 : Option Nat} {x3 : Int32} {G : GS} {G1 : GS} (h : fJ28_siftDownComparable_0 x0 x1 x2 x3 G = some G1) : zRuns yJ28_siftDownComparable (ws_ yJ28_siftDownComparable cJ28_siftDownComparable 9 none) [vI x0, vR x1, vR x2, vI x3] (.inl none, G, G1, 4) :=
  zentry (M := mJ28_siftDownComparable) (plainFor_of_name (by decide +kernel)) ⟨rfl, rfl, rfl, rfl⟩ (Nat.le_of_ble_eq_true rfl) (wfJ28_siftDownComparable_0 (Nat.le_refl _) x0 x1 x2 x3 G h ⟨rfl, rfl⟩)
abbrev mJ28_siftDownUsingComparator : zM := (cJ28_siftDownUsingComparator, RJ28, 9, none, "siftDownUsingComparator", [], "(ILjava/lang/Object;[Ljava/lang/Object;ILjava/util/Comparator;)V")
def fJ28_siftDownUsingComparator_88 (x0 : Int32) (x1 : Option Nat) (x2 : Option Nat)  (G : GS) : Option (GS) :=
  x2.bind fun a1 => (zsR G 54 a1 x0 x1 [3, 6, 10, 21, 61]).bind fun G3 => some G3
theorem wfJ28_siftDownUsingComparator_88 {F : zF} (hd : 1 ≤ F.2.2.2) (x0 : Int32) (x1 : Option Nat) (x2 : Option Nat)  (G : GS) {a : GS} (h : fJ28_siftDownUsingComparator_88 x0 x1 x2  G = some a) (hk : zKV F a) : J mJ28_siftDownUsingComparator F G 88 [(0, vI x0), (1, vR x1), (2, vR x2)] [] := by
  unfold fJ28_siftDownUsingComparator_88 at h
  refine j_aload_n (j := 2) dJ28_siftDownUsingComparator_88 rfl rfl ?_
  refine j_iload_n (j := 0) dJ28_siftDownUsingComparator_89 rfl rfl ?_
  refine j_aload_n (j := 1) dJ28_siftDownUsingComparator_90 rfl rfl ?_
  replace h := zbE h
  obtain ⟨a1, e2, h⟩ := h
  subst e2
  replace h := zbE h
  obtain ⟨G3, e4, h⟩ := h
  refine j_aast (t := 4) rfl e4 zobjK dJ28_siftDownUsingComparator_91 ?_
  obtain rfl := Option.some.inj h
  exact j_vret hk.1 hk.2 rfl dJ28_siftDownUsingComparator_92
def fJ28_siftDownUsingComparator_61 (x0 : Int32) (x1 : Option Nat) (x2 : Option Nat) (x3 : Int32) (x4 : Option Nat) (x5 : Int32) (x6 : Int32) (x7 : Option Nat)  (G : GS) : Option ((Int32 × GS) ⊕ (GS)) :=
  none
theorem wfJ28_siftDownUsingComparator_61 {F : zF} (hd : 1 ≤ F.2.2.2) (x0 : Int32) (x1 : Option Nat) (x2 : Option Nat) (x3 : Int32) (x4 : Option Nat) (x5 : Int32) (x6 : Int32) (x7 : Option Nat)  (G : GS) {a : (Int32 × GS) ⊕ (GS)} (h : fJ28_siftDownUsingComparator_61 x0 x1 x2 x3 x4 x5 x6 x7  G = some a) (hk : (zcase (fun s : Int32 × GS => J mJ28_siftDownUsingComparator F s.2 5 [(0, vI s.1), (1, vR x1), (2, vR x2), (3, vI x3), (4, vR x4), (5, vI x5)] []) (zKV F)) a) : J mJ28_siftDownUsingComparator F G 61 [(0, vI x0), (1, vR x1), (2, vR x2), (3, vI x3), (4, vR x4), (5, vI x5), (6, vI x6), (7, vR x7)] [] := by
  unfold fJ28_siftDownUsingComparator_61 at h
  refine j_aload (j := 4) dJ28_siftDownUsingComparator_61 rfl ?_
  refine j_aload_n (j := 1) dJ28_siftDownUsingComparator_63 rfl rfl ?_
  refine j_aload (j := 7) dJ28_siftDownUsingComparator_64 rfl ?_
  cases h
def fbJ28_siftDownUsingComparator_5 (x0 : Int32) (x1 : Option Nat) (x2 : Option Nat) (x3 : Int32) (x4 : Option Nat) (x5 : Int32)  (G : GS) : Option ((Int32 × GS) ⊕ (GS)) :=
  if x5 ≤ x0 then (zo (fJ28_siftDownUsingComparator_88 x0 x1 x2 G)) else (x2.bind fun a2 => (zaR G 54 a2 ((x0 <<< ((1 : Int32) &&& 31)) + 1)).bind fun r4 => if x3 ≤ (((x0 <<< ((1 : Int32) &&& 31)) + 1) + 1) then (fJ28_siftDownUsingComparator_61 x0 x1 (some a2) x3 x4 x5 ((x0 <<< ((1 : Int32) &&& 31)) + 1) r4 G) else ((zaR G 54 a2 (((x0 <<< ((1 : Int32) &&& 31)) + 1) + 1)).bind fun r7 => none))
def flJ28_siftDownUsingComparator_5 (x0 : Int32) (x1 : Option Nat) (x2 : Option Nat) (x3 : Int32) (x4 : Option Nat) (x5 : Int32) (G : GS) : Option (GS) := zloop (fun s : Int32 × GS => fbJ28_siftDownUsingComparator_5 s.1 x1 x2 x3 x4 x5 s.2) (x0, G)
theorem wfbJ28_siftDownUsingComparator_5 {F : zF} (hd : 1 ≤ F.2.2.2) (x0 : Int32) (x1 : Option Nat) (x2 : Option Nat) (x3 : Int32) (x4 : Option Nat) (x5 : Int32) (G : GS) {a : (Int32 × GS) ⊕ (GS)} (h : fbJ28_siftDownUsingComparator_5 x0 x1 x2 x3 x4 x5 G = some a) (hk : (zcase (fun s : Int32 × GS => J mJ28_siftDownUsingComparator F s.2 5 [(0, vI s.1), (1, vR x1), (2, vR x2), (3, vI x3), (4, vR x4), (5, vI x5)] []) (zKV F)) a) : J mJ28_siftDownUsingComparator F G 5 [(0, vI x0), (1, vR x1), (2, vR x2), (3, vI x3), (4, vR x4), (5, vI x5)] [] := by
  unfold fbJ28_siftDownUsingComparator_5 at h
  refine j_iload_n (j := 0) dJ28_siftDownUsingComparator_5 rfl rfl ?_
  refine j_iload (j := 5) dJ28_siftDownUsingComparator_6 rfl ?_
  refine j_icmp_ge (tgt := 88) dJ28_siftDownUsingComparator_8 (by decide) (fun c1 => ?_) (fun c1 => ?_)
  · rw [if_pos c1] at h
    replace h := zoE h
    obtain ⟨a, h, rfl⟩ := h
    replace hk := hk
    exact J.sub (zall [0, 1, 2] rfl) (wfJ28_siftDownUsingComparator_88 hd x0 x1 x2  G h hk)
  · rw [if_neg c1] at h
    refine j_iload_n (j := 0) dJ28_siftDownUsingComparator_11 rfl rfl ?_
    refine j_iconst (v := 1) dJ28_siftDownUsingComparator_12 (by decide) ?_
    refine j_ishl dJ28_siftDownUsingComparator_13 ?_
    refine j_iconst (v := 1) dJ28_siftDownUsingComparator_14 (by decide) ?_
    refine j_iadd dJ28_siftDownUsingComparator_15 ?_
    refine j_istore (lv' := [(6, vI ((x0 <<< ((1 : Int32) &&& 31)) + 1)), (0, vI x0), (1, vR x1), (2, vR x2), (3, vI x3), (4, vR x4), (5, vI x5)]) dJ28_siftDownUsingComparator_16 (Nat.le_of_ble_eq_true rfl) rfl ?_
    refine j_aload_n (j := 3) dJ28_siftDownUsingComparator_18 rfl rfl ?_
    refine j_iload (j := 0) dJ28_siftDownUsingComparator_19 rfl ?_
    replace h := zbE h
    obtain ⟨a2, e3, h⟩ := h
    subst e3
    replace h := zbE h
    obtain ⟨r4, e5, h⟩ := h
    refine j_aald (Or.inl rfl) e5 dJ28_siftDownUsingComparator_21 ?_
    refine j_astore (lv' := [(7, vR r4), (6, vI ((x0 <<< ((1 : Int32) &&& 31)) + 1)), (0, vI x0), (1, vR x1), (2, vR (some a2)), (3, vI x3), (4, vR x4), (5, vI x5)]) dJ28_siftDownUsingComparator_22 (Nat.le_of_ble_eq_true rfl) rfl ?_
    refine j_iload (j := 1) dJ28_siftDownUsingComparator_24 rfl ?_
    refine j_iconst (v := 1) dJ28_siftDownUsingComparator_26 (by decide) ?_
    refine j_iadd dJ28_siftDownUsingComparator_27 ?_
    refine j_istore (lv' := [(8, vI (((x0 <<< ((1 : Int32) &&& 31)) + 1) + 1)), (7, vR r4), (6, vI ((x0 <<< ((1 : Int32) &&& 31)) + 1)), (0, vI x0), (1, vR x1), (2, vR (some a2)), (3, vI x3), (4, vR x4), (5, vI x5)]) dJ28_siftDownUsingComparator_28 (Nat.le_of_ble_eq_true rfl) rfl ?_
    refine j_iload (j := 0) dJ28_siftDownUsingComparator_30 rfl ?_
    refine j_iload_n (j := 6) dJ28_siftDownUsingComparator_32 rfl rfl ?_
    refine j_icmp_ge (tgt := 61) dJ28_siftDownUsingComparator_33 (by decide) (fun c6 => ?_) (fun c6 => ?_)
    · rw [if_pos c6] at h
      exact J.sub (zall [3, 4, 5, 6, 7, 8, 2, 1] rfl) (wfJ28_siftDownUsingComparator_61 hd x0 x1 (some a2) x3 x4 x5 ((x0 <<< ((1 : Int32) &&& 31)) + 1) r4  G h hk)
    · rw [if_neg c6] at h
      refine j_aload (j := 7) dJ28_siftDownUsingComparator_36 rfl ?_
      refine j_aload (j := 1) dJ28_siftDownUsingComparator_38 rfl ?_
      refine j_aload_n (j := 5) dJ28_siftDownUsingComparator_40 rfl rfl ?_
      refine j_iload (j := 0) dJ28_siftDownUsingComparator_41 rfl ?_
      replace h := zbE h
      obtain ⟨r7, e8, h⟩ := h
      refine j_aald (Or.inl rfl) e8 dJ28_siftDownUsingComparator_43 ?_
      cases h
theorem wflJ28_siftDownUsingComparator_5 {F : zF} (hd : 1 ≤ F.2.2.2) (x0 : Int32) (x1 : Option Nat) (x2 : Option Nat) (x3 : Int32) (x4 : Option Nat) (x5 : Int32) (G : GS) {a : GS} (h : flJ28_siftDownUsingComparator_5 x0 x1 x2 x3 x4 x5 G = some a) (hk : zKV F a) : J mJ28_siftDownUsingComparator F G 5 [(0, vI x0), (1, vR x1), (2, vR x2), (3, vI x3), (4, vR x4), (5, vI x5)] [] := by
  unfold flJ28_siftDownUsingComparator_5 at h
  exact zloop_walk (P := (fun s : Int32 × GS => J mJ28_siftDownUsingComparator F s.2 5 [(0, vI s.1), (1, vR x1), (2, vR x2), (3, vI x3), (4, vR x4), (5, vI x5)] [])) (fun s b e hk => wfbJ28_siftDownUsingComparator_5 hd s.1 x1 x2 x3 x4 x5 s.2 e hk) (x0, G) _ h hk
def fJ28_siftDownUsingComparator_0 (x0 : Int32) (x1 : Option Nat) (x2 : Option Nat) (x3 : Int32) (x4 : Option Nat)  (G : GS) : Option (GS) :=
  flJ28_siftDownUsingComparator_5 x0 x1 x2 x3 x4 ((x3.toUInt32 >>> ((1 : Int32).toUInt32 &&& Int32.toUInt32 31)).toInt32) G
theorem wfJ28_siftDownUsingComparator_0 {F : zF} (hd : 1 ≤ F.2.2.2) (x0 : Int32) (x1 : Option Nat) (x2 : Option Nat) (x3 : Int32) (x4 : Option Nat)  (G : GS) {a : GS} (h : fJ28_siftDownUsingComparator_0 x0 x1 x2 x3 x4  G = some a) (hk : zKV F a) : J mJ28_siftDownUsingComparator F G 0 [(0, vI x0), (1, vR x1), (2, vR x2), (3, vI x3), (4, vR x4)] [] := by
  unfold fJ28_siftDownUsingComparator_0 at h
  refine j_iload_n (j := 3) dJ28_siftDownUsingComparator_0 rfl rfl ?_
  refine j_iconst (v := 1) dJ28_siftDownUsingComparator_1 (by decide) ?_
  refine j_iushr dJ28_siftDownUsingComparator_2 ?_
  refine j_istore (lv' := [(5, vI ((x3.toUInt32 >>> ((1 : Int32).toUInt32 &&& Int32.toUInt32 31)).toInt32)), (0, vI x0), (1, vR x1), (2, vR x2), (3, vI x3), (4, vR x4)]) dJ28_siftDownUsingComparator_3 (Nat.le_of_ble_eq_true rfl) rfl ?_
  exact J.sub (zall [1, 2, 3, 4, 5, 0] rfl) (wflJ28_siftDownUsingComparator_5 hd x0 x1 x2 x3 x4 ((x3.toUInt32 >>> ((1 : Int32).toUInt32 &&& Int32.toUInt32 31)).toInt32)  G h hk)
theorem yJ28_siftDownUsingComparator_ok {x0 : Int32} {x1 : Option Nat} {x2 : Option Nat} {x3 : Int32} {x4 : Option Nat} {G : GS} {G1 : GS} (h : fJ28_siftDownUsingComparator_0 x0 x1 x2 x3 x4 G = some G1) : zRuns yJ28_siftDownUsingComparator (ws_ yJ28_siftDownUsingComparator cJ28_siftDownUsingComparator 9 none) [vI x0, vR x1, vR x2, vI x3, vR x4] (.inl none, G, G1, 1) :=
  zentry (M := mJ28_siftDownUsingComparator) (plainFor_of_name (by decide +kernel)) ⟨rfl, rfl, rfl, rfl⟩ (Nat.le_of_ble_eq_true rfl) (wfJ28_siftDownUsingComparator_0 (Nat.le_refl _) x0 x1 x2 x3 x4 G h ⟨rfl, rfl⟩)
theorem msJ28_125 : zSS RJ28 125 yJ28_siftDownComparable cJ28_siftDownComparable 9 none 4 := ⟨lw_S q1001 q1002 q158 q1003, (by decide +kernel), (by decide)⟩
theorem msJ28_129 : zSS RJ28 129 yJ28_siftDownUsingComparator cJ28_siftDownUsingComparator 9 none 5 := ⟨lw_S q1004 q1005 q158 q1006, (by decide +kernel), (by decide)⟩
abbrev mJ28_poll : zM := (cJ28_poll, RJ28, 6, (some (Jvm.ClassFile.FieldType.object "java/lang/Object")), "poll", [], "()Ljava/lang/Object;")
def fJ28_poll_0 (t : Nat)  (G : GS) : Option ((Option Nat) × GS) :=
  (zgR G 20 t 0).bind fun r1 => r1.bind fun a3 => (zaR G 54 a3 (0 : Int32)).bind fun r5 => zopt r5 (some (none, G)) (fun a7 => (zgI G 20 t 3).bind fun v8 => (zpI G 20 t 3 (v8 + 1)).bind fun G10 => (zgI G10 20 t 1).bind fun v12 => (zpI G10 20 t 1 (v12 - 1)).bind fun G14 => (zaR G14 54 a3 (v12 - 1)).bind fun r16 => (zsR G14 54 a3 (v12 - 1) (none : Option Nat) [3]).bind fun G18 => if (v12 - 1) ≤ 0 then (some ((some a7), G18)) else ((zgR G18 20 t 2).bind fun r21 => zopt r21 ((fJ28_siftDownComparable_0 0 r16 (some a3) (v12 - 1) G18).bind fun G25 => some ((some a7), G25)) (fun a23 => (fJ28_siftDownUsingComparator_0 0 r16 (some a3) (v12 - 1) (some a23) G18).bind fun G27 => some ((some a7), G27))))
theorem wfJ28_poll_0 {F : zF} (hd : 5 ≤ F.2.2.2) (t : Nat)  (G : GS) {a : (Option Nat) × GS} (h : fJ28_poll_0 t  G = some a) (hk : zKR F a) : J mJ28_poll F G 0 [(0, vR (some t))] [] := by
  unfold fJ28_poll_0 at h
  refine j_aload_n (j := 0) dJ28_poll_0 rfl rfl ?_
  replace h := zbE h
  obtain ⟨r1, e2, h⟩ := h
  refine j_getR fgJ28_17 (fun _ _ _ => rfl) dJ28_poll_1 e2 ?_
  refine j_dup dJ28_poll_4 rfl ?_
  refine j_astore_n (lv' := [(1, vR r1), (0, vR (some t))]) dJ28_poll_5 rfl (Nat.le_of_ble_eq_true rfl) rfl ?_
  refine j_iconst (v := 0) dJ28_poll_6 (by decide) ?_
  replace h := zbE h
  obtain ⟨a3, e4, h⟩ := h
  subst e4
  replace h := zbE h
  obtain ⟨r5, e6, h⟩ := h
  refine j_aald (Or.inl rfl) e6 dJ28_poll_7 ?_
  refine j_dup dJ28_poll_8 rfl ?_
  refine j_astore_n (lv' := [(2, vR r5), (1, vR (some a3)), (0, vR (some t))]) dJ28_poll_9 rfl (Nat.le_of_ble_eq_true rfl) rfl ?_
  rcases r5 with _ | a7
  · replace h := zopt_n h
    refine j_ifnull0 (tgt := 79) dJ28_poll_10 (by decide) ?_
    refine j_aload_n (j := 0) dJ28_poll_79 rfl rfl ?_
    obtain rfl := Option.some.inj h
    exact j_aret hk.1 hk.2 rfl (Or.inl ⟨_, rfl⟩) dJ28_poll_80
  · replace h := zopt_s h
    refine j_ifnull1 dJ28_poll_10 ?_
    refine j_aload_n (j := 2) dJ28_poll_13 rfl rfl ?_
    refine j_dup dJ28_poll_14 rfl ?_
    replace h := zbE h
    obtain ⟨v8, e9, h⟩ := h
    refine j_getI fgJ28_93 (fun _ _ _ => rfl) dJ28_poll_15 e9 ?_
    refine j_iconst (v := 1) dJ28_poll_18 (by decide) ?_
    refine j_iadd dJ28_poll_19 ?_
    replace h := zbE h
    obtain ⟨G10, e11, h⟩ := h
    refine j_putI fpJ28_93_J28 (Or.inl rfl) rfl dJ28_poll_20 e11 ?_
    refine j_aload_n (j := 1) dJ28_poll_23 rfl rfl ?_
    refine j_aload_n (j := 2) dJ28_poll_24 rfl rfl ?_
    refine j_dup dJ28_poll_25 rfl ?_
    replace h := zbE h
    obtain ⟨v12, e13, h⟩ := h
    refine j_getI fgJ28_58 (fun _ _ _ => rfl) dJ28_poll_26 e13 ?_
    refine j_iconst (v := 1) dJ28_poll_29 (by decide) ?_
    refine j_isub dJ28_poll_30 ?_
    refine j_dup_x1 dJ28_poll_31 rfl rfl ?_
    replace h := zbE h
    obtain ⟨G14, e15, h⟩ := h
    refine j_putI fpJ28_58_J28 (Or.inl rfl) rfl dJ28_poll_32 e15 ?_
    refine j_dup dJ28_poll_35 rfl ?_
    refine j_istore_n (lv' := [(3, vI (v12 - 1)), (2, vR (some a7)), (1, vR (some a3)), (0, vR (some t))]) dJ28_poll_36 rfl (Nat.le_of_ble_eq_true rfl) rfl ?_
    replace h := zbE h
    obtain ⟨r16, e17, h⟩ := h
    refine j_aald (Or.inl rfl) e17 dJ28_poll_37 ?_
    refine j_astore (lv' := [(4, vR r16), (3, vI (v12 - 1)), (2, vR (some a7)), (1, vR (some a3)), (0, vR (some t))]) dJ28_poll_38 (Nat.le_of_ble_eq_true rfl) rfl ?_
    refine j_aload_n (j := 3) dJ28_poll_40 rfl rfl ?_
    refine j_iload_n (j := 1) dJ28_poll_41 rfl rfl ?_
    refine j_null dJ28_poll_42 ?_
    replace h := zbE h
    obtain ⟨G18, e19, h⟩ := h
    refine j_aast (t := 4) rfl e19 (fun k hk => ⟨_, zk_3 k hk, (Or.inl (zxw 93 rfl))⟩) dJ28_poll_43 ?_
    refine j_iload_n (j := 1) dJ28_poll_44 rfl rfl ?_
    refine j_if_le (tgt := 79) dJ28_poll_45 (by decide) (fun c20 => ?_) (fun c20 => ?_)
    · rw [if_pos c20] at h
      refine j_aload_n (j := 2) dJ28_poll_79 rfl rfl ?_
      obtain rfl := Option.some.inj h
      exact j_aret hk.1 hk.2 rfl (Or.inl ⟨_, rfl⟩) dJ28_poll_80
    · rw [if_neg c20] at h
      refine j_aload_n (j := 4) dJ28_poll_48 rfl rfl ?_
      replace h := zbE h
      obtain ⟨r21, e22, h⟩ := h
      refine j_getR fgJ28_21 (fun _ _ _ => rfl) dJ28_poll_49 e22 ?_
      refine j_dup dJ28_poll_52 rfl ?_
      refine j_astore (lv' := [(5, vR r21), (4, vR r16), (3, vI (v12 - 1)), (2, vR (some a7)), (1, vR (some a3)), (0, vR (some t))]) dJ28_poll_53 (Nat.le_of_ble_eq_true rfl) rfl ?_
      rcases r21 with _ | a23
      · replace h := zopt_n h
        refine j_ifnonnull0 dJ28_poll_55 ?_
        refine j_iconst (v := 0) dJ28_poll_58 (by decide) ?_
        refine j_aload (j := 1) dJ28_poll_59 rfl ?_
        refine j_aload_n (j := 4) dJ28_poll_61 rfl rfl ?_
        refine j_iload_n (j := 2) dJ28_poll_62 rfl rfl ?_
        replace h := zbE h
        obtain ⟨G25, e24, h⟩ := h
        refine j_cont (zrS (As := [vI 0, vR r16, vR (some a3), vI (v12 - 1)]) msJ28_125 (yJ28_siftDownComparable_ok e24) (Nat.le_trans (Nat.le_of_ble_eq_true rfl) hd) rfl rfl (Nat.le_of_ble_eq_true rfl) dJ28_poll_63) ?_
        refine j_goto (tgt := 79) dJ28_poll_66 (by decide) ?_
        refine j_aload_n (j := 3) dJ28_poll_79 rfl rfl ?_
        obtain rfl := Option.some.inj h
        exact j_aret hk.1 hk.2 rfl (Or.inl ⟨_, rfl⟩) dJ28_poll_80
      · replace h := zopt_s h
        refine j_ifnonnull1 (tgt := 69) dJ28_poll_55 (by decide) ?_
        refine j_iconst (v := 0) dJ28_poll_69 (by decide) ?_
        refine j_aload (j := 1) dJ28_poll_70 rfl ?_
        refine j_aload_n (j := 4) dJ28_poll_72 rfl rfl ?_
        refine j_iload_n (j := 2) dJ28_poll_73 rfl rfl ?_
        refine j_aload (j := 0) dJ28_poll_74 rfl ?_
        replace h := zbE h
        obtain ⟨G27, e26, h⟩ := h
        refine j_cont (zrS (As := [vI 0, vR r16, vR (some a3), vI (v12 - 1), vR (some a23)]) msJ28_129 (yJ28_siftDownUsingComparator_ok e26) (Nat.le_trans (Nat.le_of_ble_eq_true rfl) hd) rfl rfl (Nat.le_of_ble_eq_true rfl) dJ28_poll_76) ?_
        refine j_aload_n (j := 3) dJ28_poll_79 rfl rfl ?_
        obtain rfl := Option.some.inj h
        exact j_aret hk.1 hk.2 rfl (Or.inl ⟨_, rfl⟩) dJ28_poll_80
theorem yJ28_poll_ok {t : Nat} {G : GS} {r : Option Nat} {G1 : GS} (h : fJ28_poll_0 t G = some (r, G1)) : zRuns yJ28_poll (ws_ yJ28_poll cJ28_poll 6 (some (Jvm.ClassFile.FieldType.object "java/lang/Object"))) [vR (some t)] (.inl (some (vR r)), G, G1, 5) :=
  zentry (M := mJ28_poll) (plainFor_of_name (by decide +kernel)) ⟨rfl, rfl, rfl, rfl⟩ (Nat.le_of_ble_eq_true rfl) (wfJ28_poll_0 (Nat.le_refl _) t G h ⟨rfl, rfl⟩)
theorem fgX5_158 : zFG RX5 158 5 0 (.int) := ⟨(RX6, TX6, 2, tyX6), rfl, by decide, in_X6, rfl, "SelahGenerator$Length", Or.inl rfl, Or.inr ⟨_, zxw 100 rfl⟩⟩
theorem fgX5_161 : zFG RX5 161 5 1 (.int) := ⟨(RX6, TX6, 2, tyX6), rfl, by decide, in_X6, rfl, "SelahGenerator$Length", Or.inl rfl, Or.inr ⟨_, zxw 101 rfl⟩⟩
theorem msX5_139 : zSS RX5 139 yJ15_fill cJ15_fill 4 none 2 := ⟨lw_S q621 q622 q141 q623, (by decide +kernel), (by decide)⟩
theorem msX5_145 : zSI RX5 145 yJ28_init cJ28_init 1 0 := ⟨q628, q158, q626, q627, rfl, (by decide +kernel), (by decide)⟩
theorem msX5_146 : zSV RX5 146 RX5 yX5_offer cX5_offer 6 none 1 := ⟨lw_V q721 q723 qs8 q151 q724, (by decide +kernel), (by decide)⟩
theorem msX5_150 : zSU RX5 150 "java/util/PriorityQueue" "java/util/AbstractCollection" ⟨"java/util/PriorityQueue", "isEmpty", "()Z"⟩ yJ0_isEmpty cJ0_isEmpty 1 (some Jvm.ClassFile.FieldType.boolean) 0 := ⟨lw_U q971 q972 q974 q975 q124 q976, rfl, (by decide +kernel), (by decide)⟩
theorem msX5_153 : zSV RX5 153 RJ28 yJ28_poll cJ28_poll 6 (some (Jvm.ClassFile.FieldType.object "java/lang/Object")) 0 := ⟨lw_V q997 q998 q999 q158 q1000, (by decide +kernel), (by decide)⟩
abbrev mX5_findShortest : zM := (cX5_findShortest, RX5, 3, none, "findShortest", [], "()V")
def fbX5_findShortest_21 (t : Nat) (x1 : Option Nat)  (G : GS) : Option ((GS) ⊕ (GS)) :=
  x1.bind fun a1 => zk [20] G a1 <| (fJ0_isEmpty_0 a1 G).bind fun v5 => if v5 = 0 then (zk [20] G a1 <| zb2 (fJ28_poll_0 a1 G) fun r9 G10 => zkq [6] G10 r9 ((zgR G10 5 t 3).bind fun r12 => r9.bind fun a14 => (zgI G10 6 a14 0).bind fun v16 => r12.bind fun a18 => (zaI G10 50 a18 v16).bind fun v20 => if v20 = (-1) then ((zgR G10 5 t 3).bind fun r23 => (zgI G10 6 a14 0).bind fun v25 => (zgI G10 6 a14 1).bind fun v27 => r23.bind fun a29 => (zsI G10 50 a29 v25 v27).bind fun G31 => zk [5] G31 t <| (fX5_offer_0 t (some a1) G31).bind fun G35 => some (.inl (G35))) else (some (.inl (G10))))) else (zo (some G))
def flX5_findShortest_21 (t : Nat) (x1 : Option Nat) (G : GS) : Option (GS) := zloop (fun s : GS => fbX5_findShortest_21 t x1 s) (G)
theorem wfbX5_findShortest_21 {F : zF} (hd : 9 ≤ F.2.2.2) (t : Nat) (x1 : Option Nat) (G : GS) {a : (GS) ⊕ (GS)} (h : fbX5_findShortest_21 t x1 G = some a) (hk : (zcase (fun s : GS => J mX5_findShortest F s 21 [(0, vR (some t)), (1, vR x1)] []) (zKV F)) a) : J mX5_findShortest F G 21 [(0, vR (some t)), (1, vR x1)] [] := by
  unfold fbX5_findShortest_21 at h
  refine j_aload_n (j := 1) dX5_findShortest_21 rfl rfl ?_
  replace h := zbE h
  obtain ⟨a1, e2, h⟩ := h
  subst e2
  replace h := zkE h
  obtain ⟨e3, h⟩ := h
  replace h := zbE h
  obtain ⟨v5, e4, h⟩ := h
  refine j_cont (zrU (As := []) msX5_150 (yJ0_isEmpty_ok e4) (Nat.le_trans (Nat.le_of_ble_eq_true rfl) hd) (zk_20 _ e3) rfl rfl (Nat.le_of_ble_eq_true rfl) dX5_findShortest_22) ?_
  refine j_if_ne (tgt := 73) dX5_findShortest_25 (by decide) (fun c6 => ?_) (fun c6 => ?_)
  · rw [if_pos c6] at h
    refine j_aload_n (j := 1) dX5_findShortest_28 rfl rfl ?_
    replace h := zkE h
    obtain ⟨e7, h⟩ := h
    replace h := zb2E h
    obtain ⟨r9, G10, e8, h⟩ := h
    refine j_cont (zrV (As := []) msX5_153 (yJ28_poll_ok e8) (Nat.le_trans (Nat.le_of_ble_eq_true rfl) hd) (zk_20 _ e7) rfl rfl (Nat.le_of_ble_eq_true rfl) dX5_findShortest_29) ?_
    replace h := zkqE h
    obtain ⟨e11, h⟩ := h
    refine j_castq (fun k => j_castN dX5_findShortest_32 k) (fun b q36 k => j_castS (zk_6 _ (e11 b q36)) ⟨5, _, rfl, rfl⟩ q733 dX5_findShortest_32 k) ?_
    refine j_astore_n (lv' := [(2, vR r9), (0, vR (some t)), (1, vR (some a1))]) dX5_findShortest_35 rfl (Nat.le_of_ble_eq_true rfl) rfl ?_
    refine j_aload_n (j := 1) dX5_findShortest_36 rfl rfl ?_
    replace h := zbE h
    obtain ⟨r12, e13, h⟩ := h
    refine j_getR fgX5_18 (fun _ _ _ => rfl) dX5_findShortest_37 e13 ?_
    refine j_aload_n (j := 0) dX5_findShortest_40 rfl rfl ?_
    replace h := zbE h
    obtain ⟨a14, e15, h⟩ := h
    subst e15
    replace h := zbE h
    obtain ⟨v16, e17, h⟩ := h
    refine j_getI fgX5_158 (fun _ _ _ => rfl) dX5_findShortest_41 e17 ?_
    replace h := zbE h
    obtain ⟨a18, e19, h⟩ := h
    subst e19
    replace h := zbE h
    obtain ⟨v20, e21, h⟩ := h
    refine j_iald (Or.inl rfl) e21 dX5_findShortest_44 ?_
    refine j_iconst (v := (-1)) dX5_findShortest_45 (by decide) ?_
    refine j_icmp_eq (tgt := 52) dX5_findShortest_46 (by decide) (fun c22 => ?_) (fun c22 => ?_)
    · rw [if_pos c22] at h
      refine j_aload_n (j := 1) dX5_findShortest_52 rfl rfl ?_
      replace h := zbE h
      obtain ⟨r23, e24, h⟩ := h
      refine j_getR fgX5_18 (fun _ _ _ => rfl) dX5_findShortest_53 e24 ?_
      refine j_aload_n (j := 0) dX5_findShortest_56 rfl rfl ?_
      replace h := zbE h
      obtain ⟨v25, e26, h⟩ := h
      refine j_getI fgX5_158 (fun _ _ _ => rfl) dX5_findShortest_57 e26 ?_
      refine j_aload_n (j := 0) dX5_findShortest_60 rfl rfl ?_
      replace h := zbE h
      obtain ⟨v27, e28, h⟩ := h
      refine j_getI fgX5_161 (fun _ _ _ => rfl) dX5_findShortest_61 e28 ?_
      replace h := zbE h
      obtain ⟨a29, e30, h⟩ := h
      subst e30
      replace h := zbE h
      obtain ⟨G31, e32, h⟩ := h
      refine j_iast e32 dX5_findShortest_64 ?_
      refine j_aload_n (j := 1) dX5_findShortest_65 rfl rfl ?_
      refine j_aload_n (j := 2) dX5_findShortest_66 rfl rfl ?_
      replace h := zkE h
      obtain ⟨e33, h⟩ := h
      replace h := zbE h
      obtain ⟨G35, e34, h⟩ := h
      refine j_cont (zrV (As := [vR (some a1)]) msX5_146 (yX5_offer_ok e34) (Nat.le_trans (Nat.le_of_ble_eq_true rfl) hd) (zk_5 _ e33) rfl rfl (Nat.le_of_ble_eq_true rfl) dX5_findShortest_67) ?_
      refine j_goto (tgt := 21) dX5_findShortest_70 (by decide) ?_
      obtain rfl := Option.some.inj h
      exact J.sub (zall [1, 2] rfl) hk
    · rw [if_neg c22] at h
      refine j_goto (tgt := 21) dX5_findShortest_49 (by decide) ?_
      obtain rfl := Option.some.inj h
      exact J.sub (zall [1, 2] rfl) hk
  · rw [if_neg c6] at h
    replace h := zoE h
    obtain ⟨a, h, rfl⟩ := h
    replace hk := hk
    obtain rfl := Option.some.inj h
    exact j_vret hk.1 hk.2 rfl dX5_findShortest_73
theorem wflX5_findShortest_21 {F : zF} (hd : 9 ≤ F.2.2.2) (t : Nat) (x1 : Option Nat) (G : GS) {a : GS} (h : flX5_findShortest_21 t x1 G = some a) (hk : zKV F a) : J mX5_findShortest F G 21 [(0, vR (some t)), (1, vR x1)] [] := by
  unfold flX5_findShortest_21 at h
  exact zloop_walk (P := (fun s : GS => J mX5_findShortest F s 21 [(0, vR (some t)), (1, vR x1)] [])) (fun s b e hk => wfbX5_findShortest_21 hd t x1 s e hk) (G) _ h hk
def fX5_findShortest_0 (t : Nat)  (G : GS) : Option (GS) :=
  (zgR G 5 t 3).bind fun r1 => (fJ15_fill_0 r1 (-1) G).bind fun G4 => zl (al G4 20 0 4) fun G5 => (fJ28_init_0 (gz G4) G5).bind fun G8 => zk [5] G8 t <| (fX5_offer_0 t (some (gz G4)) G8).bind fun G11 => flX5_findShortest_21 t (some (gz G4)) G11
theorem wfX5_findShortest_0 {F : zF} (hd : 9 ≤ F.2.2.2) (t : Nat)  (G : GS) {a : GS} (h : fX5_findShortest_0 t  G = some a) (hk : zKV F a) : J mX5_findShortest F G 0 [(0, vR (some t))] [] := by
  unfold fX5_findShortest_0 at h
  refine j_aload_n (j := 0) dX5_findShortest_0 rfl rfl ?_
  replace h := zbE h
  obtain ⟨r1, e2, h⟩ := h
  refine j_getR fgX5_18 (fun _ _ _ => rfl) dX5_findShortest_1 e2 ?_
  refine j_iconst (v := (-1)) dX5_findShortest_4 (by decide) ?_
  replace h := zbE h
  obtain ⟨G4, e3, h⟩ := h
  refine j_cont (zrS (As := [vR r1, vI (-1)]) msX5_139 (yJ15_fill_ok e3) (Nat.le_trans (Nat.le_of_ble_eq_true rfl) hd) rfl rfl (Nat.le_of_ble_eq_true rfl) dX5_findShortest_5) ?_
  replace h := zlE h
  obtain ⟨G5, e6, h⟩ := h
  refine j_new (c := 19) (n := 4) (r := (RJ28, TJ28, 4, tyJ28)) rfl rfl in_J28 tyJ28_ok nwJ28 q624 q625 q158 dX5_findShortest_8 ?_
  rw [show al G4 (19 + 1) 0 4 = G5 from e6.symm]
  refine j_dup dX5_findShortest_11 rfl ?_
  replace h := zbE h
  obtain ⟨G8, e7, h⟩ := h
  refine j_cont (zrI (As := []) msX5_145 (yJ28_init_ok e7) (Nat.le_trans (Nat.le_of_ble_eq_true rfl) hd) rfl rfl (Nat.le_of_ble_eq_true rfl) dX5_findShortest_12) ?_
  refine j_astore_n (lv' := [(1, vR (some (gz G4))), (0, vR (some t))]) dX5_findShortest_15 rfl (Nat.le_of_ble_eq_true rfl) rfl ?_
  refine j_aload_n (j := 1) dX5_findShortest_16 rfl rfl ?_
  refine j_aload_n (j := 0) dX5_findShortest_17 rfl rfl ?_
  replace h := zkE h
  obtain ⟨e9, h⟩ := h
  replace h := zbE h
  obtain ⟨G11, e10, h⟩ := h
  refine j_cont (zrV (As := [vR (some (gz G4))]) msX5_146 (yX5_offer_ok e10) (Nat.le_trans (Nat.le_of_ble_eq_true rfl) hd) (zk_5 _ e9) rfl rfl (Nat.le_of_ble_eq_true rfl) dX5_findShortest_18) ?_
  exact J.sub (zall [1, 0] rfl) (wflX5_findShortest_21 hd t (some (gz G4))  G11 h hk)
theorem yX5_findShortest_ok {t : Nat} {G : GS} {G1 : GS} (h : fX5_findShortest_0 t G = some G1) : zRuns yX5_findShortest (ws_ yX5_findShortest cX5_findShortest 3 none) [vR (some t)] (.inl none, G, G1, 9) :=
  zentry (M := mX5_findShortest) (plainFor_of_name (by decide +kernel)) ⟨rfl, rfl, rfl, rfl⟩ (Nat.le_of_ble_eq_true rfl) (wfX5_findShortest_0 (Nat.le_refl _) t G h ⟨rfl, rfl⟩)
theorem fgX5_21 : zFG RX5 21 4 4 (.array (.int)) := ⟨(RX5, TX5, 10, tyX5), rfl, by decide, in_X5, rfl, "SelahGenerator$Sets", Or.inl rfl, Or.inl q1153⟩
abbrev mX5_findBegins : zM := (cX5_findBegins, RX5, 4, none, "findBegins", [], "()V")
def fX5_findBegins_151 (t : Nat) (x1 : Int32)  (G : GS) : Option ((Int32 × GS) ⊕ (GS)) :=
  some (.inl ((x1 + 1), G))
theorem wfX5_findBegins_151 {F : zF} (hd : 7 ≤ F.2.2.2) (t : Nat) (x1 : Int32)  (G : GS) {a : (Int32 × GS) ⊕ (GS)} (h : fX5_findBegins_151 t x1  G = some a) (hk : (zcase (fun s : Int32 × GS => J mX5_findBegins F s.2 102 [(0, vR (some t)), (1, vI s.1)] []) (zKV F)) a) : J mX5_findBegins F G 151 [(0, vR (some t)), (1, vI x1)] [] := by
  unfold fX5_findBegins_151 at h
  refine j_iinc (j := 1) (v := (x1 + 1)) (lv' := [(1, vI (x1 + 1)), (0, vR (some t))]) dX5_findBegins_151 rfl rfl (Nat.le_of_ble_eq_true rfl) rfl ?_
  refine j_goto (tgt := 102) dX5_findBegins_154 (by decide) ?_
  obtain rfl := Option.some.inj h
  exact J.sub (zall [1, 0] rfl) hk
def fX5_findBegins_145 (t : Nat) (x1 : Int32) (x2 : Int32)  (G : GS) : Option ((Int32 × GS) ⊕ ((Int32 × GS) ⊕ (GS))) :=
  some (.inl ((x2 + 1), G))
theorem wfX5_findBegins_145 {F : zF} (hd : 7 ≤ F.2.2.2) (t : Nat) (x1 : Int32) (x2 : Int32)  (G : GS) {a : (Int32 × GS) ⊕ ((Int32 × GS) ⊕ (GS))} (h : fX5_findBegins_145 t x1 x2  G = some a) (hk : (zcase (fun s : Int32 × GS => J mX5_findBegins F s.2 110 [(0, vR (some t)), (1, vI x1), (2, vI s.1)] []) ((zcase (fun s : Int32 × GS => J mX5_findBegins F s.2 102 [(0, vR (some t)), (1, vI s.1)] []) (zKV F)))) a) : J mX5_findBegins F G 145 [(0, vR (some t)), (1, vI x1), (2, vI x2)] [] := by
  unfold fX5_findBegins_145 at h
  refine j_iinc (j := 2) (v := (x2 + 1)) (lv' := [(2, vI (x2 + 1)), (0, vR (some t)), (1, vI x1)]) dX5_findBegins_145 rfl rfl (Nat.le_of_ble_eq_true rfl) rfl ?_
  refine j_goto (tgt := 110) dX5_findBegins_148 (by decide) ?_
  obtain rfl := Option.some.inj h
  exact J.sub (zall [1, 2, 0] rfl) hk
def fbX5_findBegins_110 (t : Nat) (x1 : Int32) (x2 : Int32)  (G : GS) : Option ((Int32 × GS) ⊕ ((Int32 × GS) ⊕ (GS))) :=
  if 12 ≤ x2 then (zo (fX5_findBegins_151 t x1 G)) else ((zgR G 5 t 4).bind fun r2 => r2.bind fun a4 => (zaI G 50 a4 x2).bind fun v6 => if ((v6 >>> (x1 &&& 31)) &&& 1) = 1 then ((zgR G 5 t 4).bind fun r9 => r9.bind fun a11 => (zaI G 50 a11 x2).bind fun v13 => (zgR G 5 t 4).bind fun r15 => r15.bind fun a17 => (zaI G 50 a17 x1).bind fun v19 => (zsI G 50 a11 x2 (v13 ||| v19)).bind fun G21 => fX5_findBegins_145 t x1 x2 G21) else (fX5_findBegins_145 t x1 x2 G))
def flX5_findBegins_110 (t : Nat) (x1 : Int32) (x2 : Int32) (G : GS) : Option ((Int32 × GS) ⊕ (GS)) := zloop (fun s : Int32 × GS => fbX5_findBegins_110 t x1 s.1 s.2) (x2, G)
theorem wfbX5_findBegins_110 {F : zF} (hd : 7 ≤ F.2.2.2) (t : Nat) (x1 : Int32) (x2 : Int32) (G : GS) {a : (Int32 × GS) ⊕ ((Int32 × GS) ⊕ (GS))} (h : fbX5_findBegins_110 t x1 x2 G = some a) (hk : (zcase (fun s : Int32 × GS => J mX5_findBegins F s.2 110 [(0, vR (some t)), (1, vI x1), (2, vI s.1)] []) ((zcase (fun s : Int32 × GS => J mX5_findBegins F s.2 102 [(0, vR (some t)), (1, vI s.1)] []) (zKV F)))) a) : J mX5_findBegins F G 110 [(0, vR (some t)), (1, vI x1), (2, vI x2)] [] := by
  unfold fbX5_findBegins_110 at h
  refine j_iload_n (j := 2) dX5_findBegins_110 rfl rfl ?_
  refine j_bipush (v := 12) dX5_findBegins_111 (by decide) ?_
  refine j_icmp_ge (tgt := 151) dX5_findBegins_113 (by decide) (fun c1 => ?_) (fun c1 => ?_)
  · rw [if_pos c1] at h
    replace h := zoE h
    obtain ⟨a, h, rfl⟩ := h
    replace hk := hk
    exact J.sub (zall [0, 1] rfl) (wfX5_findBegins_151 hd t x1  G h hk)
  · rw [if_neg c1] at h
    refine j_aload_n (j := 0) dX5_findBegins_116 rfl rfl ?_
    replace h := zbE h
    obtain ⟨r2, e3, h⟩ := h
    refine j_getR fgX5_21 (fun _ _ _ => rfl) dX5_findBegins_117 e3 ?_
    refine j_iload_n (j := 2) dX5_findBegins_120 rfl rfl ?_
    replace h := zbE h
    obtain ⟨a4, e5, h⟩ := h
    subst e5
    replace h := zbE h
    obtain ⟨v6, e7, h⟩ := h
    refine j_iald (Or.inl rfl) e7 dX5_findBegins_121 ?_
    refine j_iload_n (j := 1) dX5_findBegins_122 rfl rfl ?_
    refine j_ishr dX5_findBegins_123 ?_
    refine j_iconst (v := 1) dX5_findBegins_124 (by decide) ?_
    refine j_iand dX5_findBegins_125 ?_
    refine j_iconst (v := 1) dX5_findBegins_126 (by decide) ?_
    refine j_icmp_ne (tgt := 145) dX5_findBegins_127 (by decide) (fun c8 => ?_) (fun c8 => ?_)
    · rw [if_pos c8] at h
      refine j_aload_n (j := 0) dX5_findBegins_130 rfl rfl ?_
      replace h := zbE h
      obtain ⟨r9, e10, h⟩ := h
      refine j_getR fgX5_21 (fun _ _ _ => rfl) dX5_findBegins_131 e10 ?_
      refine j_iload_n (j := 2) dX5_findBegins_134 rfl rfl ?_
      refine j_dup2_11 dX5_findBegins_135 rfl rfl ?_
      replace h := zbE h
      obtain ⟨a11, e12, h⟩ := h
      subst e12
      replace h := zbE h
      obtain ⟨v13, e14, h⟩ := h
      refine j_iald (Or.inl rfl) e14 dX5_findBegins_136 ?_
      refine j_aload_n (j := 0) dX5_findBegins_137 rfl rfl ?_
      replace h := zbE h
      obtain ⟨r15, e16, h⟩ := h
      refine j_getR fgX5_21 (fun _ _ _ => rfl) dX5_findBegins_138 e16 ?_
      refine j_iload_n (j := 1) dX5_findBegins_141 rfl rfl ?_
      replace h := zbE h
      obtain ⟨a17, e18, h⟩ := h
      subst e18
      replace h := zbE h
      obtain ⟨v19, e20, h⟩ := h
      refine j_iald (Or.inl rfl) e20 dX5_findBegins_142 ?_
      refine j_ior dX5_findBegins_143 ?_
      replace h := zbE h
      obtain ⟨G21, e22, h⟩ := h
      refine j_iast e22 dX5_findBegins_144 ?_
      exact J.sub (zall [0, 1, 2] rfl) (wfX5_findBegins_145 hd t x1 x2  G21 h hk)
    · rw [if_neg c8] at h
      exact J.sub (zall [0, 1, 2] rfl) (wfX5_findBegins_145 hd t x1 x2  G h hk)
theorem wflX5_findBegins_110 {F : zF} (hd : 7 ≤ F.2.2.2) (t : Nat) (x1 : Int32) (x2 : Int32) (G : GS) {a : (Int32 × GS) ⊕ (GS)} (h : flX5_findBegins_110 t x1 x2 G = some a) (hk : (zcase (fun s : Int32 × GS => J mX5_findBegins F s.2 102 [(0, vR (some t)), (1, vI s.1)] []) (zKV F)) a) : J mX5_findBegins F G 110 [(0, vR (some t)), (1, vI x1), (2, vI x2)] [] := by
  unfold flX5_findBegins_110 at h
  exact zloop_walk (P := (fun s : Int32 × GS => J mX5_findBegins F s.2 110 [(0, vR (some t)), (1, vI x1), (2, vI s.1)] [])) (fun s b e hk => wfbX5_findBegins_110 hd t x1 s.1 s.2 e hk) (x2, G) _ h hk
def fbX5_findBegins_102 (t : Nat) (x1 : Int32)  (G : GS) : Option ((Int32 × GS) ⊕ (GS)) :=
  if 12 ≤ x1 then (zo (some G)) else (flX5_findBegins_110 t x1 0 G)
def flX5_findBegins_102 (t : Nat) (x1 : Int32) (G : GS) : Option (GS) := zloop (fun s : Int32 × GS => fbX5_findBegins_102 t s.1 s.2) (x1, G)
theorem wfbX5_findBegins_102 {F : zF} (hd : 7 ≤ F.2.2.2) (t : Nat) (x1 : Int32) (G : GS) {a : (Int32 × GS) ⊕ (GS)} (h : fbX5_findBegins_102 t x1 G = some a) (hk : (zcase (fun s : Int32 × GS => J mX5_findBegins F s.2 102 [(0, vR (some t)), (1, vI s.1)] []) (zKV F)) a) : J mX5_findBegins F G 102 [(0, vR (some t)), (1, vI x1)] [] := by
  unfold fbX5_findBegins_102 at h
  refine j_iload_n (j := 1) dX5_findBegins_102 rfl rfl ?_
  refine j_bipush (v := 12) dX5_findBegins_103 (by decide) ?_
  refine j_icmp_ge (tgt := 157) dX5_findBegins_105 (by decide) (fun c1 => ?_) (fun c1 => ?_)
  · rw [if_pos c1] at h
    replace h := zoE h
    obtain ⟨a, h, rfl⟩ := h
    replace hk := hk
    obtain rfl := Option.some.inj h
    exact j_vret hk.1 hk.2 rfl dX5_findBegins_157
  · rw [if_neg c1] at h
    refine j_iconst (v := 0) dX5_findBegins_108 (by decide) ?_
    refine j_istore_n (lv' := [(2, vI 0), (0, vR (some t)), (1, vI x1)]) dX5_findBegins_109 rfl (Nat.le_of_ble_eq_true rfl) rfl ?_
    exact J.sub (zall [1, 2, 0] rfl) (wflX5_findBegins_110 hd t x1 0  G h hk)
theorem wflX5_findBegins_102 {F : zF} (hd : 7 ≤ F.2.2.2) (t : Nat) (x1 : Int32) (G : GS) {a : GS} (h : flX5_findBegins_102 t x1 G = some a) (hk : zKV F a) : J mX5_findBegins F G 102 [(0, vR (some t)), (1, vI x1)] [] := by
  unfold flX5_findBegins_102 at h
  exact zloop_walk (P := (fun s : Int32 × GS => J mX5_findBegins F s.2 102 [(0, vR (some t)), (1, vI s.1)] [])) (fun s b e hk => wfbX5_findBegins_102 hd t s.1 s.2 e hk) (x1, G) _ h hk
def fX5_findBegins_100 (t : Nat)  (G : GS) : Option (GS) :=
  flX5_findBegins_102 t 0 G
theorem wfX5_findBegins_100 {F : zF} (hd : 7 ≤ F.2.2.2) (t : Nat)  (G : GS) {a : GS} (h : fX5_findBegins_100 t  G = some a) (hk : zKV F a) : J mX5_findBegins F G 100 [(0, vR (some t))] [] := by
  unfold fX5_findBegins_100 at h
  refine j_iconst (v := 0) dX5_findBegins_100 (by decide) ?_
  refine j_istore_n (lv' := [(1, vI 0), (0, vR (some t))]) dX5_findBegins_101 rfl (Nat.le_of_ble_eq_true rfl) rfl ?_
  exact J.sub (zall [1, 0] rfl) (wflX5_findBegins_102 hd t 0  G h hk)
def fX5_findBegins_97 (t : Nat) (x1 : Option Nat)  (G : GS) : Option ((GS) ⊕ (GS)) :=
  some (.inl (G))
theorem wfX5_findBegins_97 {F : zF} (hd : 7 ≤ F.2.2.2) (t : Nat) (x1 : Option Nat)  (G : GS) {a : (GS) ⊕ (GS)} (h : fX5_findBegins_97 t x1  G = some a) (hk : (zcase (fun s : GS => J mX5_findBegins F s 10 [(0, vR (some t)), (1, vR x1)] []) (zKV F)) a) : J mX5_findBegins F G 97 [(0, vR (some t)), (1, vR x1)] [] := by
  unfold fX5_findBegins_97 at h
  refine j_goto (tgt := 10) dX5_findBegins_97 (by decide) ?_
  obtain rfl := Option.some.inj h
  exact J.sub (zall [0, 1] rfl) hk
def fX5_findBegins_91 (t : Nat) (x1 : Option Nat) (x2 : Option Nat) (x3 : Int32)  (G : GS) : Option ((Int32 × GS) ⊕ ((GS) ⊕ (GS))) :=
  some (.inl ((x3 + 1), G))
theorem wfX5_findBegins_91 {F : zF} (hd : 7 ≤ F.2.2.2) (t : Nat) (x1 : Option Nat) (x2 : Option Nat) (x3 : Int32)  (G : GS) {a : (Int32 × GS) ⊕ ((GS) ⊕ (GS))} (h : fX5_findBegins_91 t x1 x2 x3  G = some a) (hk : (zcase (fun s : Int32 × GS => J mX5_findBegins F s.2 31 [(0, vR (some t)), (1, vR x1), (2, vR x2), (3, vI s.1)] []) ((zcase (fun s : GS => J mX5_findBegins F s 10 [(0, vR (some t)), (1, vR x1)] []) (zKV F)))) a) : J mX5_findBegins F G 91 [(0, vR (some t)), (1, vR x1), (2, vR x2), (3, vI x3)] [] := by
  unfold fX5_findBegins_91 at h
  refine j_iinc (j := 3) (v := (x3 + 1)) (lv' := [(3, vI (x3 + 1)), (0, vR (some t)), (1, vR x1), (2, vR x2)]) dX5_findBegins_91 rfl rfl (Nat.le_of_ble_eq_true rfl) rfl ?_
  refine j_goto (tgt := 31) dX5_findBegins_94 (by decide) ?_
  obtain rfl := Option.some.inj h
  exact J.sub (zall [1, 2, 3, 0] rfl) hk
def fbX5_findBegins_31 (t : Nat) (x1 : Option Nat) (x2 : Option Nat) (x3 : Int32)  (G : GS) : Option ((Int32 × GS) ⊕ ((GS) ⊕ (GS))) :=
  x2.bind fun a1 => (zgR G 3 a1 1).bind fun r3 => r3.bind fun a5 => (zln G a5).bind fun v7 => if v7 ≤ x3 then (zo (fX5_findBegins_97 t x1 G)) else ((zgR G 5 t 7).bind fun r10 => zk [3] G a1 <| (fX3_all_0 a1 0 x3 r10 G).bind fun v14 => if v14 = 0 then (zo (fX5_findBegins_97 t x1 G)) else ((zgR G 3 a1 1).bind fun r16 => r16.bind fun a18 => (zaI G 50 a18 x3).bind fun v20 => (fX1_isNonterminal_0 v20 G).bind fun v23 => if v23 = 0 then (fX5_findBegins_91 t x1 (some a1) x3 G) else ((zgR G 5 t 4).bind fun r25 => (zgI G 3 a1 0).bind fun v27 => r25.bind fun a29 => (zaI G 50 a29 (v27 - 20)).bind fun v31 => (zgR G 3 a1 1).bind fun r33 => r33.bind fun a35 => (zaI G 50 a35 x3).bind fun v37 => (zsI G 50 a29 (v27 - 20) (v31 ||| ((1 : Int32) <<< ((v37 - 20) &&& 31)))).bind fun G39 => fX5_findBegins_91 t x1 (some a1) x3 G39)))
def flX5_findBegins_31 (t : Nat) (x1 : Option Nat) (x2 : Option Nat) (x3 : Int32) (G : GS) : Option ((GS) ⊕ (GS)) := zloop (fun s : Int32 × GS => fbX5_findBegins_31 t x1 x2 s.1 s.2) (x3, G)
theorem wfbX5_findBegins_31 {F : zF} (hd : 7 ≤ F.2.2.2) (t : Nat) (x1 : Option Nat) (x2 : Option Nat) (x3 : Int32) (G : GS) {a : (Int32 × GS) ⊕ ((GS) ⊕ (GS))} (h : fbX5_findBegins_31 t x1 x2 x3 G = some a) (hk : (zcase (fun s : Int32 × GS => J mX5_findBegins F s.2 31 [(0, vR (some t)), (1, vR x1), (2, vR x2), (3, vI s.1)] []) ((zcase (fun s : GS => J mX5_findBegins F s 10 [(0, vR (some t)), (1, vR x1)] []) (zKV F)))) a) : J mX5_findBegins F G 31 [(0, vR (some t)), (1, vR x1), (2, vR x2), (3, vI x3)] [] := by
  unfold fbX5_findBegins_31 at h
  refine j_iload_n (j := 3) dX5_findBegins_31 rfl rfl ?_
  refine j_aload_n (j := 2) dX5_findBegins_32 rfl rfl ?_
  replace h := zbE h
  obtain ⟨a1, e2, h⟩ := h
  subst e2
  replace h := zbE h
  obtain ⟨r3, e4, h⟩ := h
  refine j_getR fgX5_94 (fun _ _ _ => rfl) dX5_findBegins_33 e4 ?_
  replace h := zbE h
  obtain ⟨a5, e6, h⟩ := h
  subst e6
  replace h := zbE h
  obtain ⟨v7, e8, h⟩ := h
  refine j_alen e8 dX5_findBegins_36 ?_
  refine j_icmp_ge (tgt := 97) dX5_findBegins_37 (by decide) (fun c9 => ?_) (fun c9 => ?_)
  · rw [if_pos c9] at h
    replace h := zoE h
    obtain ⟨a, h, rfl⟩ := h
    replace hk := hk
    exact J.sub (zall [0, 1] rfl) (wfX5_findBegins_97 hd t x1  G h hk)
  · rw [if_neg c9] at h
    refine j_aload_n (j := 2) dX5_findBegins_40 rfl rfl ?_
    refine j_iconst (v := 0) dX5_findBegins_41 (by decide) ?_
    refine j_iload_n (j := 3) dX5_findBegins_42 rfl rfl ?_
    refine j_aload_n (j := 0) dX5_findBegins_43 rfl rfl ?_
    replace h := zbE h
    obtain ⟨r10, e11, h⟩ := h
    refine j_getR fgX5_35 (fun _ _ _ => rfl) dX5_findBegins_44 e11 ?_
    replace h := zkE h
    obtain ⟨e12, h⟩ := h
    replace h := zbE h
    obtain ⟨v14, e13, h⟩ := h
    refine j_cont (zrV (As := [vI 0, vI x3, vR r10]) msX5_97 (yX3_all_ok e13) (Nat.le_trans (Nat.le_of_ble_eq_true rfl) hd) (zk_3 _ e12) rfl rfl (Nat.le_of_ble_eq_true rfl) dX5_findBegins_47) ?_
    refine j_if_eq (tgt := 97) dX5_findBegins_50 (by decide) (fun c15 => ?_) (fun c15 => ?_)
    · rw [if_pos c15] at h
      replace h := zoE h
      obtain ⟨a, h, rfl⟩ := h
      replace hk := hk
      exact J.sub (zall [0, 1] rfl) (wfX5_findBegins_97 hd t x1  G h hk)
    · rw [if_neg c15] at h
      refine j_aload_n (j := 2) dX5_findBegins_53 rfl rfl ?_
      replace h := zbE h
      obtain ⟨r16, e17, h⟩ := h
      refine j_getR fgX5_94 (fun _ _ _ => rfl) dX5_findBegins_54 e17 ?_
      refine j_iload_n (j := 3) dX5_findBegins_57 rfl rfl ?_
      replace h := zbE h
      obtain ⟨a18, e19, h⟩ := h
      subst e19
      replace h := zbE h
      obtain ⟨v20, e21, h⟩ := h
      refine j_iald (Or.inl rfl) e21 dX5_findBegins_58 ?_
      replace h := zbE h
      obtain ⟨v23, e22, h⟩ := h
      refine j_cont (zrSN (As := [vI v20]) msX5_70 q401 (yX1_isNonterminal_ok e22) (Nat.le_trans (Nat.le_of_ble_eq_true rfl) hd) rfl rfl (Nat.le_of_ble_eq_true rfl) dX5_findBegins_59) ?_
      refine j_if_eq (tgt := 91) dX5_findBegins_62 (by decide) (fun c24 => ?_) (fun c24 => ?_)
      · rw [if_pos c24] at h
        exact J.sub (zall [0, 1, 2, 3] rfl) (wfX5_findBegins_91 hd t x1 (some a1) x3  G h hk)
      · rw [if_neg c24] at h
        refine j_aload_n (j := 0) dX5_findBegins_65 rfl rfl ?_
        replace h := zbE h
        obtain ⟨r25, e26, h⟩ := h
        refine j_getR fgX5_21 (fun _ _ _ => rfl) dX5_findBegins_66 e26 ?_
        refine j_aload_n (j := 2) dX5_findBegins_69 rfl rfl ?_
        replace h := zbE h
        obtain ⟨v27, e28, h⟩ := h
        refine j_getI fgX5_101 (fun _ _ _ => rfl) dX5_findBegins_70 e28 ?_
        refine j_bipush (v := 20) dX5_findBegins_73 (by decide) ?_
        refine j_isub dX5_findBegins_75 ?_
        refine j_dup2_11 dX5_findBegins_76 rfl rfl ?_
        replace h := zbE h
        obtain ⟨a29, e30, h⟩ := h
        subst e30
        replace h := zbE h
        obtain ⟨v31, e32, h⟩ := h
        refine j_iald (Or.inl rfl) e32 dX5_findBegins_77 ?_
        refine j_iconst (v := 1) dX5_findBegins_78 (by decide) ?_
        refine j_aload_n (j := 2) dX5_findBegins_79 rfl rfl ?_
        replace h := zbE h
        obtain ⟨r33, e34, h⟩ := h
        refine j_getR fgX5_94 (fun _ _ _ => rfl) dX5_findBegins_80 e34 ?_
        refine j_iload_n (j := 3) dX5_findBegins_83 rfl rfl ?_
        replace h := zbE h
        obtain ⟨a35, e36, h⟩ := h
        subst e36
        replace h := zbE h
        obtain ⟨v37, e38, h⟩ := h
        refine j_iald (Or.inl rfl) e38 dX5_findBegins_84 ?_
        refine j_bipush (v := 20) dX5_findBegins_85 (by decide) ?_
        refine j_isub dX5_findBegins_87 ?_
        refine j_ishl dX5_findBegins_88 ?_
        refine j_ior dX5_findBegins_89 ?_
        replace h := zbE h
        obtain ⟨G39, e40, h⟩ := h
        refine j_iast e40 dX5_findBegins_90 ?_
        exact J.sub (zall [0, 1, 2, 3] rfl) (wfX5_findBegins_91 hd t x1 (some a1) x3  G39 h hk)
theorem wflX5_findBegins_31 {F : zF} (hd : 7 ≤ F.2.2.2) (t : Nat) (x1 : Option Nat) (x2 : Option Nat) (x3 : Int32) (G : GS) {a : (GS) ⊕ (GS)} (h : flX5_findBegins_31 t x1 x2 x3 G = some a) (hk : (zcase (fun s : GS => J mX5_findBegins F s 10 [(0, vR (some t)), (1, vR x1)] []) (zKV F)) a) : J mX5_findBegins F G 31 [(0, vR (some t)), (1, vR x1), (2, vR x2), (3, vI x3)] [] := by
  unfold flX5_findBegins_31 at h
  exact zloop_walk (P := (fun s : Int32 × GS => J mX5_findBegins F s.2 31 [(0, vR (some t)), (1, vR x1), (2, vR x2), (3, vI s.1)] [])) (fun s b e hk => wfbX5_findBegins_31 hd t x1 x2 s.1 s.2 e hk) (x3, G) _ h hk
def fbX5_findBegins_10 (t : Nat) (x1 : Option Nat)  (G : GS) : Option ((GS) ⊕ (GS)) :=
  x1.bind fun a1 => zk [13] G a1 <| (fJ19_hasNext_0 a1 G).bind fun v5 => if v5 = 0 then (zo (fX5_findBegins_100 t G)) else (zk [13] G a1 <| zb2 (fJ19_next_0 a1 G) fun r9 G10 => zkq [3] G10 r9 (flX5_findBegins_31 t (some a1) r9 0 G10))
def flX5_findBegins_10 (t : Nat) (x1 : Option Nat) (G : GS) : Option (GS) := zloop (fun s : GS => fbX5_findBegins_10 t x1 s) (G)
theorem wfbX5_findBegins_10 {F : zF} (hd : 7 ≤ F.2.2.2) (t : Nat) (x1 : Option Nat) (G : GS) {a : (GS) ⊕ (GS)} (h : fbX5_findBegins_10 t x1 G = some a) (hk : (zcase (fun s : GS => J mX5_findBegins F s 10 [(0, vR (some t)), (1, vR x1)] []) (zKV F)) a) : J mX5_findBegins F G 10 [(0, vR (some t)), (1, vR x1)] [] := by
  unfold fbX5_findBegins_10 at h
  refine j_aload_n (j := 1) dX5_findBegins_10 rfl rfl ?_
  replace h := zbE h
  obtain ⟨a1, e2, h⟩ := h
  subst e2
  replace h := zkE h
  obtain ⟨e3, h⟩ := h
  replace h := zbE h
  obtain ⟨v5, e4, h⟩ := h
  refine j_cont (zrF (As := []) msX5_82_J19 (yJ19_hasNext_ok e4) (Nat.le_trans (Nat.le_of_ble_eq_true rfl) hd) (zk_13 _ e3) rfl rfl (Nat.le_of_ble_eq_true rfl) dX5_findBegins_11) ?_
  refine j_if_eq (tgt := 100) dX5_findBegins_16 (by decide) (fun c6 => ?_) (fun c6 => ?_)
  · rw [if_pos c6] at h
    replace h := zoE h
    obtain ⟨a, h, rfl⟩ := h
    replace hk := hk
    exact J.sub (zall [0] rfl) (wfX5_findBegins_100 hd t  G h hk)
  · rw [if_neg c6] at h
    refine j_aload_n (j := 1) dX5_findBegins_19 rfl rfl ?_
    replace h := zkE h
    obtain ⟨e7, h⟩ := h
    replace h := zb2E h
    obtain ⟨r9, G10, e8, h⟩ := h
    refine j_cont (zrF (As := []) msX5_88_J19 (yJ19_next_ok e8) (Nat.le_trans (Nat.le_of_ble_eq_true rfl) hd) (zk_13 _ e7) rfl rfl (Nat.le_of_ble_eq_true rfl) dX5_findBegins_20) ?_
    replace h := zkqE h
    obtain ⟨e11, h⟩ := h
    refine j_castq (fun k => j_castN dX5_findBegins_25 k) (fun b q12 k => j_castS (zk_3 _ (e11 b q12)) ⟨2, _, rfl, rfl⟩ q476 dX5_findBegins_25 k) ?_
    refine j_astore_n (lv' := [(2, vR r9), (0, vR (some t)), (1, vR (some a1))]) dX5_findBegins_28 rfl (Nat.le_of_ble_eq_true rfl) rfl ?_
    refine j_iconst (v := 0) dX5_findBegins_29 (by decide) ?_
    refine j_istore_n (lv' := [(3, vI 0), (2, vR r9), (0, vR (some t)), (1, vR (some a1))]) dX5_findBegins_30 rfl (Nat.le_of_ble_eq_true rfl) rfl ?_
    exact J.sub (zall [2, 3, 1, 0] rfl) (wflX5_findBegins_31 hd t (some a1) r9 0  G10 h hk)
theorem wflX5_findBegins_10 {F : zF} (hd : 7 ≤ F.2.2.2) (t : Nat) (x1 : Option Nat) (G : GS) {a : GS} (h : flX5_findBegins_10 t x1 G = some a) (hk : zKV F a) : J mX5_findBegins F G 10 [(0, vR (some t)), (1, vR x1)] [] := by
  unfold flX5_findBegins_10 at h
  exact zloop_walk (P := (fun s : GS => J mX5_findBegins F s 10 [(0, vR (some t)), (1, vR x1)] [])) (fun s b e hk => wfbX5_findBegins_10 hd t x1 s e hk) (G) _ h hk
def fX5_findBegins_0 (t : Nat)  (G : GS) : Option (GS) :=
  (zgR G 5 t 0).bind fun r1 => r1.bind fun a3 => zk [12] G a3 <| zb2 (fJ2_iterator_0 a3 G) fun r7 G8 => flX5_findBegins_10 t r7 G8
theorem wfX5_findBegins_0 {F : zF} (hd : 7 ≤ F.2.2.2) (t : Nat)  (G : GS) {a : GS} (h : fX5_findBegins_0 t  G = some a) (hk : zKV F a) : J mX5_findBegins F G 0 [(0, vR (some t))] [] := by
  unfold fX5_findBegins_0 at h
  refine j_aload_n (j := 0) dX5_findBegins_0 rfl rfl ?_
  replace h := zbE h
  obtain ⟨r1, e2, h⟩ := h
  refine j_getR fgX5_39 (fun _ _ _ => rfl) dX5_findBegins_1 e2 ?_
  replace h := zbE h
  obtain ⟨a3, e4, h⟩ := h
  subst e4
  replace h := zkE h
  obtain ⟨e5, h⟩ := h
  replace h := zb2E h
  obtain ⟨r7, G8, e6, h⟩ := h
  refine j_cont (zrF (As := []) msX5_78_J2 (yJ2_iterator_ok e6) (Nat.le_trans (Nat.le_of_ble_eq_true rfl) hd) (zk_12 _ e5) rfl rfl (Nat.le_of_ble_eq_true rfl) dX5_findBegins_4) ?_
  refine j_astore_n (lv' := [(1, vR r7), (0, vR (some t))]) dX5_findBegins_9 rfl (Nat.le_of_ble_eq_true rfl) rfl ?_
  exact J.sub (zall [1, 0] rfl) (wflX5_findBegins_10 hd t r7  G8 h hk)
theorem yX5_findBegins_ok {t : Nat} {G : GS} {G1 : GS} (h : fX5_findBegins_0 t G = some G1) : zRuns yX5_findBegins (ws_ yX5_findBegins cX5_findBegins 4 none) [vR (some t)] (.inl none, G, G1, 7) :=
  zentry (M := mX5_findBegins) (plainFor_of_name (by decide +kernel)) ⟨rfl, rfl, rfl, rfl⟩ (Nat.le_of_ble_eq_true rfl) (wfX5_findBegins_0 (Nat.le_refl _) t G h ⟨rfl, rfl⟩)
abbrev mJ24_init : zM := (cJ24_init, RJ24, 1, none, "<init>", [], "()V")
def fJ24_init_0 (t : Nat)  (G : GS) : Option (GS) :=
  some G
theorem wfJ24_init_0 {F : zF} (hd : 2 ≤ F.2.2.2) (t : Nat)  (G : GS) {a : GS} (h : fJ24_init_0 t  G = some a) (hk : zKV F a) : J mJ24_init F G 0 [(0, vR (some t))] [] := by
  unfold fJ24_init_0 at h
  refine j_aload_n (j := 0) dJ24_init_0 rfl rfl ?_
  refine j_objinit q1048 q181 q182 (Nat.le_trans (Nat.le_of_ble_eq_true rfl) hd) (Nat.le_of_ble_eq_true rfl) dJ24_init_1 ?_
  obtain rfl := Option.some.inj h
  exact j_vret hk.1 hk.2 rfl dJ24_init_4
theorem yJ24_init_ok {t : Nat} {G : GS} {G1 : GS} (h : fJ24_init_0 t G = some G1) : zRuns yJ24_init (ws_ yJ24_init cJ24_init 1 none) [vR (some t)] (.inl none, G, G1, 2) :=
  zentry (M := mJ24_init) (plainFor_of_name (by decide +kernel)) ⟨rfl, rfl, rfl, rfl⟩ (Nat.le_of_ble_eq_true rfl) (wfJ24_init_0 (Nat.le_refl _) t G h ⟨rfl, rfl⟩)
theorem fpJ26_205_J26 : zFP RJ26 205 20 0 (.int) true := ⟨(RJ26, TJ26, 1, tyJ26), rfl, by decide, in_J26, tyJ26_ok, nmJ26, rfl, rfl, (by intro _; rfl), "java/lang/Integer", Or.inl rfl, q1049⟩
theorem msJ26_202 : zSI RJ26 202 yJ24_init cJ24_init 1 0 := ⟨q1047, q154, q1045, q1046, rfl, (by decide +kernel), (by decide)⟩
abbrev mJ26_init : zM := (cJ26_init, RJ26, 2, none, "<init>", [], "(I)V")
def fJ26_init_0 (t : Nat) (x1 : Int32)  (G : GS) : Option (GS) :=
  (fJ24_init_0 t G).bind fun G2 => (zpI G2 21 t 0 x1).bind fun G3 => some G3
theorem wfJ26_init_0 {F : zF} (hd : 3 ≤ F.2.2.2) (t : Nat) (x1 : Int32)  (G : GS) {a : GS} (h : fJ26_init_0 t x1  G = some a) (hk : zKV F a) : J mJ26_init F G 0 [(0, vR (some t)), (1, vI x1)] [] := by
  unfold fJ26_init_0 at h
  refine j_aload_n (j := 0) dJ26_init_0 rfl rfl ?_
  replace h := zbE h
  obtain ⟨G2, e1, h⟩ := h
  refine j_cont (zrI (As := []) msJ26_202 (yJ24_init_ok e1) (Nat.le_trans (Nat.le_of_ble_eq_true rfl) hd) rfl rfl (Nat.le_of_ble_eq_true rfl) dJ26_init_1) ?_
  refine j_aload_n (j := 0) dJ26_init_4 rfl rfl ?_
  refine j_iload_n (j := 1) dJ26_init_5 rfl rfl ?_
  replace h := zbE h
  obtain ⟨G3, e4, h⟩ := h
  refine j_putI fpJ26_205_J26 (Or.inr rfl) rfl dJ26_init_6 e4 ?_
  obtain rfl := Option.some.inj h
  exact j_vret hk.1 hk.2 rfl dJ26_init_9
theorem yJ26_init_ok {t : Nat} {x1 : Int32} {G : GS} {G1 : GS} (h : fJ26_init_0 t x1 G = some G1) : zRuns yJ26_init (ws_ yJ26_init cJ26_init 2 none) [vR (some t), vI x1] (.inl none, G, G1, 3) :=
  zentry (M := mJ26_init) (plainFor_of_name (by decide +kernel)) ⟨rfl, rfl, rfl, rfl⟩ (Nat.le_of_ble_eq_true rfl) (wfJ26_init_0 (Nat.le_refl _) t x1 G h ⟨rfl, rfl⟩)
end
