/-! printed: functions and walks -/
set_option maxRecDepth 100000
noncomputable section
theorem fpJ20_3_J20 : zFP RJ20 3 13 0 (.array (.object "java/lang/Object")) false := ⟨(RJ20, TJ20, 3, tyJ20), rfl, by decide, in_J20, tyJ20_ok, nmJ20, rfl, rfl, (by decide), "java/util/ArrayDeque", Or.inl rfl, q2422⟩
theorem msJ20_10 : zSV RJ20 10 RJ20 yJ20_newCapacity cJ20_newCapacity 5 (some Jvm.ClassFile.FieldType.int) 2 := ⟨lw_V q2453 q2455 qs51 q148 q2456, (by decide +kernel), (by decide)⟩
theorem msJ20_14 : zSS RJ20 14 yJ15_copyOf cJ15_copyOf 2 (some (Jvm.ClassFile.FieldType.array (Jvm.ClassFile.FieldType.object "java/lang/Object"))) 2 := ⟨lw_S q2464 q771 q141 q772, (by decide +kernel), (by decide)⟩
abbrev mJ20_grow : zM := (cJ20_grow, RJ20, 9, none, "grow", [], "(I)V")
def fbJ20_grow_145 (x5 : Option Nat) (x7 : Int32) (x8 : Int32)  (G : GS) : Option ((Int32 × GS) ⊕ (GS)) :=
  if x8 ≤ x7 then (zo (some G)) else (x5.bind fun a2 => (zsR G 54 a2 x7 (none : Option Nat) [3]).bind fun G4 => some (.inl ((x7 + 1), G4)))
def flJ20_grow_145 (x5 : Option Nat) (x7 : Int32) (x8 : Int32) (G : GS) : Option (GS) := zloop (fun s : Int32 × GS => fbJ20_grow_145 x5 s.1 x8 s.2) (x7, G)
theorem wfbJ20_grow_145 {F : zF} (hd : 4 ≤ F.2.2.2) (x5 : Option Nat) (x7 : Int32) (x8 : Int32) (G : GS) {a : (Int32 × GS) ⊕ (GS)} (h : fbJ20_grow_145 x5 x7 x8 G = some a) (hk : (zcase (fun s : Int32 × GS => J mJ20_grow F s.2 145 [(5, vR x5), (7, vI s.1), (8, vI x8)] []) (zKV F)) a) : J mJ20_grow F G 145 [(5, vR x5), (7, vI x7), (8, vI x8)] [] := by
  unfold fbJ20_grow_145 at h
  refine j_iload (j := 1) dJ20_grow_145 rfl ?_
  refine j_iload (j := 2) dJ20_grow_147 rfl ?_
  refine j_icmp_ge (tgt := 164) dJ20_grow_149 (by decide) (fun c1 => ?_) (fun c1 => ?_)
  · rw [if_pos c1] at h
    replace h := zoE h
    obtain ⟨a, h, rfl⟩ := h
    replace hk := hk
    obtain rfl := Option.some.inj h
    exact j_vret hk.1 hk.2 rfl dJ20_grow_164
  · rw [if_neg c1] at h
    refine j_aload (j := 0) dJ20_grow_152 rfl ?_
    refine j_iload (j := 1) dJ20_grow_154 rfl ?_
    refine j_null dJ20_grow_156 ?_
    replace h := zbE h
    obtain ⟨a2, e3, h⟩ := h
    subst e3
    replace h := zbE h
    obtain ⟨G4, e5, h⟩ := h
    refine j_aast (t := 4) rfl e5 (fun k hk => ⟨_, zk_3 k hk, (Or.inl (zxw 93 rfl))⟩) dJ20_grow_157 ?_
    refine j_iinc (j := 1) (v := (x7 + 1)) (lv' := [(7, vI (x7 + 1)), (5, vR (some a2)), (8, vI x8)]) dJ20_grow_158 rfl rfl (Nat.le_of_ble_eq_true rfl) rfl ?_
    refine j_goto (tgt := 145) dJ20_grow_161 (by decide) ?_
    obtain rfl := Option.some.inj h
    exact J.sub (zall [1, 0, 2] rfl) hk
theorem wflJ20_grow_145 {F : zF} (hd : 4 ≤ F.2.2.2) (x5 : Option Nat) (x7 : Int32) (x8 : Int32) (G : GS) {a : GS} (h : flJ20_grow_145 x5 x7 x8 G = some a) (hk : zKV F a) : J mJ20_grow F G 145 [(5, vR x5), (7, vI x7), (8, vI x8)] [] := by
  unfold flJ20_grow_145 at h
  exact zloop_walk (P := (fun s : Int32 × GS => J mJ20_grow F s.2 145 [(5, vR x5), (7, vI s.1), (8, vI x8)] [])) (fun s b e hk => wfbJ20_grow_145 hd x5 s.1 x8 s.2 e hk) (x7, G) _ h hk
def fJ20_grow_96 (t : Nat) (x2 : Int32) (x3 : Int32) (x5 : Option Nat)  (G : GS) : Option (GS) :=
  (zgI G 14 t 1).bind fun v1 => (zgI G 14 t 1).bind fun v3 => (zgI G 14 t 1).bind fun v5 => x5.bind fun a7 => (zcpR G a7 v1 a7 (v3 + (x3 - x2)) (x2 - v5)).bind fun G9 => (zgI G9 14 t 1).bind fun v11 => (zgI G9 14 t 1).bind fun v13 => (zpI G9 14 t 1 (v13 + (x3 - x2))).bind fun G15 => flJ20_grow_145 (some a7) v11 (v13 + (x3 - x2)) G15
theorem wfJ20_grow_96 {F : zF} (hd : 4 ≤ F.2.2.2) (t : Nat) (x2 : Int32) (x3 : Int32) (x5 : Option Nat)  (G : GS) {a : GS} (h : fJ20_grow_96 t x2 x3 x5  G = some a) (hk : zKV F a) : J mJ20_grow F G 96 [(0, vR (some t)), (2, vI x2), (3, vI x3), (5, vR x5)] [] := by
  unfold fJ20_grow_96 at h
  refine j_iload_n (j := 2) dJ20_grow_96 rfl rfl ?_
  refine j_iload_n (j := 1) dJ20_grow_97 rfl rfl ?_
  refine j_isub dJ20_grow_98 ?_
  refine j_istore (lv' := [(6, vI (x3 - x2)), (0, vR (some t)), (2, vI x2), (3, vI x3), (5, vR x5)]) dJ20_grow_99 (Nat.le_of_ble_eq_true rfl) rfl ?_
  refine j_aload (j := 4) dJ20_grow_101 rfl ?_
  refine j_aload_n (j := 1) dJ20_grow_103 rfl rfl ?_
  replace h := zbE h
  obtain ⟨v1, e2, h⟩ := h
  refine j_getI fgJ20_24 (fun _ _ _ => rfl) dJ20_grow_104 e2 ?_
  refine j_aload (j := 4) dJ20_grow_107 rfl ?_
  refine j_aload_n (j := 1) dJ20_grow_109 rfl rfl ?_
  replace h := zbE h
  obtain ⟨v3, e4, h⟩ := h
  refine j_getI fgJ20_24 (fun _ _ _ => rfl) dJ20_grow_110 e4 ?_
  refine j_iload (j := 0) dJ20_grow_113 rfl ?_
  refine j_iadd dJ20_grow_115 ?_
  refine j_iload_n (j := 2) dJ20_grow_116 rfl rfl ?_
  refine j_aload_n (j := 1) dJ20_grow_117 rfl rfl ?_
  replace h := zbE h
  obtain ⟨v5, e6, h⟩ := h
  refine j_getI fgJ20_24 (fun _ _ _ => rfl) dJ20_grow_118 e6 ?_
  refine j_isub dJ20_grow_121 ?_
  replace h := zbE h
  obtain ⟨a7, e8, h⟩ := h
  subst e8
  replace h := zbE h
  obtain ⟨G9, e10, h⟩ := h
  refine j_cpR e10 q2154 q816 q815 q142 (Nat.le_trans (Nat.le_of_ble_eq_true rfl) hd) (Nat.le_of_ble_eq_true rfl) dJ20_grow_122 ?_
  refine j_aload_n (j := 1) dJ20_grow_125 rfl rfl ?_
  replace h := zbE h
  obtain ⟨v11, e12, h⟩ := h
  refine j_getI fgJ20_24 (fun _ _ _ => rfl) dJ20_grow_126 e12 ?_
  refine j_istore (lv' := [(7, vI v11), (6, vI (x3 - x2)), (0, vR (some t)), (2, vI x2), (3, vI x3), (5, vR (some a7))]) dJ20_grow_129 (Nat.le_of_ble_eq_true rfl) rfl ?_
  refine j_aload_n (j := 2) dJ20_grow_131 rfl rfl ?_
  refine j_dup dJ20_grow_132 rfl ?_
  replace h := zbE h
  obtain ⟨v13, e14, h⟩ := h
  refine j_getI fgJ20_24 (fun _ _ _ => rfl) dJ20_grow_133 e14 ?_
  refine j_iload (j := 1) dJ20_grow_136 rfl ?_
  refine j_iadd dJ20_grow_138 ?_
  refine j_dup_x1 dJ20_grow_139 rfl rfl ?_
  replace h := zbE h
  obtain ⟨G15, e16, h⟩ := h
  refine j_putI fpJ20_24_J20 (Or.inl rfl) rfl dJ20_grow_140 e16 ?_
  refine j_istore (lv' := [(8, vI (v13 + (x3 - x2))), (7, vI v11), (6, vI (x3 - x2)), (0, vR (some t)), (2, vI x2), (3, vI x3), (5, vR (some a7))]) dJ20_grow_143 (Nat.le_of_ble_eq_true rfl) rfl ?_
  exact J.sub (zall [6, 1, 0] rfl) (wflJ20_grow_145 hd (some a7) v11 (v13 + (x3 - x2))  G15 h hk)
def fJ20_grow_49 (t : Nat) (x2 : Int32) (x3 : Int32)  (G : GS) : Option (GS) :=
  (zgR G 14 t 0).bind fun r1 => zb2 (fJ15_copyOf_0 r1 x3 G) fun r4 G5 => (zpR G5 14 t 0 r4).bind fun G6 => (zgI G6 14 t 2).bind fun v8 => (zgI G6 14 t 1).bind fun v10 => if v8 < v10 then (fJ20_grow_96 t x2 x3 r4 G6) else ((zgI G6 14 t 2).bind fun v13 => (zgI G6 14 t 1).bind fun v15 => if v13 = v15 then ((zgI G6 14 t 1).bind fun v18 => r4.bind fun a20 => (zaR G6 54 a20 v18).bind fun r22 => zopt r22 (some G6) (fun a24 => fJ20_grow_96 t x2 x3 (some a20) G6)) else (some G6))
theorem wfJ20_grow_49 {F : zF} (hd : 4 ≤ F.2.2.2) (t : Nat) (x2 : Int32) (x3 : Int32)  (G : GS) {a : GS} (h : fJ20_grow_49 t x2 x3  G = some a) (hk : zKV F a) : J mJ20_grow F G 49 [(0, vR (some t)), (2, vI x2), (3, vI x3)] [] := by
  unfold fJ20_grow_49 at h
  refine j_aload_n (j := 0) dJ20_grow_49 rfl rfl ?_
  refine j_aload_n (j := 0) dJ20_grow_50 rfl rfl ?_
  replace h := zbE h
  obtain ⟨r1, e2, h⟩ := h
  refine j_getR fgJ20_3 (fun _ _ _ => rfl) dJ20_grow_51 e2 ?_
  refine j_iload_n (j := 2) dJ20_grow_54 rfl rfl ?_
  replace h := zb2E h
  obtain ⟨r4, G5, e3, h⟩ := h
  refine j_cont (zrS (As := [vR r1, vI x3]) msJ20_14 (yJ15_copyOf_ok e3) (Nat.le_trans (Nat.le_of_ble_eq_true rfl) hd) rfl rfl (Nat.le_of_ble_eq_true rfl) dJ20_grow_55) ?_
  refine j_dup_x1 dJ20_grow_58 rfl rfl ?_
  replace h := zbE h
  obtain ⟨G6, e7, h⟩ := h
  refine j_putR fpJ20_3_J20 (Or.inl rfl) (Or.inr ⟨_, rfl⟩) dJ20_grow_59 e7 ?_
  refine j_astore (lv' := [(5, vR r4), (0, vR (some t)), (2, vI x2), (3, vI x3)]) dJ20_grow_62 (Nat.le_of_ble_eq_true rfl) rfl ?_
  refine j_aload_n (j := 1) dJ20_grow_64 rfl rfl ?_
  replace h := zbE h
  obtain ⟨v8, e9, h⟩ := h
  refine j_getI fgJ20_20 (fun _ _ _ => rfl) dJ20_grow_65 e9 ?_
  refine j_aload_n (j := 1) dJ20_grow_68 rfl rfl ?_
  replace h := zbE h
  obtain ⟨v10, e11, h⟩ := h
  refine j_getI fgJ20_24 (fun _ _ _ => rfl) dJ20_grow_69 e11 ?_
  refine j_icmp_lt (tgt := 96) dJ20_grow_72 (by decide) (fun c12 => ?_) (fun c12 => ?_)
  · rw [if_pos c12] at h
    exact J.sub (zall [1, 2, 3, 0] rfl) (wfJ20_grow_96 hd t x2 x3 r4  G6 h hk)
  · rw [if_neg c12] at h
    refine j_aload_n (j := 1) dJ20_grow_75 rfl rfl ?_
    replace h := zbE h
    obtain ⟨v13, e14, h⟩ := h
    refine j_getI fgJ20_20 (fun _ _ _ => rfl) dJ20_grow_76 e14 ?_
    refine j_aload_n (j := 1) dJ20_grow_79 rfl rfl ?_
    replace h := zbE h
    obtain ⟨v15, e16, h⟩ := h
    refine j_getI fgJ20_24 (fun _ _ _ => rfl) dJ20_grow_80 e16 ?_
    refine j_icmp_ne (tgt := 164) dJ20_grow_83 (by decide) (fun c17 => ?_) (fun c17 => ?_)
    · rw [if_pos c17] at h
      refine j_aload (j := 0) dJ20_grow_86 rfl ?_
      refine j_aload_n (j := 1) dJ20_grow_88 rfl rfl ?_
      replace h := zbE h
      obtain ⟨v18, e19, h⟩ := h
      refine j_getI fgJ20_24 (fun _ _ _ => rfl) dJ20_grow_89 e19 ?_
      replace h := zbE h
      obtain ⟨a20, e21, h⟩ := h
      subst e21
      replace h := zbE h
      obtain ⟨r22, e23, h⟩ := h
      refine j_aald (Or.inl rfl) e23 dJ20_grow_92 ?_
      rcases r22 with _ | a24
      · replace h := zopt_n h
        refine j_ifnull0 (tgt := 164) dJ20_grow_93 (by decide) ?_
        obtain rfl := Option.some.inj h
        exact j_vret hk.1 hk.2 rfl dJ20_grow_164
      · replace h := zopt_s h
        refine j_ifnull1 dJ20_grow_93 ?_
        exact J.sub (zall [1, 2, 3, 0] rfl) (wfJ20_grow_96 hd t x2 x3 (some a20)  G6 h hk)
    · rw [if_neg c17] at h
      obtain rfl := Option.some.inj h
      exact j_vret hk.1 hk.2 rfl dJ20_grow_164
def fJ20_grow_41 (t : Nat) (x1 : Int32) (x2 : Int32) (x4 : Int32)  (G : GS) : Option (GS) :=
  zk [14] G t <| zb2 (fJ20_newCapacity_0 t x1 x4 G) fun v3 G4 => fJ20_grow_49 t x2 v3 G4
theorem wfJ20_grow_41 {F : zF} (hd : 4 ≤ F.2.2.2) (t : Nat) (x1 : Int32) (x2 : Int32) (x4 : Int32)  (G : GS) {a : GS} (h : fJ20_grow_41 t x1 x2 x4  G = some a) (hk : zKV F a) : J mJ20_grow F G 41 [(0, vR (some t)), (1, vI x1), (2, vI x2), (4, vI x4)] [] := by
  unfold fJ20_grow_41 at h
  refine j_aload_n (j := 0) dJ20_grow_41 rfl rfl ?_
  refine j_iload_n (j := 1) dJ20_grow_42 rfl rfl ?_
  refine j_iload (j := 3) dJ20_grow_43 rfl ?_
  replace h := zkE h
  obtain ⟨e1, h⟩ := h
  replace h := zb2E h
  obtain ⟨v3, G4, e2, h⟩ := h
  refine j_cont (zrV (As := [vI x1, vI x4]) msJ20_10 (yJ20_newCapacity_ok e2) (Nat.le_trans (Nat.le_of_ble_eq_true rfl) hd) (zk_14 _ e1) rfl rfl (Nat.le_of_ble_eq_true rfl) dJ20_grow_45) ?_
  refine j_istore_n (lv' := [(3, vI v3), (0, vR (some t)), (1, vI x1), (2, vI x2), (4, vI x4)]) dJ20_grow_48 rfl (Nat.le_of_ble_eq_true rfl) rfl ?_
  exact J.sub (zall [1, 3, 0] rfl) (wfJ20_grow_49 hd t x2 v3  G4 h hk)
def fJ20_grow_21 (t : Nat) (x1 : Int32) (x2 : Int32) (s0 : Int32) (G : GS) : Option (GS) :=
  if s0 < x1 then (fJ20_grow_41 t x1 x2 s0 G) else (if ((x2 + s0) - 2147483639) ≤ 0 then (fJ20_grow_49 t x2 (x2 + s0) G) else (fJ20_grow_41 t x1 x2 s0 G))
theorem wfJ20_grow_21 {F : zF} (hd : 4 ≤ F.2.2.2) (t : Nat) (x1 : Int32) (x2 : Int32) (s0 : Int32) (G : GS) {a : GS} (h : fJ20_grow_21 t x1 x2 s0 G = some a) (hk : zKV F a) : J mJ20_grow F G 21 [(0, vR (some t)), (1, vI x1), (2, vI x2)] [vI s0] := by
  unfold fJ20_grow_21 at h
  refine j_istore (lv' := [(4, vI s0), (0, vR (some t)), (1, vI x1), (2, vI x2)]) dJ20_grow_21 (Nat.le_of_ble_eq_true rfl) rfl ?_
  refine j_iload (j := 0) dJ20_grow_23 rfl ?_
  refine j_iload_n (j := 2) dJ20_grow_25 rfl rfl ?_
  refine j_icmp_lt (tgt := 41) dJ20_grow_26 (by decide) (fun c1 => ?_) (fun c1 => ?_)
  · rw [if_pos c1] at h
    exact J.sub (zall [1, 2, 3, 0] rfl) (wfJ20_grow_41 hd t x1 x2 s0  G h hk)
  · rw [if_neg c1] at h
    refine j_iload_n (j := 3) dJ20_grow_29 rfl rfl ?_
    refine j_iload (j := 0) dJ20_grow_30 rfl ?_
    refine j_iadd dJ20_grow_32 ?_
    refine j_dup dJ20_grow_33 rfl ?_
    refine j_istore_n (lv' := [(3, vI (x2 + s0)), (4, vI s0), (0, vR (some t)), (1, vI x1), (2, vI x2)]) dJ20_grow_34 rfl (Nat.le_of_ble_eq_true rfl) rfl ?_
    refine j_ldc (v := 2147483639) q2452 dJ20_grow_35 ?_
    refine j_isub dJ20_grow_37 ?_
    refine j_if_le (tgt := 49) dJ20_grow_38 (by decide) (fun c2 => ?_) (fun c2 => ?_)
    · rw [if_pos c2] at h
      exact J.sub (zall [2, 4, 0] rfl) (wfJ20_grow_49 hd t x2 (x2 + s0)  G h hk)
    · rw [if_neg c2] at h
      exact J.sub (zall [2, 3, 4, 1] rfl) (wfJ20_grow_41 hd t x1 x2 s0  G h hk)
def fJ20_grow_0 (t : Nat) (x1 : Int32)  (G : GS) : Option (GS) :=
  (zgR G 14 t 0).bind fun r1 => r1.bind fun a3 => (zln G a3).bind fun v5 => if 64 ≤ v5 then (fJ20_grow_21 t x1 v5 (v5 >>> ((1 : Int32) &&& 31)) G) else (fJ20_grow_21 t x1 v5 (v5 + 2) G)
theorem wfJ20_grow_0 {F : zF} (hd : 4 ≤ F.2.2.2) (t : Nat) (x1 : Int32)  (G : GS) {a : GS} (h : fJ20_grow_0 t x1  G = some a) (hk : zKV F a) : J mJ20_grow F G 0 [(0, vR (some t)), (1, vI x1)] [] := by
  unfold fJ20_grow_0 at h
  refine j_aload_n (j := 0) dJ20_grow_0 rfl rfl ?_
  replace h := zbE h
  obtain ⟨r1, e2, h⟩ := h
  refine j_getR fgJ20_3 (fun _ _ _ => rfl) dJ20_grow_1 e2 ?_
  replace h := zbE h
  obtain ⟨a3, e4, h⟩ := h
  subst e4
  replace h := zbE h
  obtain ⟨v5, e6, h⟩ := h
  refine j_alen e6 dJ20_grow_4 ?_
  refine j_istore_n (lv' := [(2, vI v5), (0, vR (some t)), (1, vI x1)]) dJ20_grow_5 rfl (Nat.le_of_ble_eq_true rfl) rfl ?_
  refine j_iload_n (j := 0) dJ20_grow_6 rfl rfl ?_
  refine j_bipush (v := 64) dJ20_grow_7 (by decide) ?_
  refine j_icmp_ge (tgt := 18) dJ20_grow_9 (by decide) (fun c7 => ?_) (fun c7 => ?_)
  · rw [if_pos c7] at h
    refine j_iload_n (j := 0) dJ20_grow_18 rfl rfl ?_
    refine j_iconst (v := 1) dJ20_grow_19 (by decide) ?_
    refine j_ishr dJ20_grow_20 ?_
    exact J.sub (zall [1, 2, 0] rfl) (wfJ20_grow_21 hd t x1 v5 (v5 >>> ((1 : Int32) &&& 31)) G h hk)
  · rw [if_neg c7] at h
    refine j_iload_n (j := 0) dJ20_grow_12 rfl rfl ?_
    refine j_iconst (v := 2) dJ20_grow_13 (by decide) ?_
    refine j_iadd dJ20_grow_14 ?_
    refine j_goto (tgt := 21) dJ20_grow_15 (by decide) ?_
    exact J.sub (zall [1, 2, 0] rfl) (wfJ20_grow_21 hd t x1 v5 (v5 + 2) G h hk)
theorem yJ20_grow_ok {t : Nat} {x1 : Int32} {G : GS} {G1 : GS} (h : fJ20_grow_0 t x1 G = some G1) : zRuns yJ20_grow (ws_ yJ20_grow cJ20_grow 9 none) [vR (some t), vI x1] (.inl none, G, G1, 4) :=
  zentry (M := mJ20_grow) (plainFor_of_name (by decide +kernel)) ⟨rfl, rfl, rfl, rfl⟩ (Nat.le_of_ble_eq_true rfl) (wfJ20_grow_0 (Nat.le_refl _) t x1 G h ⟨rfl, rfl⟩)
theorem msJ20_68 : zSS RJ20 68 yJ20_dec cJ20_dec 2 (some Jvm.ClassFile.FieldType.int) 2 := ⟨lw_S q2445 q2446 q148 q2447, (by decide +kernel), (by decide)⟩
theorem msJ20_71 : zSV RJ20 71 RJ20 yJ20_grow cJ20_grow 9 none 1 := ⟨lw_V q2448 q2450 qs50 q148 q2451, (by decide +kernel), (by decide)⟩
abbrev mJ20_addFirst : zM := (cJ20_addFirst, RJ20, 3, none, "addFirst", [], "(Ljava/lang/Object;)V")
def fJ20_addFirst_0 (t : Nat) (x1 : Option Nat)  (G : GS) : Option (GS) :=
  zopt x1 none (fun a1 => (zgR G 14 t 0).bind fun r2 => (zgI G 14 t 1).bind fun v4 => r2.bind fun a6 => (zln G a6).bind fun v8 => (fJ20_dec_0 v4 v8 G).bind fun v11 => (zpI G 14 t 1 v11).bind fun G12 => (zsR G12 54 a6 v11 (some a1) [3, 6, 10, 21, 61]).bind fun G14 => (zgI G14 14 t 1).bind fun v16 => (zgI G14 14 t 2).bind fun v18 => if v16 = v18 then (zk [14] G14 t <| (fJ20_grow_0 t 1 G14).bind fun G23 => some G23) else (some G14))
theorem wfJ20_addFirst_0 {F : zF} (hd : 5 ≤ F.2.2.2) (t : Nat) (x1 : Option Nat)  (G : GS) {a : GS} (h : fJ20_addFirst_0 t x1  G = some a) (hk : zKV F a) : J mJ20_addFirst F G 0 [(0, vR (some t)), (1, vR x1)] [] := by
  unfold fJ20_addFirst_0 at h
  refine j_aload_n (j := 1) dJ20_addFirst_0 rfl rfl ?_
  rcases x1 with _ | a1
  · replace h := zopt_n h
    refine j_ifnonnull0 dJ20_addFirst_1 ?_
    cases h
  · replace h := zopt_s h
    refine j_ifnonnull1 (tgt := 12) dJ20_addFirst_1 (by decide) ?_
    refine j_aload_n (j := 0) dJ20_addFirst_12 rfl rfl ?_
    replace h := zbE h
    obtain ⟨r2, e3, h⟩ := h
    refine j_getR fgJ20_3 (fun _ _ _ => rfl) dJ20_addFirst_13 e3 ?_
    refine j_astore_n (lv' := [(2, vR r2), (0, vR (some t)), (1, vR (some a1))]) dJ20_addFirst_16 rfl (Nat.le_of_ble_eq_true rfl) rfl ?_
    refine j_aload_n (j := 0) dJ20_addFirst_17 rfl rfl ?_
    refine j_aload_n (j := 1) dJ20_addFirst_18 rfl rfl ?_
    refine j_aload_n (j := 1) dJ20_addFirst_19 rfl rfl ?_
    replace h := zbE h
    obtain ⟨v4, e5, h⟩ := h
    refine j_getI fgJ20_24 (fun _ _ _ => rfl) dJ20_addFirst_20 e5 ?_
    refine j_aload_n (j := 0) dJ20_addFirst_23 rfl rfl ?_
    replace h := zbE h
    obtain ⟨a6, e7, h⟩ := h
    subst e7
    replace h := zbE h
    obtain ⟨v8, e9, h⟩ := h
    refine j_alen e9 dJ20_addFirst_24 ?_
    replace h := zbE h
    obtain ⟨v11, e10, h⟩ := h
    refine j_cont (zrS (As := [vI v4, vI v8]) msJ20_68 (yJ20_dec_ok e10) (Nat.le_trans (Nat.le_of_ble_eq_true rfl) hd) rfl rfl (Nat.le_of_ble_eq_true rfl) dJ20_addFirst_25) ?_
    refine j_dup_x1 dJ20_addFirst_28 rfl rfl ?_
    replace h := zbE h
    obtain ⟨G12, e13, h⟩ := h
    refine j_putI fpJ20_24_J20 (Or.inl rfl) rfl dJ20_addFirst_29 e13 ?_
    refine j_aload_n (j := 2) dJ20_addFirst_32 rfl rfl ?_
    replace h := zbE h
    obtain ⟨G14, e15, h⟩ := h
    refine j_aast (t := 4) rfl e15 zobjK dJ20_addFirst_33 ?_
    refine j_aload_n (j := 1) dJ20_addFirst_34 rfl rfl ?_
    replace h := zbE h
    obtain ⟨v16, e17, h⟩ := h
    refine j_getI fgJ20_24 (fun _ _ _ => rfl) dJ20_addFirst_35 e17 ?_
    refine j_aload_n (j := 1) dJ20_addFirst_38 rfl rfl ?_
    replace h := zbE h
    obtain ⟨v18, e19, h⟩ := h
    refine j_getI fgJ20_20 (fun _ _ _ => rfl) dJ20_addFirst_39 e19 ?_
    refine j_icmp_ne (tgt := 50) dJ20_addFirst_42 (by decide) (fun c20 => ?_) (fun c20 => ?_)
    · rw [if_pos c20] at h
      refine j_aload_n (j := 1) dJ20_addFirst_45 rfl rfl ?_
      refine j_iconst (v := 1) dJ20_addFirst_46 (by decide) ?_
      replace h := zkE h
      obtain ⟨e21, h⟩ := h
      replace h := zbE h
      obtain ⟨G23, e22, h⟩ := h
      refine j_cont (zrV (As := [vI 1]) msJ20_71 (yJ20_grow_ok e22) (Nat.le_trans (Nat.le_of_ble_eq_true rfl) hd) (zk_14 _ e21) rfl rfl (Nat.le_of_ble_eq_true rfl) dJ20_addFirst_47) ?_
      obtain rfl := Option.some.inj h
      exact j_vret hk.1 hk.2 rfl dJ20_addFirst_50
    · rw [if_neg c20] at h
      obtain rfl := Option.some.inj h
      exact j_vret hk.1 hk.2 rfl dJ20_addFirst_50
theorem yJ20_addFirst_ok {t : Nat} {x1 : Option Nat} {G : GS} {G1 : GS} (h : fJ20_addFirst_0 t x1 G = some G1) : zRuns yJ20_addFirst (ws_ yJ20_addFirst cJ20_addFirst 3 none) [vR (some t), vR x1] (.inl none, G, G1, 5) :=
  zentry (M := mJ20_addFirst) (plainFor_of_name (by decide +kernel)) ⟨rfl, rfl, rfl, rfl⟩ (Nat.le_of_ble_eq_true rfl) (wfJ20_addFirst_0 (Nat.le_refl _) t x1 G h ⟨rfl, rfl⟩)
theorem msJ20_86 : zSV RJ20 86 RJ20 yJ20_addFirst cJ20_addFirst 3 none 1 := ⟨lw_V q2441 q2442 q2443 q148 q2444, (by decide +kernel), (by decide)⟩
abbrev mJ20_push : zM := (cJ20_push, RJ20, 2, none, "push", [], "(Ljava/lang/Object;)V")
def fJ20_push_0 (t : Nat) (x1 : Option Nat)  (G : GS) : Option (GS) :=
  zk [14] G t <| (fJ20_addFirst_0 t x1 G).bind fun G3 => some G3
theorem wfJ20_push_0 {F : zF} (hd : 6 ≤ F.2.2.2) (t : Nat) (x1 : Option Nat)  (G : GS) {a : GS} (h : fJ20_push_0 t x1  G = some a) (hk : zKV F a) : J mJ20_push F G 0 [(0, vR (some t)), (1, vR x1)] [] := by
  unfold fJ20_push_0 at h
  refine j_aload_n (j := 0) dJ20_push_0 rfl rfl ?_
  refine j_aload_n (j := 1) dJ20_push_1 rfl rfl ?_
  replace h := zkE h
  obtain ⟨e1, h⟩ := h
  replace h := zbE h
  obtain ⟨G3, e2, h⟩ := h
  refine j_cont (zrV (As := [vR x1]) msJ20_86 (yJ20_addFirst_ok e2) (Nat.le_trans (Nat.le_of_ble_eq_true rfl) hd) (zk_14 _ e1) rfl rfl (Nat.le_of_ble_eq_true rfl) dJ20_push_2) ?_
  obtain rfl := Option.some.inj h
  exact j_vret hk.1 hk.2 rfl dJ20_push_5
theorem yJ20_push_ok {t : Nat} {x1 : Option Nat} {G : GS} {G1 : GS} (h : fJ20_push_0 t x1 G = some G1) : zRuns yJ20_push (ws_ yJ20_push cJ20_push 2 none) [vR (some t), vR x1] (.inl none, G, G1, 6) :=
  zentry (M := mJ20_push) (plainFor_of_name (by decide +kernel)) ⟨rfl, rfl, rfl, rfl⟩ (Nat.le_of_ble_eq_true rfl) (wfJ20_push_0 (Nat.le_refl _) t x1 G h ⟨rfl, rfl⟩)
theorem fgX10_139 : zFG RX10 139 2 1 (.array (.int)) := ⟨(RX3, TX3, 2, tyX3), rfl, by decide, in_X3, rfl, "SelahGenerator$Rule", Or.inl rfl, Or.inr ⟨_, zxw 84 rfl⟩⟩
theorem fgX10_29 : zFG RX10 29 8 3 (.object "java/util/List") := ⟨(RX10, TX10, 8, tyX10), rfl, by decide, in_X10, rfl, "SelahGenerator$Parse", Or.inl rfl, Or.inl q2470⟩
theorem fpX10_35_X10 : zFP RX10 35 8 5 (.int) false := ⟨(RX10, TX10, 8, tyX10), rfl, by decide, in_X10, tyX10_ok, nmX10, rfl, rfl, (by decide), "SelahGenerator$Parse", Or.inl rfl, q2474⟩
theorem msX10_100 : zSV RX10 100 RJ20 yJ20_pop cJ20_pop 1 (some (Jvm.ClassFile.FieldType.object "java/lang/Object")) 0 := ⟨lw_V q2549 q2550 q2551 q148 q2552, (by decide +kernel), (by decide)⟩
theorem msX10_42 : zSS RX10 42 yJ26_valueOf cJ26_valueOf 1 (some (Jvm.ClassFile.FieldType.object "java/lang/Integer")) 1 := ⟨lw_S q2436 q1035 q156 q1036, (by decide +kernel), (by decide)⟩
theorem msX10_48 : zSV RX10 48 RJ20 yJ20_push cJ20_push 2 none 1 := ⟨lw_V q2437 q2438 q2439 q148 q2440, (by decide +kernel), (by decide)⟩
abbrev mX10_apply : zM := (cX10_apply, RX10, 5, (some Jvm.ClassFile.FieldType.boolean), "apply", [], "(I)Z")
def fbX10_apply_76 (t : Nat) (x3 : Option Nat) (x4 : Int32)  (G : GS) : Option ((Int32 × GS) ⊕ ((Int32) × GS)) :=
  if x4 < 0 then (zo (zcond (zbb 1) (some (1, G)))) else ((zgR G 9 t 1).bind fun r3 => x3.bind fun a5 => (zaI G 50 a5 x4).bind fun v7 => zb2 (fJ26_valueOf_0 v7 G) fun r10 G11 => r3.bind fun a12 => zk [14] G11 a12 <| (fJ20_push_0 a12 r10 G11).bind fun G16 => some (.inl ((x4 + (-1)), G16)))
def flX10_apply_76 (t : Nat) (x3 : Option Nat) (x4 : Int32) (G : GS) : Option ((Int32) × GS) := zloop (fun s : Int32 × GS => fbX10_apply_76 t x3 s.1 s.2) (x4, G)
theorem wfbX10_apply_76 {F : zF} (hd : 8 ≤ F.2.2.2) (t : Nat) (x3 : Option Nat) (x4 : Int32) (G : GS) {a : (Int32 × GS) ⊕ ((Int32) × GS)} (h : fbX10_apply_76 t x3 x4 G = some a) (hk : (zcase (fun s : Int32 × GS => J mX10_apply F s.2 76 [(0, vR (some t)), (3, vR x3), (4, vI s.1)] []) (zKI F)) a) : J mX10_apply F G 76 [(0, vR (some t)), (3, vR x3), (4, vI x4)] [] := by
  unfold fbX10_apply_76 at h
  refine j_iload (j := 2) dX10_apply_76 rfl ?_
  refine j_if_lt (tgt := 101) dX10_apply_78 (by decide) (fun c1 => ?_) (fun c1 => ?_)
  · rw [if_pos c1] at h
    replace h := zoE h
    obtain ⟨a, h, rfl⟩ := h
    replace hk := hk
    refine j_iconst (v := 1) dX10_apply_101 (by decide) ?_
    replace h := zcondE h
    obtain ⟨e2, h⟩ := h
    obtain rfl := Option.some.inj h
    exact j_zret hk.1 hk.2 rfl (zbb_n e2) dX10_apply_102
  · rw [if_neg c1] at h
    refine j_aload_n (j := 0) dX10_apply_81 rfl rfl ?_
    replace h := zbE h
    obtain ⟨r3, e4, h⟩ := h
    refine j_getR fgX10_18 (fun _ _ _ => rfl) dX10_apply_82 e4 ?_
    refine j_aload_n (j := 1) dX10_apply_85 rfl rfl ?_
    refine j_iload (j := 2) dX10_apply_86 rfl ?_
    replace h := zbE h
    obtain ⟨a5, e6, h⟩ := h
    subst e6
    replace h := zbE h
    obtain ⟨v7, e8, h⟩ := h
    refine j_iald (Or.inl rfl) e8 dX10_apply_88 ?_
    replace h := zb2E h
    obtain ⟨r10, G11, e9, h⟩ := h
    refine j_cont (zrS (As := [vI v7]) msX10_42 (yJ26_valueOf_ok e9) (Nat.le_trans (Nat.le_of_ble_eq_true rfl) hd) rfl rfl (Nat.le_of_ble_eq_true rfl) dX10_apply_89) ?_
    replace h := zbE h
    obtain ⟨a12, e13, h⟩ := h
    subst e13
    replace h := zkE h
    obtain ⟨e14, h⟩ := h
    replace h := zbE h
    obtain ⟨G16, e15, h⟩ := h
    refine j_cont (zrV (As := [vR r10]) msX10_48 (yJ20_push_ok e15) (Nat.le_trans (Nat.le_of_ble_eq_true rfl) hd) (zk_14 _ e14) rfl rfl (Nat.le_of_ble_eq_true rfl) dX10_apply_92) ?_
    refine j_iinc (j := 2) (v := (x4 + (-1))) (lv' := [(4, vI (x4 + (-1))), (0, vR (some t)), (3, vR (some a5))]) dX10_apply_95 rfl rfl (Nat.le_of_ble_eq_true rfl) rfl ?_
    refine j_goto (tgt := 76) dX10_apply_98 (by decide) ?_
    obtain rfl := Option.some.inj h
    exact J.sub (zall [1, 2, 0] rfl) hk
theorem wflX10_apply_76 {F : zF} (hd : 8 ≤ F.2.2.2) (t : Nat) (x3 : Option Nat) (x4 : Int32) (G : GS) {a : (Int32) × GS} (h : flX10_apply_76 t x3 x4 G = some a) (hk : zKI F a) : J mX10_apply F G 76 [(0, vR (some t)), (3, vR x3), (4, vI x4)] [] := by
  unfold flX10_apply_76 at h
  exact zloop_walk (P := (fun s : Int32 × GS => J mX10_apply F s.2 76 [(0, vR (some t)), (3, vR x3), (4, vI s.1)] [])) (fun s b e hk => wfbX10_apply_76 hd t x3 s.1 s.2 e hk) (x4, G) _ h hk
def fX10_apply_0 (t : Nat) (x1 : Int32)  (G : GS) : Option ((Int32) × GS) :=
  (zgR G 9 t 3).bind fun r1 => r1.bind fun a3 => zk [12] G a3 <| (fJ2_size_0 a3 G).bind fun v7 => if v7 = 400 then ((zpI G 9 t 5 3).bind fun G9 => zcond (zbb 0) (some (0, G9))) else ((zgR G 9 t 3).bind fun r12 => zb2 (fJ26_valueOf_0 x1 G) fun r15 G16 => r12.bind fun a17 => zk [12] G16 a17 <| zb2 (fJ2_add_0 a17 r15 G16) fun v21 G22 => (zgR G22 9 t 1).bind fun r23 => r23.bind fun a25 => zk [14] G22 a25 <| zb2 (fJ20_pop_0 a25 G22) fun r29 G30 => zkq [21, 61] G30 r29 (r29.bind fun a32 => zk [21, 61] G30 a32 <| (fJ26_intValue_0 a32 G30).bind fun v36 => (zgR G30 9 t 7).bind fun r37 => r37.bind fun a39 => (zgR G30 1 a39 0).bind fun r41 => r41.bind fun a43 => zk [12] G30 a43 <| (fJ2_get_0 a43 x1 G30).bind fun r47 => zkq [3] G30 r47 (r47.bind fun a49 => (zgR G30 3 a49 1).bind fun r51 => r51.bind fun a53 => (zln G30 a53).bind fun v55 => flX10_apply_76 t (some a53) (v55 - 1) G30)))
theorem wfX10_apply_0 {F : zF} (hd : 8 ≤ F.2.2.2) (t : Nat) (x1 : Int32)  (G : GS) {a : (Int32) × GS} (h : fX10_apply_0 t x1  G = some a) (hk : zKI F a) : J mX10_apply F G 0 [(0, vR (some t)), (1, vI x1)] [] := by
  unfold fX10_apply_0 at h
  refine j_aload_n (j := 0) dX10_apply_0 rfl rfl ?_
  replace h := zbE h
  obtain ⟨r1, e2, h⟩ := h
  refine j_getR fgX10_29 (fun _ _ _ => rfl) dX10_apply_1 e2 ?_
  replace h := zbE h
  obtain ⟨a3, e4, h⟩ := h
  subst e4
  replace h := zkE h
  obtain ⟨e5, h⟩ := h
  replace h := zbE h
  obtain ⟨v7, e6, h⟩ := h
  refine j_cont (zrF (As := []) msX10_52_J2 (yJ2_size_ok e6) (Nat.le_trans (Nat.le_of_ble_eq_true rfl) hd) (zk_12 _ e5) rfl rfl (Nat.le_of_ble_eq_true rfl) dX10_apply_4) ?_
  refine j_sipush (v := 400) dX10_apply_9 (by decide) ?_
  refine j_icmp_ne (tgt := 22) dX10_apply_12 (by decide) (fun c8 => ?_) (fun c8 => ?_)
  · rw [if_pos c8] at h
    refine j_aload_n (j := 0) dX10_apply_15 rfl rfl ?_
    refine j_iconst (v := 3) dX10_apply_16 (by decide) ?_
    replace h := zbE h
    obtain ⟨G9, e10, h⟩ := h
    refine j_putI fpX10_35_X10 (Or.inl rfl) rfl dX10_apply_17 e10 ?_
    refine j_iconst (v := 0) dX10_apply_20 (by decide) ?_
    replace h := zcondE h
    obtain ⟨e11, h⟩ := h
    obtain rfl := Option.some.inj h
    exact j_zret hk.1 hk.2 rfl (zbb_n e11) dX10_apply_21
  · rw [if_neg c8] at h
    refine j_aload_n (j := 0) dX10_apply_22 rfl rfl ?_
    replace h := zbE h
    obtain ⟨r12, e13, h⟩ := h
    refine j_getR fgX10_29 (fun _ _ _ => rfl) dX10_apply_23 e13 ?_
    refine j_iload_n (j := 1) dX10_apply_26 rfl rfl ?_
    replace h := zb2E h
    obtain ⟨r15, G16, e14, h⟩ := h
    refine j_cont (zrS (As := [vI x1]) msX10_42 (yJ26_valueOf_ok e14) (Nat.le_trans (Nat.le_of_ble_eq_true rfl) hd) rfl rfl (Nat.le_of_ble_eq_true rfl) dX10_apply_27) ?_
    replace h := zbE h
    obtain ⟨a17, e18, h⟩ := h
    subst e18
    replace h := zkE h
    obtain ⟨e19, h⟩ := h
    replace h := zb2E h
    obtain ⟨v21, G22, e20, h⟩ := h
    refine j_cont (zrF (As := [vR r15]) msX10_58_J2 (yJ2_add_ok e20) (Nat.le_trans (Nat.le_of_ble_eq_true rfl) hd) (zk_12 _ e19) rfl rfl (Nat.le_of_ble_eq_true rfl) dX10_apply_30) ?_
    refine j_pop dX10_apply_35 rfl ?_
    refine j_aload_n (j := 0) dX10_apply_36 rfl rfl ?_
    replace h := zbE h
    obtain ⟨r23, e24, h⟩ := h
    refine j_getR fgX10_18 (fun _ _ _ => rfl) dX10_apply_37 e24 ?_
    replace h := zbE h
    obtain ⟨a25, e26, h⟩ := h
    subst e26
    replace h := zkE h
    obtain ⟨e27, h⟩ := h
    replace h := zb2E h
    obtain ⟨r29, G30, e28, h⟩ := h
    refine j_cont (zrV (As := []) msX10_100 (yJ20_pop_ok e28) (Nat.le_trans (Nat.le_of_ble_eq_true rfl) hd) (zk_14 _ e27) rfl rfl (Nat.le_of_ble_eq_true rfl) dX10_apply_40) ?_
    replace h := zkqE h
    obtain ⟨e31, h⟩ := h
    refine j_castq (fun k => j_castN dX10_apply_43 k) (fun b q58 k => j_castS (zk_21_61 _ (e31 b q58)) ⟨20, _, rfl, rfl⟩ q1487 dX10_apply_43 k) ?_
    replace h := zbE h
    obtain ⟨a32, e33, h⟩ := h
    subst e33
    replace h := zkE h
    obtain ⟨e34, h⟩ := h
    replace h := zbE h
    obtain ⟨v36, e35, h⟩ := h
    refine j_cont (zrV (As := []) msX10_69 (yJ26_intValue_ok e35) (Nat.le_trans (Nat.le_of_ble_eq_true rfl) hd) (zk_21_61 _ e34) rfl rfl (Nat.le_of_ble_eq_true rfl) dX10_apply_46) ?_
    refine j_istore_n (lv' := [(2, vI v36), (0, vR (some t)), (1, vI x1)]) dX10_apply_49 rfl (Nat.le_of_ble_eq_true rfl) rfl ?_
    refine j_aload_n (j := 1) dX10_apply_50 rfl rfl ?_
    replace h := zbE h
    obtain ⟨r37, e38, h⟩ := h
    refine j_getR fgX10_3 (fun _ _ _ => rfl) dX10_apply_51 e38 ?_
    replace h := zbE h
    obtain ⟨a39, e40, h⟩ := h
    subst e40
    replace h := zbE h
    obtain ⟨r41, e42, h⟩ := h
    refine j_getR fgX10_134 (fun _ _ _ => rfl) dX10_apply_54 e42 ?_
    refine j_iload_n (j := 2) dX10_apply_57 rfl rfl ?_
    replace h := zbE h
    obtain ⟨a43, e44, h⟩ := h
    subst e44
    replace h := zkE h
    obtain ⟨e45, h⟩ := h
    replace h := zbE h
    obtain ⟨r47, e46, h⟩ := h
    refine j_cont (zrF (As := [vI x1]) msX10_65_J2 (yJ2_get_ok e46) (Nat.le_trans (Nat.le_of_ble_eq_true rfl) hd) (zk_12 _ e45) rfl rfl (Nat.le_of_ble_eq_true rfl) dX10_apply_58) ?_
    replace h := zkqE h
    obtain ⟨e48, h⟩ := h
    refine j_castq (fun k => j_castN dX10_apply_63 k) (fun b q57 k => j_castS (zk_3 _ (e48 b q57)) ⟨2, _, rfl, rfl⟩ q1494 dX10_apply_63 k) ?_
    replace h := zbE h
    obtain ⟨a49, e50, h⟩ := h
    subst e50
    replace h := zbE h
    obtain ⟨r51, e52, h⟩ := h
    refine j_getR fgX10_139 (fun _ _ _ => rfl) dX10_apply_66 e52 ?_
    refine j_astore_n (lv' := [(3, vR r51), (2, vI v36), (0, vR (some t)), (1, vI x1)]) dX10_apply_69 rfl (Nat.le_of_ble_eq_true rfl) rfl ?_
    refine j_aload_n (j := 0) dX10_apply_70 rfl rfl ?_
    replace h := zbE h
    obtain ⟨a53, e54, h⟩ := h
    subst e54
    replace h := zbE h
    obtain ⟨v55, e56, h⟩ := h
    refine j_alen e56 dX10_apply_71 ?_
    refine j_iconst (v := 1) dX10_apply_72 (by decide) ?_
    refine j_isub dX10_apply_73 ?_
    refine j_istore (lv' := [(4, vI (v55 - 1)), (3, vR (some a53)), (2, vI v36), (0, vR (some t)), (1, vI x1)]) dX10_apply_74 (Nat.le_of_ble_eq_true rfl) rfl ?_
    exact J.sub (zall [3, 1, 0] rfl) (wflX10_apply_76 hd t (some a53) (v55 - 1)  G30 h hk)
theorem yX10_apply_ok {t : Nat} {x1 : Int32} {G : GS} {r : Int32} {G1 : GS} (h : fX10_apply_0 t x1 G = some (r, G1)) : zRuns yX10_apply (ws_ yX10_apply cX10_apply 5 (some Jvm.ClassFile.FieldType.boolean)) [vR (some t), vI x1] (.inl (some (vI r)), G, G1, 8) :=
  zentry (M := mX10_apply) (plainFor_of_name (by decide +kernel)) ⟨rfl, rfl, rfl, rfl⟩ (Nat.le_of_ble_eq_true rfl) (wfX10_apply_0 (Nat.le_refl _) t x1 G h ⟨rfl, rfl⟩)
theorem fgX10_130 : zFG RX10 130 4 2 (.array (.int)) := ⟨(RX5, TX5, 10, tyX5), rfl, by decide, in_X5, rfl, "SelahGenerator$Sets", Or.inl rfl, Or.inr ⟨_, zxw 77 rfl⟩⟩
theorem msX10_112 : zSV RX10 112 RX5 yX5_predicted cX5_predicted 4 (some Jvm.ClassFile.FieldType.int) 2 := ⟨lw_V q2543 q1911 q1912 q151 q1913, (by decide +kernel), (by decide)⟩
theorem msX10_122 : zSV RX10 122 RX7 yX7_predicted cX7_predicted 6 (some Jvm.ClassFile.FieldType.int) 3 := ⟨lw_V q2544 q1950 q1951 q168 q1952, (by decide +kernel), (by decide)⟩
theorem msX10_127 : zSV RX10 127 RX10 yX10_apply cX10_apply 5 (some Jvm.ClassFile.FieldType.boolean) 1 := ⟨lw_V q2545 q2547 qs56 q171 q2548, (by decide +kernel), (by decide)⟩
theorem msX10_84 : zSV RX10 84 RX10 yX10_fault cX10_fault 3 none 2 := ⟨lw_V q2516 q2518 qs54 q171 q2519, (by decide +kernel), (by decide)⟩
abbrev mX10_expand : zM := (cX10_expand, RX10, 7, (some Jvm.ClassFile.FieldType.boolean), "expand", [], "(III)Z")
def fX10_expand_112 (x5 : Int32)  (G : GS) : Option ((Int32) × GS) :=
  if x5 = 0 then (zcond (zbb 1) (some (1, G))) else (zcond (zbb 0) (some (0, G)))
theorem wfX10_expand_112 {F : zF} (hd : 52 ≤ F.2.2.2) (x5 : Int32)  (G : GS) {a : (Int32) × GS} (h : fX10_expand_112 x5  G = some a) (hk : zKI F a) : J mX10_expand F G 112 [(5, vI x5)] [] := by
  unfold fX10_expand_112 at h
  refine j_iload (j := 0) dX10_expand_112 rfl ?_
  refine j_if_ne (tgt := 121) dX10_expand_114 (by decide) (fun c1 => ?_) (fun c1 => ?_)
  · rw [if_pos c1] at h
    refine j_iconst (v := 1) dX10_expand_117 (by decide) ?_
    refine j_goto (tgt := 122) dX10_expand_118 (by decide) ?_
    replace h := zcondE h
    obtain ⟨e2, h⟩ := h
    obtain rfl := Option.some.inj h
    exact j_zret hk.1 hk.2 rfl (zbb_n e2) dX10_expand_122
  · rw [if_neg c1] at h
    refine j_iconst (v := 0) dX10_expand_121 (by decide) ?_
    replace h := zcondE h
    obtain ⟨e3, h⟩ := h
    obtain rfl := Option.some.inj h
    exact j_zret hk.1 hk.2 rfl (zbb_n e3) dX10_expand_122
def fX10_expand_83 (t : Nat) (x1 : Int32) (s0 : Int32) (G : GS) : Option ((Int32) × GS) :=
  zk [9] G t <| (fX10_fault_0 t x1 s0 G).bind fun G3 => if s0 = 0 then ((zgR G3 9 t 1).bind fun r5 => r5.bind fun a7 => zk [14] G3 a7 <| zb2 (fJ20_pop_0 a7 G3) fun r11 G12 => zkq [21, 61] G12 r11 (r11.bind fun a14 => zk [21, 61] G12 a14 <| (fJ26_intValue_0 a14 G12).bind fun v18 => fX10_expand_112 s0 G12)) else (fX10_expand_112 s0 G3)
theorem wfX10_expand_83 {F : zF} (hd : 52 ≤ F.2.2.2) (t : Nat) (x1 : Int32) (s0 : Int32) (G : GS) {a : (Int32) × GS} (h : fX10_expand_83 t x1 s0 G = some a) (hk : zKI F a) : J mX10_expand F G 83 [(0, vR (some t)), (1, vI x1)] [vI s0] := by
  unfold fX10_expand_83 at h
  refine j_istore (lv' := [(5, vI s0), (0, vR (some t)), (1, vI x1)]) dX10_expand_83 (Nat.le_of_ble_eq_true rfl) rfl ?_
  refine j_aload_n (j := 1) dX10_expand_85 rfl rfl ?_
  refine j_iload_n (j := 2) dX10_expand_86 rfl rfl ?_
  refine j_iload (j := 0) dX10_expand_87 rfl ?_
  replace h := zkE h
  obtain ⟨e1, h⟩ := h
  replace h := zbE h
  obtain ⟨G3, e2, h⟩ := h
  refine j_cont (zrV (As := [vI x1, vI s0]) msX10_84 (yX10_fault_ok e2) (Nat.le_trans (Nat.le_of_ble_eq_true rfl) hd) (zk_9 _ e1) rfl rfl (Nat.le_of_ble_eq_true rfl) dX10_expand_89) ?_
  refine j_iload (j := 0) dX10_expand_92 rfl ?_
  refine j_if_ne (tgt := 112) dX10_expand_94 (by decide) (fun c4 => ?_) (fun c4 => ?_)
  · rw [if_pos c4] at h
    refine j_aload_n (j := 1) dX10_expand_97 rfl rfl ?_
    replace h := zbE h
    obtain ⟨r5, e6, h⟩ := h
    refine j_getR fgX10_18 (fun _ _ _ => rfl) dX10_expand_98 e6 ?_
    replace h := zbE h
    obtain ⟨a7, e8, h⟩ := h
    subst e8
    replace h := zkE h
    obtain ⟨e9, h⟩ := h
    replace h := zb2E h
    obtain ⟨r11, G12, e10, h⟩ := h
    refine j_cont (zrV (As := []) msX10_100 (yJ20_pop_ok e10) (Nat.le_trans (Nat.le_of_ble_eq_true rfl) hd) (zk_14 _ e9) rfl rfl (Nat.le_of_ble_eq_true rfl) dX10_expand_101) ?_
    replace h := zkqE h
    obtain ⟨e13, h⟩ := h
    refine j_castq (fun k => j_castN dX10_expand_104 k) (fun b q19 k => j_castS (zk_21_61 _ (e13 b q19)) ⟨20, _, rfl, rfl⟩ q1487 dX10_expand_104 k) ?_
    replace h := zbE h
    obtain ⟨a14, e15, h⟩ := h
    subst e15
    replace h := zkE h
    obtain ⟨e16, h⟩ := h
    replace h := zbE h
    obtain ⟨v18, e17, h⟩ := h
    refine j_cont (zrV (As := []) msX10_69 (yJ26_intValue_ok e17) (Nat.le_trans (Nat.le_of_ble_eq_true rfl) hd) (zk_21_61 _ e16) rfl rfl (Nat.le_of_ble_eq_true rfl) dX10_expand_107) ?_
    refine j_istore (lv' := [(6, vI v18), (5, vI s0), (0, vR (some t)), (1, vI x1)]) dX10_expand_110 (Nat.le_of_ble_eq_true rfl) rfl ?_
    exact J.sub (zall [1] rfl) (wfX10_expand_112 hd s0  G12 h hk)
  · rw [if_neg c4] at h
    exact J.sub (zall [0] rfl) (wfX10_expand_112 hd s0  G3 h hk)
def fX10_expand_82 (t : Nat) (x1 : Int32)  (G : GS) : Option ((Int32) × GS) :=
  fX10_expand_83 t x1 0 G
theorem wfX10_expand_82 {F : zF} (hd : 52 ≤ F.2.2.2) (t : Nat) (x1 : Int32)  (G : GS) {a : (Int32) × GS} (h : fX10_expand_82 t x1  G = some a) (hk : zKI F a) : J mX10_expand F G 82 [(0, vR (some t)), (1, vI x1)] [] := by
  unfold fX10_expand_82 at h
  refine j_iconst (v := 0) dX10_expand_82 (by decide) ?_
  exact J.sub (zall [0, 1] rfl) (wfX10_expand_83 hd t x1 0 G h hk)
def fX10_expand_36 (t : Nat) (x1 : Int32) (x2 : Int32) (s0 : Int32) (G : GS) : Option ((Int32) × GS) :=
  if s0 < 0 then (if x2 = 12 then (fX10_expand_82 t x1 G) else ((zgR G 9 t 7).bind fun r3 => r3.bind fun a5 => zk [1] G a5 <| zb2 (fX1_sets_0 a5 G) fun r9 G10 => r9.bind fun a11 => (zgR G10 5 a11 2).bind fun r13 => r13.bind fun a15 => (zaI G10 50 a15 (x1 - 20)).bind fun v17 => if ((v17 >>> (x2 &&& 31)) &&& 1) = 0 then (fX10_expand_83 t x1 1 G10) else (fX10_expand_82 t x1 G10))) else (zk [9] G t <| zb2 (fX10_apply_0 t s0 G) fun v22 G23 => zcond (zbb v22) (some (v22, G23)))
theorem wfX10_expand_36 {F : zF} (hd : 52 ≤ F.2.2.2) (t : Nat) (x1 : Int32) (x2 : Int32) (s0 : Int32) (G : GS) {a : (Int32) × GS} (h : fX10_expand_36 t x1 x2 s0 G = some a) (hk : zKI F a) : J mX10_expand F G 36 [(0, vR (some t)), (1, vI x1), (2, vI x2)] [vI s0] := by
  unfold fX10_expand_36 at h
  refine j_istore (lv' := [(4, vI s0), (0, vR (some t)), (1, vI x1), (2, vI x2)]) dX10_expand_36 (Nat.le_of_ble_eq_true rfl) rfl ?_
  refine j_iload (j := 0) dX10_expand_38 rfl ?_
  refine j_if_lt (tgt := 50) dX10_expand_40 (by decide) (fun c1 => ?_) (fun c1 => ?_)
  · rw [if_pos c1] at h
    refine j_iload_n (j := 3) dX10_expand_50 rfl rfl ?_
    refine j_bipush (v := 12) dX10_expand_51 (by decide) ?_
    refine j_icmp_eq (tgt := 82) dX10_expand_53 (by decide) (fun c2 => ?_) (fun c2 => ?_)
    · rw [if_pos c2] at h
      exact J.sub (zall [1, 2] rfl) (wfX10_expand_82 hd t x1  G h hk)
    · rw [if_neg c2] at h
      refine j_aload_n (j := 1) dX10_expand_56 rfl rfl ?_
      replace h := zbE h
      obtain ⟨r3, e4, h⟩ := h
      refine j_getR fgX10_3 (fun _ _ _ => rfl) dX10_expand_57 e4 ?_
      replace h := zbE h
      obtain ⟨a5, e6, h⟩ := h
      subst e6
      replace h := zkE h
      obtain ⟨e7, h⟩ := h
      replace h := zb2E h
      obtain ⟨r9, G10, e8, h⟩ := h
      refine j_cont (zrVN (As := []) msX10_108 ⟨q412, qs0⟩ (yX1_sets_ok e8) (Nat.le_trans (Nat.le_of_ble_eq_true rfl) hd) (zk_1 _ e7) rfl rfl (Nat.le_of_ble_eq_true rfl) dX10_expand_60) ?_
      replace h := zbE h
      obtain ⟨a11, e12, h⟩ := h
      subst e12
      replace h := zbE h
      obtain ⟨r13, e14, h⟩ := h
      refine j_getR fgX10_130 (fun _ _ _ => rfl) dX10_expand_63 e14 ?_
      refine j_iload_n (j := 2) dX10_expand_66 rfl rfl ?_
      refine j_bipush (v := 20) dX10_expand_67 (by decide) ?_
      refine j_isub dX10_expand_69 ?_
      replace h := zbE h
      obtain ⟨a15, e16, h⟩ := h
      subst e16
      replace h := zbE h
      obtain ⟨v17, e18, h⟩ := h
      refine j_iald (Or.inl rfl) e18 dX10_expand_70 ?_
      refine j_iload_n (j := 3) dX10_expand_71 rfl rfl ?_
      refine j_ishr dX10_expand_72 ?_
      refine j_iconst (v := 1) dX10_expand_73 (by decide) ?_
      refine j_iand dX10_expand_74 ?_
      refine j_if_ne (tgt := 82) dX10_expand_75 (by decide) (fun c19 => ?_) (fun c19 => ?_)
      · rw [if_pos c19] at h
        refine j_iconst (v := 1) dX10_expand_78 (by decide) ?_
        refine j_goto (tgt := 83) dX10_expand_79 (by decide) ?_
        exact J.sub (zall [1, 2] rfl) (wfX10_expand_83 hd t x1 1 G10 h hk)
      · rw [if_neg c19] at h
        exact J.sub (zall [1, 2] rfl) (wfX10_expand_82 hd t x1  G10 h hk)
  · rw [if_neg c1] at h
    refine j_aload_n (j := 1) dX10_expand_43 rfl rfl ?_
    refine j_iload (j := 0) dX10_expand_44 rfl ?_
    replace h := zkE h
    obtain ⟨e20, h⟩ := h
    replace h := zb2E h
    obtain ⟨v22, G23, e21, h⟩ := h
    refine j_cont (zrV (As := [vI s0]) msX10_127 (yX10_apply_ok e21) (Nat.le_trans (Nat.le_of_ble_eq_true rfl) hd) (zk_9 _ e20) rfl rfl (Nat.le_of_ble_eq_true rfl) dX10_expand_46) ?_
    replace h := zcondE h
    obtain ⟨e24, h⟩ := h
    obtain rfl := Option.some.inj h
    exact j_zret hk.1 hk.2 rfl (zbb_n e24) dX10_expand_49
def fX10_expand_0 (t : Nat) (x1 : Int32) (x2 : Int32) (x3 : Int32)  (G : GS) : Option ((Int32) × GS) :=
  (zgI G 9 t 0).bind fun v1 => if v1 = 1 then ((zgR G 9 t 7).bind fun r4 => r4.bind fun a6 => zk [1] G a6 <| zb2 (fX1_sets_0 a6 G) fun r10 G11 => r10.bind fun a12 => zk [5] G11 a12 <| zb2 (fX5_predicted_0 a12 x1 x2 G11) fun v16 G17 => fX10_expand_36 t x1 x2 v16 G17) else ((zgR G 9 t 7).bind fun r18 => r18.bind fun a20 => zk [1] G a20 <| zb2 (fX1_pairs_0 a20 G) fun r24 G25 => r24.bind fun a26 => zk [7] G25 a26 <| (fX7_predicted_0 a26 x1 x2 x3 G25).bind fun v30 => fX10_expand_36 t x1 x2 v30 G25)
theorem wfX10_expand_0 {F : zF} (hd : 52 ≤ F.2.2.2) (t : Nat) (x1 : Int32) (x2 : Int32) (x3 : Int32)  (G : GS) {a : (Int32) × GS} (h : fX10_expand_0 t x1 x2 x3  G = some a) (hk : zKI F a) : J mX10_expand F G 0 [(0, vR (some t)), (1, vI x1), (2, vI x2), (3, vI x3)] [] := by
  unfold fX10_expand_0 at h
  refine j_aload_n (j := 0) dX10_expand_0 rfl rfl ?_
  replace h := zbE h
  obtain ⟨v1, e2, h⟩ := h
  refine j_getI fgX10_39 (fun _ _ _ => rfl) dX10_expand_1 e2 ?_
  refine j_iconst (v := 1) dX10_expand_4 (by decide) ?_
  refine j_icmp_ne (tgt := 23) dX10_expand_5 (by decide) (fun c3 => ?_) (fun c3 => ?_)
  · rw [if_pos c3] at h
    refine j_aload_n (j := 0) dX10_expand_8 rfl rfl ?_
    replace h := zbE h
    obtain ⟨r4, e5, h⟩ := h
    refine j_getR fgX10_3 (fun _ _ _ => rfl) dX10_expand_9 e5 ?_
    replace h := zbE h
    obtain ⟨a6, e7, h⟩ := h
    subst e7
    replace h := zkE h
    obtain ⟨e8, h⟩ := h
    replace h := zb2E h
    obtain ⟨r10, G11, e9, h⟩ := h
    refine j_cont (zrVN (As := []) msX10_108 ⟨q412, qs0⟩ (yX1_sets_ok e9) (Nat.le_trans (Nat.le_of_ble_eq_true rfl) hd) (zk_1 _ e8) rfl rfl (Nat.le_of_ble_eq_true rfl) dX10_expand_12) ?_
    refine j_iload_n (j := 1) dX10_expand_15 rfl rfl ?_
    refine j_iload_n (j := 2) dX10_expand_16 rfl rfl ?_
    replace h := zbE h
    obtain ⟨a12, e13, h⟩ := h
    subst e13
    replace h := zkE h
    obtain ⟨e14, h⟩ := h
    replace h := zb2E h
    obtain ⟨v16, G17, e15, h⟩ := h
    refine j_cont (zrV (As := [vI x1, vI x2]) msX10_112 (yX5_predicted_ok e15) (Nat.le_trans (Nat.le_of_ble_eq_true rfl) hd) (zk_5 _ e14) rfl rfl (Nat.le_of_ble_eq_true rfl) dX10_expand_17) ?_
    refine j_goto (tgt := 36) dX10_expand_20 (by decide) ?_
    exact J.sub (zall [0, 1, 2] rfl) (wfX10_expand_36 hd t x1 x2 v16 G17 h hk)
  · rw [if_neg c3] at h
    refine j_aload_n (j := 0) dX10_expand_23 rfl rfl ?_
    replace h := zbE h
    obtain ⟨r18, e19, h⟩ := h
    refine j_getR fgX10_3 (fun _ _ _ => rfl) dX10_expand_24 e19 ?_
    replace h := zbE h
    obtain ⟨a20, e21, h⟩ := h
    subst e21
    replace h := zkE h
    obtain ⟨e22, h⟩ := h
    replace h := zb2E h
    obtain ⟨r24, G25, e23, h⟩ := h
    refine j_cont (zrVN (As := []) msX10_118 ⟨q1320, qs20⟩ (yX1_pairs_ok e23) (Nat.le_trans (Nat.le_of_ble_eq_true rfl) hd) (zk_1 _ e22) rfl rfl (Nat.le_of_ble_eq_true rfl) dX10_expand_27) ?_
    refine j_iload_n (j := 1) dX10_expand_30 rfl rfl ?_
    refine j_iload_n (j := 2) dX10_expand_31 rfl rfl ?_
    refine j_iload_n (j := 3) dX10_expand_32 rfl rfl ?_
    replace h := zbE h
    obtain ⟨a26, e27, h⟩ := h
    subst e27
    replace h := zkE h
    obtain ⟨e28, h⟩ := h
    replace h := zbE h
    obtain ⟨v30, e29, h⟩ := h
    refine j_cont (zrV (As := [vI x1, vI x2, vI x3]) msX10_122 (yX7_predicted_ok e29) (Nat.le_trans (Nat.le_of_ble_eq_true rfl) hd) (zk_7 _ e28) rfl rfl (Nat.le_of_ble_eq_true rfl) dX10_expand_33) ?_
    exact J.sub (zall [0, 1, 2] rfl) (wfX10_expand_36 hd t x1 x2 v30 G25 h hk)
theorem yX10_expand_ok {t : Nat} {x1 : Int32} {x2 : Int32} {x3 : Int32} {G : GS} {r : Int32} {G1 : GS} (h : fX10_expand_0 t x1 x2 x3 G = some (r, G1)) : zRuns yX10_expand (ws_ yX10_expand cX10_expand 7 (some Jvm.ClassFile.FieldType.boolean)) [vR (some t), vI x1, vI x2, vI x3] (.inl (some (vI r)), G, G1, 52) :=
  zentry (M := mX10_expand) (plainFor_of_name (by decide +kernel)) ⟨rfl, rfl, rfl, rfl⟩ (Nat.le_of_ble_eq_true rfl) (wfX10_expand_0 (Nat.le_refl _) t x1 x2 x3 G h ⟨rfl, rfl⟩)
theorem msX10_96 : zSV RX10 96 RX10 yX10_expand cX10_expand 7 (some Jvm.ClassFile.FieldType.boolean) 3 := ⟨lw_V q2539 q2541 qs55 q171 q2542, (by decide +kernel), (by decide)⟩
abbrev mX10_step : zM := (cX10_step, RX10, 5, (some Jvm.ClassFile.FieldType.boolean), "step", [], "(II)Z")
def fX10_step_0 (t : Nat) (x1 : Int32) (x2 : Int32)  (G : GS) : Option ((Int32) × GS) :=
  (zgR G 9 t 1).bind fun r1 => r1.bind fun a3 => zk [14] G a3 <| (fJ20_isEmpty_0 a3 G).bind fun v7 => if v7 = 0 then ((zgR G 9 t 1).bind fun r9 => r9.bind fun a11 => zk [14] G a11 <| (fJ20_peek_0 a11 G).bind fun r15 => zkq [21, 61] G r15 (r15.bind fun a17 => zk [21, 61] G a17 <| (fJ26_intValue_0 a17 G).bind fun v21 => (fX1_isNonterminal_0 v21 G).bind fun v23 => if v23 = 0 then ((zgR G 9 t 1).bind fun r25 => r25.bind fun a27 => zk [14] G a27 <| zb2 (fJ20_pop_0 a27 G) fun r31 G32 => zkq [21, 61] G32 r31 (r31.bind fun a34 => zk [21, 61] G32 a34 <| (fJ26_intValue_0 a34 G32).bind fun v38 => if v38 = x1 then (zcond (zbb 0) (some (0, G32))) else (zk [9] G32 t <| (fX10_fault_0 t v38 0 G32).bind fun G43 => zcond (zbb 1) (some (1, G43))))) else (zk [9] G t <| zb2 (fX10_expand_0 t v21 x1 x2 G) fun v48 G49 => zcond (zbb v48) (some (v48, G49))))) else (if x1 = 12 then ((zpI G 9 t 5 2).bind fun G53 => zcond (zbb 0) (some (0, G53))) else (zk [9] G t <| (fX10_fault_0 t (-1) 1 G).bind fun G58 => zcond (zbb 0) (some (0, G58))))
theorem wfX10_step_0 {F : zF} (hd : 53 ≤ F.2.2.2) (t : Nat) (x1 : Int32) (x2 : Int32)  (G : GS) {a : (Int32) × GS} (h : fX10_step_0 t x1 x2  G = some a) (hk : zKI F a) : J mX10_step F G 0 [(0, vR (some t)), (1, vI x1), (2, vI x2)] [] := by
  unfold fX10_step_0 at h
  refine j_aload_n (j := 0) dX10_step_0 rfl rfl ?_
  replace h := zbE h
  obtain ⟨r1, e2, h⟩ := h
  refine j_getR fgX10_18 (fun _ _ _ => rfl) dX10_step_1 e2 ?_
  replace h := zbE h
  obtain ⟨a3, e4, h⟩ := h
  subst e4
  replace h := zkE h
  obtain ⟨e5, h⟩ := h
  replace h := zbE h
  obtain ⟨v7, e6, h⟩ := h
  refine j_cont (zrV (As := []) msX10_80 (yJ20_isEmpty_ok e6) (Nat.le_trans (Nat.le_of_ble_eq_true rfl) hd) (zk_14 _ e5) rfl rfl (Nat.le_of_ble_eq_true rfl) dX10_step_4) ?_
  refine j_if_eq (tgt := 32) dX10_step_7 (by decide) (fun c8 => ?_) (fun c8 => ?_)
  · rw [if_pos c8] at h
    refine j_aload_n (j := 0) dX10_step_32 rfl rfl ?_
    replace h := zbE h
    obtain ⟨r9, e10, h⟩ := h
    refine j_getR fgX10_18 (fun _ _ _ => rfl) dX10_step_33 e10 ?_
    replace h := zbE h
    obtain ⟨a11, e12, h⟩ := h
    subst e12
    replace h := zkE h
    obtain ⟨e13, h⟩ := h
    replace h := zbE h
    obtain ⟨r15, e14, h⟩ := h
    refine j_cont (zrV (As := []) msX10_88 (yJ20_peek_ok e14) (Nat.le_trans (Nat.le_of_ble_eq_true rfl) hd) (zk_14 _ e13) rfl rfl (Nat.le_of_ble_eq_true rfl) dX10_step_36) ?_
    replace h := zkqE h
    obtain ⟨e16, h⟩ := h
    refine j_castq (fun k => j_castN dX10_step_39 k) (fun b q51 k => j_castS (zk_21_61 _ (e16 b q51)) ⟨20, _, rfl, rfl⟩ q1487 dX10_step_39 k) ?_
    replace h := zbE h
    obtain ⟨a17, e18, h⟩ := h
    subst e18
    replace h := zkE h
    obtain ⟨e19, h⟩ := h
    replace h := zbE h
    obtain ⟨v21, e20, h⟩ := h
    refine j_cont (zrV (As := []) msX10_69 (yJ26_intValue_ok e20) (Nat.le_trans (Nat.le_of_ble_eq_true rfl) hd) (zk_21_61 _ e19) rfl rfl (Nat.le_of_ble_eq_true rfl) dX10_step_42) ?_
    refine j_istore_n (lv' := [(3, vI v21), (0, vR (some t)), (1, vI x1), (2, vI x2)]) dX10_step_45 rfl (Nat.le_of_ble_eq_true rfl) rfl ?_
    refine j_iload_n (j := 0) dX10_step_46 rfl rfl ?_
    replace h := zbE h
    obtain ⟨v23, e22, h⟩ := h
    refine j_cont (zrSN (As := [vI v21]) msX10_92 q401 (yX1_isNonterminal_ok e22) (Nat.le_trans (Nat.le_of_ble_eq_true rfl) hd) rfl rfl (Nat.le_of_ble_eq_true rfl) dX10_step_47) ?_
    refine j_if_eq (tgt := 61) dX10_step_50 (by decide) (fun c24 => ?_) (fun c24 => ?_)
    · rw [if_pos c24] at h
      refine j_aload_n (j := 1) dX10_step_61 rfl rfl ?_
      replace h := zbE h
      obtain ⟨r25, e26, h⟩ := h
      refine j_getR fgX10_18 (fun _ _ _ => rfl) dX10_step_62 e26 ?_
      replace h := zbE h
      obtain ⟨a27, e28, h⟩ := h
      subst e28
      replace h := zkE h
      obtain ⟨e29, h⟩ := h
      replace h := zb2E h
      obtain ⟨r31, G32, e30, h⟩ := h
      refine j_cont (zrV (As := []) msX10_100 (yJ20_pop_ok e30) (Nat.le_trans (Nat.le_of_ble_eq_true rfl) hd) (zk_14 _ e29) rfl rfl (Nat.le_of_ble_eq_true rfl) dX10_step_65) ?_
      replace h := zkqE h
      obtain ⟨e33, h⟩ := h
      refine j_castq (fun k => j_castN dX10_step_68 k) (fun b q45 k => j_castS (zk_21_61 _ (e33 b q45)) ⟨20, _, rfl, rfl⟩ q1487 dX10_step_68 k) ?_
      replace h := zbE h
      obtain ⟨a34, e35, h⟩ := h
      subst e35
      replace h := zkE h
      obtain ⟨e36, h⟩ := h
      replace h := zbE h
      obtain ⟨v38, e37, h⟩ := h
      refine j_cont (zrV (As := []) msX10_69 (yJ26_intValue_ok e37) (Nat.le_trans (Nat.le_of_ble_eq_true rfl) hd) (zk_21_61 _ e36) rfl rfl (Nat.le_of_ble_eq_true rfl) dX10_step_71) ?_
      refine j_istore (lv' := [(4, vI v38), (3, vI v21), (0, vR (some t)), (1, vI x1), (2, vI x2)]) dX10_step_74 (Nat.le_of_ble_eq_true rfl) rfl ?_
      refine j_iload (j := 0) dX10_step_76 rfl ?_
      refine j_iload_n (j := 3) dX10_step_78 rfl rfl ?_
      refine j_icmp_ne (tgt := 84) dX10_step_79 (by decide) (fun c39 => ?_) (fun c39 => ?_)
      · rw [if_pos c39] at h
        refine j_iconst (v := 0) dX10_step_82 (by decide) ?_
        replace h := zcondE h
        obtain ⟨e40, h⟩ := h
        obtain rfl := Option.some.inj h
        exact j_zret hk.1 hk.2 rfl (zbb_n e40) dX10_step_83
      · rw [if_neg c39] at h
        refine j_aload_n (j := 2) dX10_step_84 rfl rfl ?_
        refine j_iload (j := 0) dX10_step_85 rfl ?_
        refine j_iconst (v := 0) dX10_step_87 (by decide) ?_
        replace h := zkE h
        obtain ⟨e41, h⟩ := h
        replace h := zbE h
        obtain ⟨G43, e42, h⟩ := h
        refine j_cont (zrV (As := [vI v38, vI 0]) msX10_84 (yX10_fault_ok e42) (Nat.le_trans (Nat.le_of_ble_eq_true rfl) hd) (zk_9 _ e41) rfl rfl (Nat.le_of_ble_eq_true rfl) dX10_step_88) ?_
        refine j_iconst (v := 1) dX10_step_91 (by decide) ?_
        replace h := zcondE h
        obtain ⟨e44, h⟩ := h
        obtain rfl := Option.some.inj h
        exact j_zret hk.1 hk.2 rfl (zbb_n e44) dX10_step_92
    · rw [if_neg c24] at h
      refine j_aload_n (j := 1) dX10_step_53 rfl rfl ?_
      refine j_iload_n (j := 0) dX10_step_54 rfl rfl ?_
      refine j_iload_n (j := 2) dX10_step_55 rfl rfl ?_
      refine j_iload_n (j := 3) dX10_step_56 rfl rfl ?_
      replace h := zkE h
      obtain ⟨e46, h⟩ := h
      replace h := zb2E h
      obtain ⟨v48, G49, e47, h⟩ := h
      refine j_cont (zrV (As := [vI v21, vI x1, vI x2]) msX10_96 (yX10_expand_ok e47) (Nat.le_trans (Nat.le_of_ble_eq_true rfl) hd) (zk_9 _ e46) rfl rfl (Nat.le_of_ble_eq_true rfl) dX10_step_57) ?_
      replace h := zcondE h
      obtain ⟨e50, h⟩ := h
      obtain rfl := Option.some.inj h
      exact j_zret hk.1 hk.2 rfl (zbb_n e50) dX10_step_60
  · rw [if_neg c8] at h
    refine j_iload_n (j := 1) dX10_step_10 rfl rfl ?_
    refine j_bipush (v := 12) dX10_step_11 (by decide) ?_
    refine j_icmp_ne (tgt := 24) dX10_step_13 (by decide) (fun c52 => ?_) (fun c52 => ?_)
    · rw [if_pos c52] at h
      refine j_aload_n (j := 0) dX10_step_16 rfl rfl ?_
      refine j_iconst (v := 2) dX10_step_17 (by decide) ?_
      replace h := zbE h
      obtain ⟨G53, e54, h⟩ := h
      refine j_putI fpX10_35_X10 (Or.inl rfl) rfl dX10_step_18 e54 ?_
      refine j_goto (tgt := 30) dX10_step_21 (by decide) ?_
      refine j_iconst (v := 0) dX10_step_30 (by decide) ?_
      replace h := zcondE h
      obtain ⟨e55, h⟩ := h
      obtain rfl := Option.some.inj h
      exact j_zret hk.1 hk.2 rfl (zbb_n e55) dX10_step_31
    · rw [if_neg c52] at h
      refine j_aload_n (j := 0) dX10_step_24 rfl rfl ?_
      refine j_iconst (v := (-1)) dX10_step_25 (by decide) ?_
      refine j_iconst (v := 1) dX10_step_26 (by decide) ?_
      replace h := zkE h
      obtain ⟨e56, h⟩ := h
      replace h := zbE h
      obtain ⟨G58, e57, h⟩ := h
      refine j_cont (zrV (As := [vI (-1), vI 1]) msX10_84 (yX10_fault_ok e57) (Nat.le_trans (Nat.le_of_ble_eq_true rfl) hd) (zk_9 _ e56) rfl rfl (Nat.le_of_ble_eq_true rfl) dX10_step_27) ?_
      refine j_iconst (v := 0) dX10_step_30 (by decide) ?_
      replace h := zcondE h
      obtain ⟨e59, h⟩ := h
      obtain rfl := Option.some.inj h
      exact j_zret hk.1 hk.2 rfl (zbb_n e59) dX10_step_31
theorem yX10_step_ok {t : Nat} {x1 : Int32} {x2 : Int32} {G : GS} {r : Int32} {G1 : GS} (h : fX10_step_0 t x1 x2 G = some (r, G1)) : zRuns yX10_step (ws_ yX10_step cX10_step 5 (some Jvm.ClassFile.FieldType.boolean)) [vR (some t), vI x1, vI x2] (.inl (some (vI r)), G, G1, 53) :=
  zentry (M := mX10_step) (plainFor_of_name (by decide +kernel)) ⟨rfl, rfl, rfl, rfl⟩ (Nat.le_of_ble_eq_true rfl) (wfX10_step_0 (Nat.le_refl _) t x1 x2 G h ⟨rfl, rfl⟩)
theorem msX10_76 : zSV RX10 76 RX10 yX10_step cX10_step 5 (some Jvm.ClassFile.FieldType.boolean) 2 := ⟨lw_V q2512 q2514 qs53 q171 q2515, (by decide +kernel), (by decide)⟩
abbrev mX10_workOff : zM := (cX10_workOff, RX10, 4, none, "workOff", [], "(II)V")
def fbX10_workOff_2 (t : Nat) (x1 : Int32) (x2 : Int32) (x3 : Int32)  (G : GS) : Option ((Int32 × GS) ⊕ (GS)) :=
  if x3 = 0 then (zo (some G)) else (zk [9] G t <| zb2 (fX10_step_0 t x1 x2 G) fun v4 G5 => some (.inl (v4, G5)))
def flX10_workOff_2 (t : Nat) (x1 : Int32) (x2 : Int32) (x3 : Int32) (G : GS) : Option (GS) := zloop (fun s : Int32 × GS => fbX10_workOff_2 t x1 x2 s.1 s.2) (x3, G)
theorem wfbX10_workOff_2 {F : zF} (hd : 54 ≤ F.2.2.2) (t : Nat) (x1 : Int32) (x2 : Int32) (x3 : Int32) (G : GS) {a : (Int32 × GS) ⊕ (GS)} (h : fbX10_workOff_2 t x1 x2 x3 G = some a) (hk : (zcase (fun s : Int32 × GS => J mX10_workOff F s.2 2 [(0, vR (some t)), (1, vI x1), (2, vI x2), (3, vI s.1)] []) (zKV F)) a) : J mX10_workOff F G 2 [(0, vR (some t)), (1, vI x1), (2, vI x2), (3, vI x3)] [] := by
  unfold fbX10_workOff_2 at h
  refine j_iload_n (j := 3) dX10_workOff_2 rfl rfl ?_
  refine j_if_eq (tgt := 16) dX10_workOff_3 (by decide) (fun c1 => ?_) (fun c1 => ?_)
  · rw [if_pos c1] at h
    replace h := zoE h
    obtain ⟨a, h, rfl⟩ := h
    replace hk := hk
    obtain rfl := Option.some.inj h
    exact j_vret hk.1 hk.2 rfl dX10_workOff_16
  · rw [if_neg c1] at h
    refine j_aload_n (j := 0) dX10_workOff_6 rfl rfl ?_
    refine j_iload_n (j := 1) dX10_workOff_7 rfl rfl ?_
    refine j_iload_n (j := 2) dX10_workOff_8 rfl rfl ?_
    replace h := zkE h
    obtain ⟨e2, h⟩ := h
    replace h := zb2E h
    obtain ⟨v4, G5, e3, h⟩ := h
    refine j_cont (zrV (As := [vI x1, vI x2]) msX10_76 (yX10_step_ok e3) (Nat.le_trans (Nat.le_of_ble_eq_true rfl) hd) (zk_9 _ e2) rfl rfl (Nat.le_of_ble_eq_true rfl) dX10_workOff_9) ?_
    refine j_istore_n (lv' := [(3, vI v4), (0, vR (some t)), (1, vI x1), (2, vI x2)]) dX10_workOff_12 rfl (Nat.le_of_ble_eq_true rfl) rfl ?_
    refine j_goto (tgt := 2) dX10_workOff_13 (by decide) ?_
    obtain rfl := Option.some.inj h
    exact J.sub (zall [1, 2, 3, 0] rfl) hk
theorem wflX10_workOff_2 {F : zF} (hd : 54 ≤ F.2.2.2) (t : Nat) (x1 : Int32) (x2 : Int32) (x3 : Int32) (G : GS) {a : GS} (h : flX10_workOff_2 t x1 x2 x3 G = some a) (hk : zKV F a) : J mX10_workOff F G 2 [(0, vR (some t)), (1, vI x1), (2, vI x2), (3, vI x3)] [] := by
  unfold flX10_workOff_2 at h
  exact zloop_walk (P := (fun s : Int32 × GS => J mX10_workOff F s.2 2 [(0, vR (some t)), (1, vI x1), (2, vI x2), (3, vI s.1)] [])) (fun s b e hk => wfbX10_workOff_2 hd t x1 x2 s.1 s.2 e hk) (x3, G) _ h hk
def fX10_workOff_0 (t : Nat) (x1 : Int32) (x2 : Int32)  (G : GS) : Option (GS) :=
  flX10_workOff_2 t x1 x2 1 G
theorem wfX10_workOff_0 {F : zF} (hd : 54 ≤ F.2.2.2) (t : Nat) (x1 : Int32) (x2 : Int32)  (G : GS) {a : GS} (h : fX10_workOff_0 t x1 x2  G = some a) (hk : zKV F a) : J mX10_workOff F G 0 [(0, vR (some t)), (1, vI x1), (2, vI x2)] [] := by
  unfold fX10_workOff_0 at h
  refine j_iconst (v := 1) dX10_workOff_0 (by decide) ?_
  refine j_istore_n (lv' := [(3, vI 1), (0, vR (some t)), (1, vI x1), (2, vI x2)]) dX10_workOff_1 rfl (Nat.le_of_ble_eq_true rfl) rfl ?_
  exact J.sub (zall [1, 2, 3, 0] rfl) (wflX10_workOff_2 hd t x1 x2 1  G h hk)
theorem yX10_workOff_ok {t : Nat} {x1 : Int32} {x2 : Int32} {G : GS} {G1 : GS} (h : fX10_workOff_0 t x1 x2 G = some G1) : zRuns yX10_workOff (ws_ yX10_workOff cX10_workOff 4 none) [vR (some t), vI x1, vI x2] (.inl none, G, G1, 54) :=
  zentry (M := mX10_workOff) (plainFor_of_name (by decide +kernel)) ⟨rfl, rfl, rfl, rfl⟩ (Nat.le_of_ble_eq_true rfl) (wfX10_workOff_0 (Nat.le_refl _) t x1 x2 G h ⟨rfl, rfl⟩)
theorem fgX10_25 : zFG RX10 25 8 2 (.object "java/util/List") := ⟨(RX10, TX10, 8, tyX10), rfl, by decide, in_X10, rfl, "SelahGenerator$Parse", Or.inl rfl, Or.inl q2468⟩
theorem fgX10_35 : zFG RX10 35 8 5 (.int) := ⟨(RX10, TX10, 8, tyX10), rfl, by decide, in_X10, rfl, "SelahGenerator$Parse", Or.inl rfl, Or.inl q2474⟩
theorem fpX10_62_X10 : zFP RX10 62 8 6 (.int) false := ⟨(RX10, TX10, 8, tyX10), rfl, by decide, in_X10, tyX10_ok, nmX10, rfl, rfl, (by decide), "SelahGenerator$Parse", Or.inl rfl, q2476⟩
theorem msX10_72 : zSV RX10 72 RX10 yX10_workOff cX10_workOff 4 none 2 := ⟨lw_V q2508 q2510 qs52 q171 q2511, (by decide +kernel), (by decide)⟩
abbrev mX10_give : zM := (cX10_give, RX10, 4, (some Jvm.ClassFile.FieldType.int), "give", [], "(I)I")
def fX10_give_178 (t : Nat) (x2 : Int32)  (G : GS) : Option ((Int32) × GS) :=
  (zgR G 9 t 4).bind fun r1 => r1.bind fun a3 => zk [12] G a3 <| (fJ2_size_0 a3 G).bind fun v7 => some ((v7 - x2), G)
theorem wfX10_give_178 {F : zF} (hd : 55 ≤ F.2.2.2) (t : Nat) (x2 : Int32)  (G : GS) {a : (Int32) × GS} (h : fX10_give_178 t x2  G = some a) (hk : zKI F a) : J mX10_give F G 178 [(0, vR (some t)), (2, vI x2)] [] := by
  unfold fX10_give_178 at h
  refine j_aload_n (j := 0) dX10_give_178 rfl rfl ?_
  replace h := zbE h
  obtain ⟨r1, e2, h⟩ := h
  refine j_getR fgX10_32 (fun _ _ _ => rfl) dX10_give_179 e2 ?_
  replace h := zbE h
  obtain ⟨a3, e4, h⟩ := h
  subst e4
  replace h := zkE h
  obtain ⟨e5, h⟩ := h
  replace h := zbE h
  obtain ⟨v7, e6, h⟩ := h
  refine j_cont (zrF (As := []) msX10_52_J2 (yJ2_size_ok e6) (Nat.le_trans (Nat.le_of_ble_eq_true rfl) hd) (zk_12 _ e5) rfl rfl (Nat.le_of_ble_eq_true rfl) dX10_give_182) ?_
  refine j_iload_n (j := 1) dX10_give_187 rfl rfl ?_
  refine j_isub dX10_give_188 ?_
  obtain rfl := Option.some.inj h
  exact j_iret hk.1 hk.2 rfl dX10_give_189
def fX10_give_156 (t : Nat) (x1 : Int32) (x2 : Int32)  (G : GS) : Option ((Int32) × GS) :=
  if x1 = 12 then ((zgI G 9 t 5).bind fun v2 => if v2 = 1 then (zk [9] G t <| (fX10_workOff_0 t 12 12 G).bind fun G7 => fX10_give_178 t x2 G7) else (fX10_give_178 t x2 G)) else (fX10_give_178 t x2 G)
theorem wfX10_give_156 {F : zF} (hd : 55 ≤ F.2.2.2) (t : Nat) (x1 : Int32) (x2 : Int32)  (G : GS) {a : (Int32) × GS} (h : fX10_give_156 t x1 x2  G = some a) (hk : zKI F a) : J mX10_give F G 156 [(0, vR (some t)), (1, vI x1), (2, vI x2)] [] := by
  unfold fX10_give_156 at h
  refine j_iload_n (j := 1) dX10_give_156 rfl rfl ?_
  refine j_bipush (v := 12) dX10_give_157 (by decide) ?_
  refine j_icmp_ne (tgt := 178) dX10_give_159 (by decide) (fun c1 => ?_) (fun c1 => ?_)
  · rw [if_pos c1] at h
    refine j_aload_n (j := 0) dX10_give_162 rfl rfl ?_
    replace h := zbE h
    obtain ⟨v2, e3, h⟩ := h
    refine j_getI fgX10_35 (fun _ _ _ => rfl) dX10_give_163 e3 ?_
    refine j_iconst (v := 1) dX10_give_166 (by decide) ?_
    refine j_icmp_ne (tgt := 178) dX10_give_167 (by decide) (fun c4 => ?_) (fun c4 => ?_)
    · rw [if_pos c4] at h
      refine j_aload_n (j := 0) dX10_give_170 rfl rfl ?_
      refine j_bipush (v := 12) dX10_give_171 (by decide) ?_
      refine j_bipush (v := 12) dX10_give_173 (by decide) ?_
      replace h := zkE h
      obtain ⟨e5, h⟩ := h
      replace h := zbE h
      obtain ⟨G7, e6, h⟩ := h
      refine j_cont (zrV (As := [vI 12, vI 12]) msX10_72 (yX10_workOff_ok e6) (Nat.le_trans (Nat.le_of_ble_eq_true rfl) hd) (zk_9 _ e5) rfl rfl (Nat.le_of_ble_eq_true rfl) dX10_give_175) ?_
      exact J.sub (zall [0, 2] rfl) (wfX10_give_178 hd t x2  G7 h hk)
    · rw [if_neg c4] at h
      exact J.sub (zall [0, 2] rfl) (wfX10_give_178 hd t x2  G h hk)
  · rw [if_neg c1] at h
    exact J.sub (zall [0, 2] rfl) (wfX10_give_178 hd t x2  G h hk)
def fX10_give_140 (t : Nat) (x1 : Int32) (x2 : Int32) (x3 : Int32) (s0 : Option Nat) (s1 : Int32) (s2 : Int32) (G : GS) : Option ((GS) ⊕ ((Int32) × GS)) :=
  s0.bind fun a1 => zk [9] G a1 <| (fX10_workOff_0 a1 s1 s2 G).bind fun G5 => (zgI G5 9 t 6).bind fun v6 => (zpI G5 9 t 6 (v6 + 1)).bind fun G8 => some (.inl (G8))
theorem wfX10_give_140 {F : zF} (hd : 55 ≤ F.2.2.2) (t : Nat) (x1 : Int32) (x2 : Int32) (x3 : Int32) (s0 : Option Nat) (s1 : Int32) (s2 : Int32) (G : GS) {a : (GS) ⊕ ((Int32) × GS)} (h : fX10_give_140 t x1 x2 x3 s0 s1 s2 G = some a) (hk : (zcase (fun s : GS => J mX10_give F s 60 [(0, vR (some t)), (1, vI x1), (2, vI x2), (3, vI x3)] []) (zKI F)) a) : J mX10_give F G 140 [(0, vR (some t)), (1, vI x1), (2, vI x2), (3, vI x3)] [vI s2, vI s1, vR s0] := by
  unfold fX10_give_140 at h
  replace h := zbE h
  obtain ⟨a1, e2, h⟩ := h
  subst e2
  replace h := zkE h
  obtain ⟨e3, h⟩ := h
  replace h := zbE h
  obtain ⟨G5, e4, h⟩ := h
  refine j_cont (zrV (As := [vI s1, vI s2]) msX10_72 (yX10_workOff_ok e4) (Nat.le_trans (Nat.le_of_ble_eq_true rfl) hd) (zk_9 _ e3) rfl rfl (Nat.le_of_ble_eq_true rfl) dX10_give_140) ?_
  refine j_aload_n (j := 0) dX10_give_143 rfl rfl ?_
  refine j_dup dX10_give_144 rfl ?_
  replace h := zbE h
  obtain ⟨v6, e7, h⟩ := h
  refine j_getI fgX10_62 (fun _ _ _ => rfl) dX10_give_145 e7 ?_
  refine j_iconst (v := 1) dX10_give_148 (by decide) ?_
  refine j_iadd dX10_give_149 ?_
  replace h := zbE h
  obtain ⟨G8, e9, h⟩ := h
  refine j_putI fpX10_62_X10 (Or.inl rfl) rfl dX10_give_150 e9 ?_
  refine j_goto (tgt := 60) dX10_give_153 (by decide) ?_
  obtain rfl := Option.some.inj h
  exact J.sub (zall [0, 1, 2, 3] rfl) hk
def fbX10_give_60 (t : Nat) (x1 : Int32) (x2 : Int32) (x3 : Int32)  (G : GS) : Option ((GS) ⊕ ((Int32) × GS)) :=
  (zgI G 9 t 6).bind fun v1 => if x3 ≤ v1 then (zo (fX10_give_156 t x1 x2 G)) else ((zgI G 9 t 5).bind fun v4 => if v4 = 1 then ((zgR G 9 t 2).bind fun r7 => (zgI G 9 t 6).bind fun v9 => r7.bind fun a11 => zk [12] G a11 <| (fJ2_get_0 a11 v9 G).bind fun r15 => zkq [21, 61] G r15 (r15.bind fun a17 => zk [21, 61] G a17 <| (fJ26_intValue_0 a17 G).bind fun v21 => (zgI G 9 t 6).bind fun v22 => (zgR G 9 t 2).bind fun r24 => r24.bind fun a26 => zk [12] G a26 <| (fJ2_size_0 a26 G).bind fun v30 => if v30 ≤ (v22 + 1) then (fX10_give_140 t x1 x2 x3 (some t) v21 12 G) else ((zgR G 9 t 2).bind fun r32 => (zgI G 9 t 6).bind fun v34 => r32.bind fun a36 => zk [12] G a36 <| (fJ2_get_0 a36 (v34 + 1) G).bind fun r40 => zkq [21, 61] G r40 (r40.bind fun a42 => zk [21, 61] G a42 <| (fJ26_intValue_0 a42 G).bind fun v46 => fX10_give_140 t x1 x2 x3 (some t) v21 v46 G)))) else (zo (fX10_give_156 t x1 x2 G)))
def flX10_give_60 (t : Nat) (x1 : Int32) (x2 : Int32) (x3 : Int32) (G : GS) : Option ((Int32) × GS) := zloop (fun s : GS => fbX10_give_60 t x1 x2 x3 s) (G)
theorem wfbX10_give_60 {F : zF} (hd : 55 ≤ F.2.2.2) (t : Nat) (x1 : Int32) (x2 : Int32) (x3 : Int32) (G : GS) {a : (GS) ⊕ ((Int32) × GS)} (h : fbX10_give_60 t x1 x2 x3 G = some a) (hk : (zcase (fun s : GS => J mX10_give F s 60 [(0, vR (some t)), (1, vI x1), (2, vI x2), (3, vI x3)] []) (zKI F)) a) : J mX10_give F G 60 [(0, vR (some t)), (1, vI x1), (2, vI x2), (3, vI x3)] [] := by
  unfold fbX10_give_60 at h
  refine j_aload_n (j := 0) dX10_give_60 rfl rfl ?_
  replace h := zbE h
  obtain ⟨v1, e2, h⟩ := h
  refine j_getI fgX10_62 (fun _ _ _ => rfl) dX10_give_61 e2 ?_
  refine j_iload_n (j := 3) dX10_give_64 rfl rfl ?_
  refine j_icmp_ge (tgt := 156) dX10_give_65 (by decide) (fun c3 => ?_) (fun c3 => ?_)
  · rw [if_pos c3] at h
    replace h := zoE h
    obtain ⟨a, h, rfl⟩ := h
    replace hk := hk
    exact J.sub (zall [0, 1, 2] rfl) (wfX10_give_156 hd t x1 x2  G h hk)
  · rw [if_neg c3] at h
    refine j_aload_n (j := 0) dX10_give_68 rfl rfl ?_
    replace h := zbE h
    obtain ⟨v4, e5, h⟩ := h
    refine j_getI fgX10_35 (fun _ _ _ => rfl) dX10_give_69 e5 ?_
    refine j_iconst (v := 1) dX10_give_72 (by decide) ?_
    refine j_icmp_ne (tgt := 156) dX10_give_73 (by decide) (fun c6 => ?_) (fun c6 => ?_)
    · rw [if_pos c6] at h
      refine j_aload_n (j := 0) dX10_give_76 rfl rfl ?_
      refine j_aload_n (j := 0) dX10_give_77 rfl rfl ?_
      replace h := zbE h
      obtain ⟨r7, e8, h⟩ := h
      refine j_getR fgX10_25 (fun _ _ _ => rfl) dX10_give_78 e8 ?_
      refine j_aload_n (j := 0) dX10_give_81 rfl rfl ?_
      replace h := zbE h
      obtain ⟨v9, e10, h⟩ := h
      refine j_getI fgX10_62 (fun _ _ _ => rfl) dX10_give_82 e10 ?_
      replace h := zbE h
      obtain ⟨a11, e12, h⟩ := h
      subst e12
      replace h := zkE h
      obtain ⟨e13, h⟩ := h
      replace h := zbE h
      obtain ⟨r15, e14, h⟩ := h
      refine j_cont (zrF (As := [vI v9]) msX10_65_J2 (yJ2_get_ok e14) (Nat.le_trans (Nat.le_of_ble_eq_true rfl) hd) (zk_12 _ e13) rfl rfl (Nat.le_of_ble_eq_true rfl) dX10_give_85) ?_
      replace h := zkqE h
      obtain ⟨e16, h⟩ := h
      refine j_castq (fun k => j_castN dX10_give_90 k) (fun b q48 k => j_castS (zk_21_61 _ (e16 b q48)) ⟨20, _, rfl, rfl⟩ q1487 dX10_give_90 k) ?_
      replace h := zbE h
      obtain ⟨a17, e18, h⟩ := h
      subst e18
      replace h := zkE h
      obtain ⟨e19, h⟩ := h
      replace h := zbE h
      obtain ⟨v21, e20, h⟩ := h
      refine j_cont (zrV (As := []) msX10_69 (yJ26_intValue_ok e20) (Nat.le_trans (Nat.le_of_ble_eq_true rfl) hd) (zk_21_61 _ e19) rfl rfl (Nat.le_of_ble_eq_true rfl) dX10_give_93) ?_
      refine j_aload_n (j := 0) dX10_give_96 rfl rfl ?_
      replace h := zbE h
      obtain ⟨v22, e23, h⟩ := h
      refine j_getI fgX10_62 (fun _ _ _ => rfl) dX10_give_97 e23 ?_
      refine j_iconst (v := 1) dX10_give_100 (by decide) ?_
      refine j_iadd dX10_give_101 ?_
      refine j_aload_n (j := 0) dX10_give_102 rfl rfl ?_
      replace h := zbE h
      obtain ⟨r24, e25, h⟩ := h
      refine j_getR fgX10_25 (fun _ _ _ => rfl) dX10_give_103 e25 ?_
      replace h := zbE h
      obtain ⟨a26, e27, h⟩ := h
      subst e27
      replace h := zkE h
      obtain ⟨e28, h⟩ := h
      replace h := zbE h
      obtain ⟨v30, e29, h⟩ := h
      refine j_cont (zrF (As := []) msX10_52_J2 (yJ2_size_ok e29) (Nat.le_trans (Nat.le_of_ble_eq_true rfl) hd) (zk_12 _ e28) rfl rfl (Nat.le_of_ble_eq_true rfl) dX10_give_106) ?_
      refine j_icmp_ge (tgt := 138) dX10_give_111 (by decide) (fun c31 => ?_) (fun c31 => ?_)
      · rw [if_pos c31] at h
        refine j_bipush (v := 12) dX10_give_138 (by decide) ?_
        exact J.sub (zall [0, 1, 2, 3] rfl) (wfX10_give_140 hd t x1 x2 x3 (some t) v21 12 G h hk)
      · rw [if_neg c31] at h
        refine j_aload_n (j := 0) dX10_give_114 rfl rfl ?_
        replace h := zbE h
        obtain ⟨r32, e33, h⟩ := h
        refine j_getR fgX10_25 (fun _ _ _ => rfl) dX10_give_115 e33 ?_
        refine j_aload_n (j := 0) dX10_give_118 rfl rfl ?_
        replace h := zbE h
        obtain ⟨v34, e35, h⟩ := h
        refine j_getI fgX10_62 (fun _ _ _ => rfl) dX10_give_119 e35 ?_
        refine j_iconst (v := 1) dX10_give_122 (by decide) ?_
        refine j_iadd dX10_give_123 ?_
        replace h := zbE h
        obtain ⟨a36, e37, h⟩ := h
        subst e37
        replace h := zkE h
        obtain ⟨e38, h⟩ := h
        replace h := zbE h
        obtain ⟨r40, e39, h⟩ := h
        refine j_cont (zrF (As := [vI (v34 + 1)]) msX10_65_J2 (yJ2_get_ok e39) (Nat.le_trans (Nat.le_of_ble_eq_true rfl) hd) (zk_12 _ e38) rfl rfl (Nat.le_of_ble_eq_true rfl) dX10_give_124) ?_
        replace h := zkqE h
        obtain ⟨e41, h⟩ := h
        refine j_castq (fun k => j_castN dX10_give_129 k) (fun b q47 k => j_castS (zk_21_61 _ (e41 b q47)) ⟨20, _, rfl, rfl⟩ q1487 dX10_give_129 k) ?_
        replace h := zbE h
        obtain ⟨a42, e43, h⟩ := h
        subst e43
        replace h := zkE h
        obtain ⟨e44, h⟩ := h
        replace h := zbE h
        obtain ⟨v46, e45, h⟩ := h
        refine j_cont (zrV (As := []) msX10_69 (yJ26_intValue_ok e45) (Nat.le_trans (Nat.le_of_ble_eq_true rfl) hd) (zk_21_61 _ e44) rfl rfl (Nat.le_of_ble_eq_true rfl) dX10_give_132) ?_
        refine j_goto (tgt := 140) dX10_give_135 (by decide) ?_
        exact J.sub (zall [0, 1, 2, 3] rfl) (wfX10_give_140 hd t x1 x2 x3 (some t) v21 v46 G h hk)
    · rw [if_neg c6] at h
      replace h := zoE h
      obtain ⟨a, h, rfl⟩ := h
      replace hk := hk
      exact J.sub (zall [0, 1, 2] rfl) (wfX10_give_156 hd t x1 x2  G h hk)
theorem wflX10_give_60 {F : zF} (hd : 55 ≤ F.2.2.2) (t : Nat) (x1 : Int32) (x2 : Int32) (x3 : Int32) (G : GS) {a : (Int32) × GS} (h : flX10_give_60 t x1 x2 x3 G = some a) (hk : zKI F a) : J mX10_give F G 60 [(0, vR (some t)), (1, vI x1), (2, vI x2), (3, vI x3)] [] := by
  unfold flX10_give_60 at h
  exact zloop_walk (P := (fun s : GS => J mX10_give F s 60 [(0, vR (some t)), (1, vI x1), (2, vI x2), (3, vI x3)] [])) (fun s b e hk => wfbX10_give_60 hd t x1 x2 x3 s e hk) (G) _ h hk
def fX10_give_58 (t : Nat) (x1 : Int32) (x2 : Int32) (s0 : Int32) (s1 : Int32) (G : GS) : Option ((Int32) × GS) :=
  flX10_give_60 t x1 x2 (s0 - s1) G
theorem wfX10_give_58 {F : zF} (hd : 55 ≤ F.2.2.2) (t : Nat) (x1 : Int32) (x2 : Int32) (s0 : Int32) (s1 : Int32) (G : GS) {a : (Int32) × GS} (h : fX10_give_58 t x1 x2 s0 s1 G = some a) (hk : zKI F a) : J mX10_give F G 58 [(0, vR (some t)), (1, vI x1), (2, vI x2)] [vI s1, vI s0] := by
  unfold fX10_give_58 at h
  refine j_isub dX10_give_58 ?_
  refine j_istore_n (lv' := [(3, vI (s0 - s1)), (0, vR (some t)), (1, vI x1), (2, vI x2)]) dX10_give_59 rfl (Nat.le_of_ble_eq_true rfl) rfl ?_
  exact J.sub (zall [1, 2, 3, 0] rfl) (wflX10_give_60 hd t x1 x2 (s0 - s1)  G h hk)
def fX10_give_57 (t : Nat) (x1 : Int32) (x2 : Int32) (s0 : Int32) (G : GS) : Option ((Int32) × GS) :=
  fX10_give_58 t x1 x2 s0 0 G
theorem wfX10_give_57 {F : zF} (hd : 55 ≤ F.2.2.2) (t : Nat) (x1 : Int32) (x2 : Int32) (s0 : Int32) (G : GS) {a : (Int32) × GS} (h : fX10_give_57 t x1 x2 s0 G = some a) (hk : zKI F a) : J mX10_give F G 57 [(0, vR (some t)), (1, vI x1), (2, vI x2)] [vI s0] := by
  unfold fX10_give_57 at h
  refine j_iconst (v := 0) dX10_give_57 (by decide) ?_
  exact J.sub (zall [0, 1, 2] rfl) (wfX10_give_58 hd t x1 x2 s0 0 G h hk)
def fX10_give_30 (t : Nat) (x1 : Int32) (x2 : Int32)  (G : GS) : Option ((Int32) × GS) :=
  (zgR G 9 t 2).bind fun r1 => r1.bind fun a3 => zk [12] G a3 <| (fJ2_size_0 a3 G).bind fun v7 => (zgI G 9 t 0).bind fun v8 => if v8 = 2 then (if x1 = 12 then (fX10_give_57 t x1 x2 v7 G) else (fX10_give_58 t x1 x2 v7 1 G)) else (fX10_give_57 t x1 x2 v7 G)
theorem wfX10_give_30 {F : zF} (hd : 55 ≤ F.2.2.2) (t : Nat) (x1 : Int32) (x2 : Int32)  (G : GS) {a : (Int32) × GS} (h : fX10_give_30 t x1 x2  G = some a) (hk : zKI F a) : J mX10_give F G 30 [(0, vR (some t)), (1, vI x1), (2, vI x2)] [] := by
  unfold fX10_give_30 at h
  refine j_aload_n (j := 0) dX10_give_30 rfl rfl ?_
  replace h := zbE h
  obtain ⟨r1, e2, h⟩ := h
  refine j_getR fgX10_25 (fun _ _ _ => rfl) dX10_give_31 e2 ?_
  replace h := zbE h
  obtain ⟨a3, e4, h⟩ := h
  subst e4
  replace h := zkE h
  obtain ⟨e5, h⟩ := h
  replace h := zbE h
  obtain ⟨v7, e6, h⟩ := h
  refine j_cont (zrF (As := []) msX10_52_J2 (yJ2_size_ok e6) (Nat.le_trans (Nat.le_of_ble_eq_true rfl) hd) (zk_12 _ e5) rfl rfl (Nat.le_of_ble_eq_true rfl) dX10_give_34) ?_
  refine j_aload_n (j := 0) dX10_give_39 rfl rfl ?_
  replace h := zbE h
  obtain ⟨v8, e9, h⟩ := h
  refine j_getI fgX10_39 (fun _ _ _ => rfl) dX10_give_40 e9 ?_
  refine j_iconst (v := 2) dX10_give_43 (by decide) ?_
  refine j_icmp_ne (tgt := 57) dX10_give_44 (by decide) (fun c10 => ?_) (fun c10 => ?_)
  · rw [if_pos c10] at h
    refine j_iload_n (j := 1) dX10_give_47 rfl rfl ?_
    refine j_bipush (v := 12) dX10_give_48 (by decide) ?_
    refine j_icmp_eq (tgt := 57) dX10_give_50 (by decide) (fun c11 => ?_) (fun c11 => ?_)
    · rw [if_pos c11] at h
      exact J.sub (zall [0, 1, 2] rfl) (wfX10_give_57 hd t x1 x2 v7 G h hk)
    · rw [if_neg c11] at h
      refine j_iconst (v := 1) dX10_give_53 (by decide) ?_
      refine j_goto (tgt := 58) dX10_give_54 (by decide) ?_
      exact J.sub (zall [0, 1, 2] rfl) (wfX10_give_58 hd t x1 x2 v7 1 G h hk)
  · rw [if_neg c10] at h
    exact J.sub (zall [0, 1, 2] rfl) (wfX10_give_57 hd t x1 x2 v7 G h hk)
def fX10_give_0 (t : Nat) (x1 : Int32)  (G : GS) : Option ((Int32) × GS) :=
  (zgR G 9 t 4).bind fun r1 => r1.bind fun a3 => zk [12] G a3 <| (fJ2_size_0 a3 G).bind fun v7 => if x1 = 12 then (fX10_give_30 t x1 v7 G) else ((zgR G 9 t 2).bind fun r9 => zb2 (fJ26_valueOf_0 x1 G) fun r12 G13 => r9.bind fun a14 => zk [12] G13 a14 <| zb2 (fJ2_add_0 a14 r12 G13) fun v18 G19 => fX10_give_30 t x1 v7 G19)
theorem wfX10_give_0 {F : zF} (hd : 55 ≤ F.2.2.2) (t : Nat) (x1 : Int32)  (G : GS) {a : (Int32) × GS} (h : fX10_give_0 t x1  G = some a) (hk : zKI F a) : J mX10_give F G 0 [(0, vR (some t)), (1, vI x1)] [] := by
  unfold fX10_give_0 at h
  refine j_aload_n (j := 0) dX10_give_0 rfl rfl ?_
  replace h := zbE h
  obtain ⟨r1, e2, h⟩ := h
  refine j_getR fgX10_32 (fun _ _ _ => rfl) dX10_give_1 e2 ?_
  replace h := zbE h
  obtain ⟨a3, e4, h⟩ := h
  subst e4
  replace h := zkE h
  obtain ⟨e5, h⟩ := h
  replace h := zbE h
  obtain ⟨v7, e6, h⟩ := h
  refine j_cont (zrF (As := []) msX10_52_J2 (yJ2_size_ok e6) (Nat.le_trans (Nat.le_of_ble_eq_true rfl) hd) (zk_12 _ e5) rfl rfl (Nat.le_of_ble_eq_true rfl) dX10_give_4) ?_
  refine j_istore_n (lv' := [(2, vI v7), (0, vR (some t)), (1, vI x1)]) dX10_give_9 rfl (Nat.le_of_ble_eq_true rfl) rfl ?_
  refine j_iload_n (j := 2) dX10_give_10 rfl rfl ?_
  refine j_bipush (v := 12) dX10_give_11 (by decide) ?_
  refine j_icmp_eq (tgt := 30) dX10_give_13 (by decide) (fun c8 => ?_) (fun c8 => ?_)
  · rw [if_pos c8] at h
    exact J.sub (zall [1, 2, 0] rfl) (wfX10_give_30 hd t x1 v7  G h hk)
  · rw [if_neg c8] at h
    refine j_aload_n (j := 1) dX10_give_16 rfl rfl ?_
    replace h := zbE h
    obtain ⟨r9, e10, h⟩ := h
    refine j_getR fgX10_25 (fun _ _ _ => rfl) dX10_give_17 e10 ?_
    refine j_iload_n (j := 2) dX10_give_20 rfl rfl ?_
    replace h := zb2E h
    obtain ⟨r12, G13, e11, h⟩ := h
    refine j_cont (zrS (As := [vI x1]) msX10_42 (yJ26_valueOf_ok e11) (Nat.le_trans (Nat.le_of_ble_eq_true rfl) hd) rfl rfl (Nat.le_of_ble_eq_true rfl) dX10_give_21) ?_
    replace h := zbE h
    obtain ⟨a14, e15, h⟩ := h
    subst e15
    replace h := zkE h
    obtain ⟨e16, h⟩ := h
    replace h := zb2E h
    obtain ⟨v18, G19, e17, h⟩ := h
    refine j_cont (zrF (As := [vR r12]) msX10_58_J2 (yJ2_add_ok e17) (Nat.le_trans (Nat.le_of_ble_eq_true rfl) hd) (zk_12 _ e16) rfl rfl (Nat.le_of_ble_eq_true rfl) dX10_give_24) ?_
    refine j_pop dX10_give_29 rfl ?_
    exact J.sub (zall [1, 2, 0] rfl) (wfX10_give_30 hd t x1 v7  G19 h hk)
theorem yX10_give_ok {t : Nat} {x1 : Int32} {G : GS} {r : Int32} {G1 : GS} (h : fX10_give_0 t x1 G = some (r, G1)) : zRuns yX10_give (ws_ yX10_give cX10_give 4 (some Jvm.ClassFile.FieldType.int)) [vR (some t), vI x1] (.inl (some (vI r)), G, G1, 55) :=
  zentry (M := mX10_give) (plainFor_of_name (by decide +kernel)) ⟨rfl, rfl, rfl, rfl⟩ (Nat.le_of_ble_eq_true rfl) (wfX10_give_0 (Nat.le_refl _) t x1 G h ⟨rfl, rfl⟩)
theorem msX1_149 : zSS RX1 149 yX1_token cX1_token 1 (some Jvm.ClassFile.FieldType.int) 1 := ⟨lw_S q1907 q1908 q123 q1909, (by decide +kernel), (by decide)⟩
theorem msX1_213 : zSV RX1 213 RX10 yX10_give cX10_give 4 (some Jvm.ClassFile.FieldType.int) 1 := ⟨lw_V q2502 q2503 q2504 q171 q2505, (by decide +kernel), (by decide)⟩
abbrev mX1_give : zM := (cX1_give, RX1, 3, (some Jvm.ClassFile.FieldType.int), "give", [], "(I)I")
def fX1_give_51 (t : Nat) (x2 : Int32) (s0 : Int32) (G : GS) : Option (((Int32) ⊕ String) × GS) :=
  zb3 (fX1_may_0 s0 G) (fun u5 G2 => (zgR G2 1 t 3).bind fun r6 => r6.bind fun a8 => zk [9] G2 a8 <| zb2 (fX10_give_0 a8 x2 G2) fun v12 G13 => some (.inl v12, G13)) (fun X3 G4 => some (.inr X3, G4))
theorem wfX1_give_51 {F : zF} (hd : 56 ≤ F.2.2.2) (t : Nat) (x2 : Int32) (s0 : Int32) (G : GS) {a : ((Int32) ⊕ String) × GS} (h : fX1_give_51 t x2 s0 G = some a) (hk : zKXI F a) : J mX1_give F G 51 [(0, vR (some t)), (2, vI x2)] [vI s0] := by
  unfold fX1_give_51 at h
  replace h := zb3E h
  rcases h with ⟨u5, G2, e1, h⟩ | ⟨X3, G4, e1, h⟩
  · refine j_cont (zrS (As := [vI s0]) msX1_79 (yX1_may_ok e1) (Nat.le_trans (Nat.le_of_ble_eq_true rfl) hd) rfl rfl (Nat.le_of_ble_eq_true rfl) dX1_give_51) ?_
    refine j_aload_n (j := 0) dX1_give_54 rfl rfl ?_
    replace h := zbE h
    obtain ⟨r6, e7, h⟩ := h
    refine j_getR fgX1_43 (fun _ _ _ => rfl) dX1_give_55 e7 ?_
    refine j_iload_n (j := 1) dX1_give_58 rfl rfl ?_
    replace h := zbE h
    obtain ⟨a8, e9, h⟩ := h
    subst e9
    replace h := zkE h
    obtain ⟨e10, h⟩ := h
    replace h := zb2E h
    obtain ⟨v12, G13, e11, h⟩ := h
    refine j_cont (zrV (As := [vI x2]) msX1_213 (yX10_give_ok e11) (Nat.le_trans (Nat.le_of_ble_eq_true rfl) hd) (zk_9 _ e10) rfl rfl (Nat.le_of_ble_eq_true rfl) dX1_give_59) ?_
    obtain rfl := Option.some.inj h
    exact j_iret hk.1 hk.2 rfl dX1_give_62
  · refine j_thr (zrS (As := [vI s0]) msX1_79 (yX1_may_ok e1) (Nat.le_trans (Nat.le_of_ble_eq_true rfl) hd) rfl rfl (Nat.le_of_ble_eq_true rfl) dX1_give_51) ?_
    obtain rfl := Option.some.inj h
    exact jx_out hk.1 hk.2 (by decide)
def fX1_give_50 (t : Nat) (x2 : Int32)  (G : GS) : Option (((Int32) ⊕ String) × GS) :=
  fX1_give_51 t x2 0 G
theorem wfX1_give_50 {F : zF} (hd : 56 ≤ F.2.2.2) (t : Nat) (x2 : Int32)  (G : GS) {a : ((Int32) ⊕ String) × GS} (h : fX1_give_50 t x2  G = some a) (hk : zKXI F a) : J mX1_give F G 50 [(0, vR (some t)), (2, vI x2)] [] := by
  unfold fX1_give_50 at h
  refine j_iconst (v := 0) dX1_give_50 (by decide) ?_
  exact J.sub (zall [0, 1] rfl) (wfX1_give_51 hd t x2 0 G h hk)
def fX1_give_46 (t : Nat) (x2 : Int32)  (G : GS) : Option (((Int32) ⊕ String) × GS) :=
  fX1_give_51 t x2 1 G
theorem wfX1_give_46 {F : zF} (hd : 56 ≤ F.2.2.2) (t : Nat) (x2 : Int32)  (G : GS) {a : ((Int32) ⊕ String) × GS} (h : fX1_give_46 t x2  G = some a) (hk : zKXI F a) : J mX1_give F G 46 [(0, vR (some t)), (2, vI x2)] [] := by
  unfold fX1_give_46 at h
  refine j_iconst (v := 1) dX1_give_46 (by decide) ?_
  refine j_goto (tgt := 51) dX1_give_47 (by decide) ?_
  exact J.sub (zall [0, 1] rfl) (wfX1_give_51 hd t x2 1 G h hk)
def fX1_give_0 (t : Nat) (x1 : Int32)  (G : GS) : Option (((Int32) ⊕ String) × GS) :=
  zb3 (fX1_token_0 x1 G) (fun v2 G3 => (zgR G3 1 t 3).bind fun r6 => zopt r6 (fX1_give_50 t v2 G3) (fun a8 => (zgR G3 1 t 3).bind fun r9 => r9.bind fun a11 => (zgI G3 9 a11 5).bind fun v13 => if v13 = 1 then (if v2 = 12 then (fX1_give_46 t v2 G3) else ((zgR G3 1 t 3).bind fun r17 => r17.bind fun a19 => (zgR G3 9 a19 2).bind fun r21 => r21.bind fun a23 => zk [12] G3 a23 <| (fJ2_size_0 a23 G3).bind fun v27 => if 40 ≤ v27 then (fX1_give_50 t v2 G3) else (fX1_give_46 t v2 G3))) else (fX1_give_50 t v2 G3))) (fun X4 G5 => some (.inr X4, G5))
theorem wfX1_give_0 {F : zF} (hd : 56 ≤ F.2.2.2) (t : Nat) (x1 : Int32)  (G : GS) {a : ((Int32) ⊕ String) × GS} (h : fX1_give_0 t x1  G = some a) (hk : zKXI F a) : J mX1_give F G 0 [(0, vR (some t)), (1, vI x1)] [] := by
  unfold fX1_give_0 at h
  refine j_iload_n (j := 1) dX1_give_0 rfl rfl ?_
  replace h := zb3E h
  rcases h with ⟨v2, G3, e1, h⟩ | ⟨X4, G5, e1, h⟩
  · refine j_cont (zrS (As := [vI x1]) msX1_149 (yX1_token_ok e1) (Nat.le_trans (Nat.le_of_ble_eq_true rfl) hd) rfl rfl (Nat.le_of_ble_eq_true rfl) dX1_give_1) ?_
    refine j_istore_n (lv' := [(2, vI v2), (0, vR (some t)), (1, vI x1)]) dX1_give_4 rfl (Nat.le_of_ble_eq_true rfl) rfl ?_
    refine j_aload_n (j := 1) dX1_give_5 rfl rfl ?_
    replace h := zbE h
    obtain ⟨r6, e7, h⟩ := h
    refine j_getR fgX1_43 (fun _ _ _ => rfl) dX1_give_6 e7 ?_
    rcases r6 with _ | a8
    · replace h := zopt_n h
      refine j_ifnull0 (tgt := 50) dX1_give_9 (by decide) ?_
      exact J.sub (zall [1, 0] rfl) (wfX1_give_50 hd t v2  G3 h hk)
    · replace h := zopt_s h
      refine j_ifnull1 dX1_give_9 ?_
      refine j_aload_n (j := 1) dX1_give_12 rfl rfl ?_
      replace h := zbE h
      obtain ⟨r9, e10, h⟩ := h
      refine j_getR fgX1_43 (fun _ _ _ => rfl) dX1_give_13 e10 ?_
      replace h := zbE h
      obtain ⟨a11, e12, h⟩ := h
      subst e12
      replace h := zbE h
      obtain ⟨v13, e14, h⟩ := h
      refine j_getI fgX1_207 (fun _ _ _ => rfl) dX1_give_16 e14 ?_
      refine j_iconst (v := 1) dX1_give_19 (by decide) ?_
      refine j_icmp_ne (tgt := 50) dX1_give_20 (by decide) (fun c15 => ?_) (fun c15 => ?_)
      · rw [if_pos c15] at h
        refine j_iload_n (j := 0) dX1_give_23 rfl rfl ?_
        refine j_bipush (v := 12) dX1_give_24 (by decide) ?_
        refine j_icmp_eq (tgt := 46) dX1_give_26 (by decide) (fun c16 => ?_) (fun c16 => ?_)
        · rw [if_pos c16] at h
          exact J.sub (zall [1, 0] rfl) (wfX1_give_46 hd t v2  G3 h hk)
        · rw [if_neg c16] at h
          refine j_aload_n (j := 1) dX1_give_29 rfl rfl ?_
          replace h := zbE h
          obtain ⟨r17, e18, h⟩ := h
          refine j_getR fgX1_43 (fun _ _ _ => rfl) dX1_give_30 e18 ?_
          replace h := zbE h
          obtain ⟨a19, e20, h⟩ := h
          subst e20
          replace h := zbE h
          obtain ⟨r21, e22, h⟩ := h
          refine j_getR fgX1_210 (fun _ _ _ => rfl) dX1_give_33 e22 ?_
          replace h := zbE h
          obtain ⟨a23, e24, h⟩ := h
          subst e24
          replace h := zkE h
          obtain ⟨e25, h⟩ := h
          replace h := zbE h
          obtain ⟨v27, e26, h⟩ := h
          refine j_cont (zrF (As := []) msX1_54_J2 (yJ2_size_ok e26) (Nat.le_trans (Nat.le_of_ble_eq_true rfl) hd) (zk_12 _ e25) rfl rfl (Nat.le_of_ble_eq_true rfl) dX1_give_36) ?_
          refine j_bipush (v := 40) dX1_give_41 (by decide) ?_
          refine j_icmp_ge (tgt := 50) dX1_give_43 (by decide) (fun c28 => ?_) (fun c28 => ?_)
          · rw [if_pos c28] at h
            exact J.sub (zall [1, 0] rfl) (wfX1_give_50 hd t v2  G3 h hk)
          · rw [if_neg c28] at h
            exact J.sub (zall [1, 0] rfl) (wfX1_give_46 hd t v2  G3 h hk)
      · rw [if_neg c15] at h
        exact J.sub (zall [1, 0] rfl) (wfX1_give_50 hd t v2  G3 h hk)
  · refine j_thr (zrS (As := [vI x1]) msX1_149 (yX1_token_ok e1) (Nat.le_trans (Nat.le_of_ble_eq_true rfl) hd) rfl rfl (Nat.le_of_ble_eq_true rfl) dX1_give_1) ?_
    obtain rfl := Option.some.inj h
    exact jx_out hk.1 hk.2 (by decide)
theorem yX1_give_ok {t : Nat} {x1 : Int32} {G : GS} {r : (Int32) ⊕ String} {G1 : GS} (h : fX1_give_0 t x1 G = some (r, G1)) : zRuns yX1_give (ws_ yX1_give cX1_give 3 (some Jvm.ClassFile.FieldType.int)) [vR (some t), vI x1] (zout (fun v => some (vI v)) r, G, G1, 56) :=
  zentry (M := mX1_give) (plainFor_of_name (by decide +kernel)) ⟨rfl, rfl, rfl, rfl⟩ (Nat.le_of_ble_eq_true rfl) (wfX1_give_0 (Nat.le_refl _) t x1 G h ⟨rfl, rfl⟩)
abbrev mX1_isLL1 : zM := (cX1_isLL1, RX1, 1, (some Jvm.ClassFile.FieldType.boolean), "isLL1", [], "()Z")
def fX1_isLL1_0 (t : Nat)  (G : GS) : Option ((Int32) × GS) :=
  zk [1] G t <| zb2 (fX1_sets_0 t G) fun r3 G4 => r3.bind fun a5 => zk [5] G4 a5 <| zb2 (fX5_conflicts_0 a5 G4) fun v9 G10 => if v9 = 0 then (zcond (zbb 1) (some (1, G10))) else (zcond (zbb 0) (some (0, G10)))
theorem wfX1_isLL1_0 {F : zF} (hd : 52 ≤ F.2.2.2) (t : Nat)  (G : GS) {a : (Int32) × GS} (h : fX1_isLL1_0 t  G = some a) (hk : zKI F a) : J mX1_isLL1 F G 0 [(0, vR (some t))] [] := by
  unfold fX1_isLL1_0 at h
  refine j_aload_n (j := 0) dX1_isLL1_0 rfl rfl ?_
  replace h := zkE h
  obtain ⟨e1, h⟩ := h
  replace h := zb2E h
  obtain ⟨r3, G4, e2, h⟩ := h
  refine j_cont (zrV (As := []) msX1_128 (yX1_sets_ok e2) (Nat.le_trans (Nat.le_of_ble_eq_true rfl) hd) (zk_1 _ e1) rfl rfl (Nat.le_of_ble_eq_true rfl) dX1_isLL1_1) ?_
  replace h := zbE h
  obtain ⟨a5, e6, h⟩ := h
  subst e6
  replace h := zkE h
  obtain ⟨e7, h⟩ := h
  replace h := zb2E h
  obtain ⟨v9, G10, e8, h⟩ := h
  refine j_cont (zrV (As := []) msX1_156 (yX5_conflicts_ok e8) (Nat.le_trans (Nat.le_of_ble_eq_true rfl) hd) (zk_5 _ e7) rfl rfl (Nat.le_of_ble_eq_true rfl) dX1_isLL1_4) ?_
  refine j_if_ne (tgt := 14) dX1_isLL1_7 (by decide) (fun c11 => ?_) (fun c11 => ?_)
  · rw [if_pos c11] at h
    refine j_iconst (v := 1) dX1_isLL1_10 (by decide) ?_
    refine j_goto (tgt := 15) dX1_isLL1_11 (by decide) ?_
    replace h := zcondE h
    obtain ⟨e12, h⟩ := h
    obtain rfl := Option.some.inj h
    exact j_zret hk.1 hk.2 rfl (zbb_n e12) dX1_isLL1_15
  · rw [if_neg c11] at h
    refine j_iconst (v := 0) dX1_isLL1_14 (by decide) ?_
    replace h := zcondE h
    obtain ⟨e13, h⟩ := h
    obtain rfl := Option.some.inj h
    exact j_zret hk.1 hk.2 rfl (zbb_n e13) dX1_isLL1_15
theorem yX1_isLL1_ok {t : Nat} {G : GS} {r : Int32} {G1 : GS} (h : fX1_isLL1_0 t G = some (r, G1)) : zRuns yX1_isLL1 (ws_ yX1_isLL1 cX1_isLL1 1 (some Jvm.ClassFile.FieldType.boolean)) [vR (some t)] (.inl (some (vI r)), G, G1, 52) :=
  zentry (M := mX1_isLL1) (plainFor_of_name (by decide +kernel)) ⟨rfl, rfl, rfl, rfl⟩ (Nat.le_of_ble_eq_true rfl) (wfX1_isLL1_0 (Nat.le_refl _) t G h ⟨rfl, rfl⟩)
abbrev mX1_isLeftRecursive : zM := (cX1_isLeftRecursive, RX1, 2, (some Jvm.ClassFile.FieldType.boolean), "isLeftRecursive", [], "(I)Z")
def fX1_isLeftRecursive_0 (t : Nat) (x1 : Int32)  (G : GS) : Option (((Int32) ⊕ String) × GS) :=
  zk [1] G t <| zb2 (fX1_sets_0 t G) fun r3 G4 => zb3 (fX1_index_0 x1 G4) (fun v6 G7 => r3.bind fun a10 => zk [5] G7 a10 <| (fX5_isLeftRecursive_0 a10 v6 G7).bind fun v14 => zcond (zbb v14) (some (.inl v14, G7))) (fun X8 G9 => some (.inr X8, G9))
theorem wfX1_isLeftRecursive_0 {F : zF} (hd : 52 ≤ F.2.2.2) (t : Nat) (x1 : Int32)  (G : GS) {a : ((Int32) ⊕ String) × GS} (h : fX1_isLeftRecursive_0 t x1  G = some a) (hk : zKXI F a) : J mX1_isLeftRecursive F G 0 [(0, vR (some t)), (1, vI x1)] [] := by
  unfold fX1_isLeftRecursive_0 at h
  refine j_aload_n (j := 0) dX1_isLeftRecursive_0 rfl rfl ?_
  replace h := zkE h
  obtain ⟨e1, h⟩ := h
  replace h := zb2E h
  obtain ⟨r3, G4, e2, h⟩ := h
  refine j_cont (zrV (As := []) msX1_128 (yX1_sets_ok e2) (Nat.le_trans (Nat.le_of_ble_eq_true rfl) hd) (zk_1 _ e1) rfl rfl (Nat.le_of_ble_eq_true rfl) dX1_isLeftRecursive_1) ?_
  refine j_iload_n (j := 1) dX1_isLeftRecursive_4 rfl rfl ?_
  replace h := zb3E h
  rcases h with ⟨v6, G7, e5, h⟩ | ⟨X8, G9, e5, h⟩
  · refine j_cont (zrS (As := [vI x1]) msX1_76 (yX1_index_ok e5) (Nat.le_trans (Nat.le_of_ble_eq_true rfl) hd) rfl rfl (Nat.le_of_ble_eq_true rfl) dX1_isLeftRecursive_5) ?_
    replace h := zbE h
    obtain ⟨a10, e11, h⟩ := h
    subst e11
    replace h := zkE h
    obtain ⟨e12, h⟩ := h
    replace h := zbE h
    obtain ⟨v14, e13, h⟩ := h
    refine j_cont (zrV (As := [vI v6]) msX1_172 (yX5_isLeftRecursive_ok e13) (Nat.le_trans (Nat.le_of_ble_eq_true rfl) hd) (zk_5 _ e12) rfl rfl (Nat.le_of_ble_eq_true rfl) dX1_isLeftRecursive_8) ?_
    replace h := zcondE h
    obtain ⟨e15, h⟩ := h
    obtain rfl := Option.some.inj h
    exact j_zret hk.1 hk.2 rfl (zbb_n e15) dX1_isLeftRecursive_11
  · refine j_thr (zrS (As := [vI x1]) msX1_76 (yX1_index_ok e5) (Nat.le_trans (Nat.le_of_ble_eq_true rfl) hd) rfl rfl (Nat.le_of_ble_eq_true rfl) dX1_isLeftRecursive_5) ?_
    obtain rfl := Option.some.inj h
    exact jx_out hk.1 hk.2 (by decide)
theorem yX1_isLeftRecursive_ok {t : Nat} {x1 : Int32} {G : GS} {r : (Int32) ⊕ String} {G1 : GS} (h : fX1_isLeftRecursive_0 t x1 G = some (r, G1)) : zRuns yX1_isLeftRecursive (ws_ yX1_isLeftRecursive cX1_isLeftRecursive 2 (some Jvm.ClassFile.FieldType.boolean)) [vR (some t), vI x1] (zout (fun v => some (vI v)) r, G, G1, 52) :=
  zentry (M := mX1_isLeftRecursive) (plainFor_of_name (by decide +kernel)) ⟨rfl, rfl, rfl, rfl⟩ (Nat.le_of_ble_eq_true rfl) (wfX1_isLeftRecursive_0 (Nat.le_refl _) t x1 G h ⟨rfl, rfl⟩)
theorem msX1_131 : zSV RX1 131 RX5 yX5_isNullable cX5_isNullable 2 (some Jvm.ClassFile.FieldType.boolean) 1 := ⟨lw_V q1871 q460 q461 q151 q462, (by decide +kernel), (by decide)⟩
abbrev mX1_isNullable : zM := (cX1_isNullable, RX1, 2, (some Jvm.ClassFile.FieldType.boolean), "isNullable", [], "(I)Z")
def fX1_isNullable_0 (t : Nat) (x1 : Int32)  (G : GS) : Option (((Int32) ⊕ String) × GS) :=
  zk [1] G t <| zb2 (fX1_sets_0 t G) fun r3 G4 => zb3 (fX1_index_0 x1 G4) (fun v6 G7 => r3.bind fun a10 => zk [5] G7 a10 <| (fX5_isNullable_0 a10 (20 + v6) G7).bind fun v14 => zcond (zbb v14) (some (.inl v14, G7))) (fun X8 G9 => some (.inr X8, G9))
theorem wfX1_isNullable_0 {F : zF} (hd : 52 ≤ F.2.2.2) (t : Nat) (x1 : Int32)  (G : GS) {a : ((Int32) ⊕ String) × GS} (h : fX1_isNullable_0 t x1  G = some a) (hk : zKXI F a) : J mX1_isNullable F G 0 [(0, vR (some t)), (1, vI x1)] [] := by
  unfold fX1_isNullable_0 at h
  refine j_aload_n (j := 0) dX1_isNullable_0 rfl rfl ?_
  replace h := zkE h
  obtain ⟨e1, h⟩ := h
  replace h := zb2E h
  obtain ⟨r3, G4, e2, h⟩ := h
  refine j_cont (zrV (As := []) msX1_128 (yX1_sets_ok e2) (Nat.le_trans (Nat.le_of_ble_eq_true rfl) hd) (zk_1 _ e1) rfl rfl (Nat.le_of_ble_eq_true rfl) dX1_isNullable_1) ?_
  refine j_bipush (v := 20) dX1_isNullable_4 (by decide) ?_
  refine j_iload_n (j := 1) dX1_isNullable_6 rfl rfl ?_
  replace h := zb3E h
  rcases h with ⟨v6, G7, e5, h⟩ | ⟨X8, G9, e5, h⟩
  · refine j_cont (zrS (As := [vI x1]) msX1_76 (yX1_index_ok e5) (Nat.le_trans (Nat.le_of_ble_eq_true rfl) hd) rfl rfl (Nat.le_of_ble_eq_true rfl) dX1_isNullable_7) ?_
    refine j_iadd dX1_isNullable_10 ?_
    replace h := zbE h
    obtain ⟨a10, e11, h⟩ := h
    subst e11
    replace h := zkE h
    obtain ⟨e12, h⟩ := h
    replace h := zbE h
    obtain ⟨v14, e13, h⟩ := h
    refine j_cont (zrV (As := [vI (20 + v6)]) msX1_131 (yX5_isNullable_ok e13) (Nat.le_trans (Nat.le_of_ble_eq_true rfl) hd) (zk_5 _ e12) rfl rfl (Nat.le_of_ble_eq_true rfl) dX1_isNullable_11) ?_
    replace h := zcondE h
    obtain ⟨e15, h⟩ := h
    obtain rfl := Option.some.inj h
    exact j_zret hk.1 hk.2 rfl (zbb_n e15) dX1_isNullable_14
  · refine j_thr (zrS (As := [vI x1]) msX1_76 (yX1_index_ok e5) (Nat.le_trans (Nat.le_of_ble_eq_true rfl) hd) rfl rfl (Nat.le_of_ble_eq_true rfl) dX1_isNullable_7) ?_
    obtain rfl := Option.some.inj h
    exact jx_out hk.1 hk.2 (by decide)
theorem yX1_isNullable_ok {t : Nat} {x1 : Int32} {G : GS} {r : (Int32) ⊕ String} {G1 : GS} (h : fX1_isNullable_0 t x1 G = some (r, G1)) : zRuns yX1_isNullable (ws_ yX1_isNullable cX1_isNullable 2 (some Jvm.ClassFile.FieldType.boolean)) [vR (some t), vI x1] (zout (fun v => some (vI v)) r, G, G1, 52) :=
  zentry (M := mX1_isNullable) (plainFor_of_name (by decide +kernel)) ⟨rfl, rfl, rfl, rfl⟩ (Nat.le_of_ble_eq_true rfl) (wfX1_isNullable_0 (Nat.le_refl _) t x1 G h ⟨rfl, rfl⟩)
abbrev mX8_meets : zM := (cX8_meets, RX8, 3, (some Jvm.ClassFile.FieldType.boolean), "meets", [], "(LSelahGenerator$Strings;)Z")
def fbX8_meets_2 (t : Nat) (x1 : Option Nat) (x2 : Int32)  (G : GS) : Option ((Int32) ⊕ (Int32)) :=
  (zgR G 8 t 0).bind fun r1 => r1.bind fun a3 => (zln G a3).bind fun v5 => if v5 ≤ x2 then (zo (zcond (zbb 0) (some 0))) else ((zgR G 8 t 0).bind fun r9 => r9.bind fun a11 => (zaL G 51 a11 x2).bind fun l13 => x1.bind fun a15 => (zgR G 8 a15 0).bind fun r17 => r17.bind fun a19 => (zaL G 51 a19 x2).bind fun l21 => if (lg_cmp (l13 &&& l21) (0 : Int64)) = 0 then (some (.inl ((x2 + 1)))) else (zo (zcond (zbb 1) (some 1))))
def flX8_meets_2 (t : Nat) (x1 : Option Nat) (x2 : Int32) (G : GS) : Option (Int32) := zloop (fun s : Int32 => fbX8_meets_2 t x1 s G) (x2)
theorem wfbX8_meets_2 {F : zF} (hd : 1 ≤ F.2.2.2) (t : Nat) (x1 : Option Nat) (x2 : Int32) (G : GS) {a : (Int32) ⊕ (Int32)} (h : fbX8_meets_2 t x1 x2 G = some a) (hk : (zcase (fun s : Int32 => J mX8_meets F G 2 [(0, vR (some t)), (1, vR x1), (2, vI s)] []) (zKPI F G)) a) : J mX8_meets F G 2 [(0, vR (some t)), (1, vR x1), (2, vI x2)] [] := by
  unfold fbX8_meets_2 at h
  refine j_iload_n (j := 2) dX8_meets_2 rfl rfl ?_
  refine j_aload_n (j := 0) dX8_meets_3 rfl rfl ?_
  replace h := zbE h
  obtain ⟨r1, e2, h⟩ := h
  refine j_getR fgX8_9 (fun _ _ _ => rfl) dX8_meets_4 e2 ?_
  replace h := zbE h
  obtain ⟨a3, e4, h⟩ := h
  subst e4
  replace h := zbE h
  obtain ⟨v5, e6, h⟩ := h
  refine j_alen e6 dX8_meets_7 ?_
  refine j_icmp_ge (tgt := 37) dX8_meets_8 (by decide) (fun c7 => ?_) (fun c7 => ?_)
  · rw [if_pos c7] at h
    replace h := zoE h
    obtain ⟨a, h, rfl⟩ := h
    replace hk := hk
    refine j_iconst (v := 0) dX8_meets_37 (by decide) ?_
    replace h := zcondE h
    obtain ⟨e8, h⟩ := h
    obtain rfl := Option.some.inj h
    exact j_zret hk.1 hk.2 rfl (zbb_n e8) dX8_meets_38
  · rw [if_neg c7] at h
    refine j_aload_n (j := 0) dX8_meets_11 rfl rfl ?_
    replace h := zbE h
    obtain ⟨r9, e10, h⟩ := h
    refine j_getR fgX8_9 (fun _ _ _ => rfl) dX8_meets_12 e10 ?_
    refine j_iload_n (j := 2) dX8_meets_15 rfl rfl ?_
    replace h := zbE h
    obtain ⟨a11, e12, h⟩ := h
    subst e12
    replace h := zbE h
    obtain ⟨l13, e14, h⟩ := h
    refine j_lald rfl e14 dX8_meets_16 ?_
    refine j_aload_n (j := 1) dX8_meets_17 rfl rfl ?_
    replace h := zbE h
    obtain ⟨a15, e16, h⟩ := h
    subst e16
    replace h := zbE h
    obtain ⟨r17, e18, h⟩ := h
    refine j_getR fgX8_9 (fun _ _ _ => rfl) dX8_meets_18 e18 ?_
    refine j_iload_n (j := 2) dX8_meets_21 rfl rfl ?_
    replace h := zbE h
    obtain ⟨a19, e20, h⟩ := h
    subst e20
    replace h := zbE h
    obtain ⟨l21, e22, h⟩ := h
    refine j_lald rfl e22 dX8_meets_22 ?_
    refine j_land dX8_meets_23 ?_
    refine j_lconst (v := 0) dX8_meets_24 rfl ?_
    refine j_lcmp dX8_meets_25 ?_
    refine j_if_eq (tgt := 31) dX8_meets_26 (by decide) (fun c23 => ?_) (fun c23 => ?_)
    · rw [if_pos c23] at h
      refine j_iinc (j := 2) (v := (x2 + 1)) (lv' := [(2, vI (x2 + 1)), (0, vR (some t)), (1, vR (some a15))]) dX8_meets_31 rfl rfl (Nat.le_of_ble_eq_true rfl) rfl ?_
      refine j_goto (tgt := 2) dX8_meets_34 (by decide) ?_
      obtain rfl := Option.some.inj h
      exact J.sub (zall [1, 2, 0] rfl) hk
    · rw [if_neg c23] at h
      replace h := zoE h
      obtain ⟨a, h, rfl⟩ := h
      replace hk := hk
      refine j_iconst (v := 1) dX8_meets_29 (by decide) ?_
      replace h := zcondE h
      obtain ⟨e24, h⟩ := h
      obtain rfl := Option.some.inj h
      exact j_zret hk.1 hk.2 rfl (zbb_n e24) dX8_meets_30
theorem wflX8_meets_2 {F : zF} (hd : 1 ≤ F.2.2.2) (t : Nat) (x1 : Option Nat) (x2 : Int32) (G : GS) {a : Int32} (h : flX8_meets_2 t x1 x2 G = some a) (hk : zKPI F G a) : J mX8_meets F G 2 [(0, vR (some t)), (1, vR x1), (2, vI x2)] [] := by
  unfold flX8_meets_2 at h
  exact zloop_walk (P := (fun s : Int32 => J mX8_meets F G 2 [(0, vR (some t)), (1, vR x1), (2, vI s)] [])) (fun s b e hk => wfbX8_meets_2 hd t x1 s G e hk) (x2) _ h hk
def fX8_meets_0 (t : Nat) (x1 : Option Nat)  (G : GS) : Option (Int32) :=
  flX8_meets_2 t x1 0 G
theorem wfX8_meets_0 {F : zF} (hd : 1 ≤ F.2.2.2) (t : Nat) (x1 : Option Nat)  (G : GS) {a : Int32} (h : fX8_meets_0 t x1  G = some a) (hk : zKPI F G a) : J mX8_meets F G 0 [(0, vR (some t)), (1, vR x1)] [] := by
  unfold fX8_meets_0 at h
  refine j_iconst (v := 0) dX8_meets_0 (by decide) ?_
  refine j_istore_n (lv' := [(2, vI 0), (0, vR (some t)), (1, vR x1)]) dX8_meets_1 rfl (Nat.le_of_ble_eq_true rfl) rfl ?_
  exact J.sub (zall [1, 2, 0] rfl) (wflX8_meets_2 hd t x1 0  G h hk)
theorem yX8_meets_ok {t : Nat} {x1 : Option Nat} {G : GS} {r : Int32} (h : fX8_meets_0 t x1 G = some r) : zRuns yX8_meets (ws_ yX8_meets cX8_meets 3 (some Jvm.ClassFile.FieldType.boolean)) [vR (some t), vR x1] (.inl (some (vI r)), G, G, 1) :=
  zentry (M := mX8_meets) (plainFor_of_name (by decide +kernel)) ⟨rfl, rfl, rfl, rfl⟩ (Nat.le_of_ble_eq_true rfl) (wfX8_meets_0 (Nat.le_refl _) t x1 G h ⟨rfl, rfl⟩)
theorem msX7_120 : zSV RX7 120 RX8 yX8_meets cX8_meets 3 (some Jvm.ClassFile.FieldType.boolean) 1 := ⟨lw_V q1439 q1440 q1441 q169 q1442, (by decide +kernel), (by decide)⟩
abbrev mX7_conflicts : zM := (cX7_conflicts, RX7, 4, (some Jvm.ClassFile.FieldType.int), "conflicts", [], "()I")
def fX7_conflicts_88 (t : Nat) (x1 : Int32) (x2 : Int32)  (G : GS) : Option ((Int32 × Int32) ⊕ (Int32)) :=
  some (.inl (x1, (x2 + 1)))
theorem wfX7_conflicts_88 {F : zF} (hd : 4 ≤ F.2.2.2) (t : Nat) (x1 : Int32) (x2 : Int32)  (G : GS) {a : (Int32 × Int32) ⊕ (Int32)} (h : fX7_conflicts_88 t x1 x2  G = some a) (hk : (zcase (fun s : Int32 × Int32 => J mX7_conflicts F G 4 [(0, vR (some t)), (1, vI s.1), (2, vI s.2)] []) (zKPI F G)) a) : J mX7_conflicts F G 88 [(0, vR (some t)), (1, vI x1), (2, vI x2)] [] := by
  unfold fX7_conflicts_88 at h
  refine j_iinc (j := 2) (v := (x2 + 1)) (lv' := [(2, vI (x2 + 1)), (0, vR (some t)), (1, vI x1)]) dX7_conflicts_88 rfl rfl (Nat.le_of_ble_eq_true rfl) rfl ?_
  refine j_goto (tgt := 4) dX7_conflicts_91 (by decide) ?_
  obtain rfl := Option.some.inj h
  exact J.sub (zall [1, 2, 0] rfl) hk
def fX7_conflicts_82 (t : Nat) (x1 : Int32) (x2 : Int32) (x3 : Int32)  (G : GS) : Option ((Int32 × Int32) ⊕ ((Int32 × Int32) ⊕ (Int32))) :=
  some (.inl (x1, (x3 + 1)))
theorem wfX7_conflicts_82 {F : zF} (hd : 4 ≤ F.2.2.2) (t : Nat) (x1 : Int32) (x2 : Int32) (x3 : Int32)  (G : GS) {a : (Int32 × Int32) ⊕ ((Int32 × Int32) ⊕ (Int32))} (h : fX7_conflicts_82 t x1 x2 x3  G = some a) (hk : (zcase (fun s : Int32 × Int32 => J mX7_conflicts F G 17 [(0, vR (some t)), (1, vI s.1), (2, vI x2), (3, vI s.2)] []) ((zcase (fun s : Int32 × Int32 => J mX7_conflicts F G 4 [(0, vR (some t)), (1, vI s.1), (2, vI s.2)] []) (zKPI F G)))) a) : J mX7_conflicts F G 82 [(0, vR (some t)), (1, vI x1), (2, vI x2), (3, vI x3)] [] := by
  unfold fX7_conflicts_82 at h
  refine j_iinc (j := 3) (v := (x3 + 1)) (lv' := [(3, vI (x3 + 1)), (0, vR (some t)), (1, vI x1), (2, vI x2)]) dX7_conflicts_82 rfl rfl (Nat.le_of_ble_eq_true rfl) rfl ?_
  refine j_goto (tgt := 17) dX7_conflicts_85 (by decide) ?_
  obtain rfl := Option.some.inj h
  exact J.sub (zall [1, 2, 3, 0] rfl) hk
def fbX7_conflicts_17 (t : Nat) (x1 : Int32) (x2 : Int32) (x3 : Int32)  (G : GS) : Option ((Int32 × Int32) ⊕ ((Int32 × Int32) ⊕ (Int32))) :=
  (zgR G 7 t 3).bind fun r1 => r1.bind fun a3 => (zln G a3).bind fun v5 => if v5 ≤ x3 then (zo (fX7_conflicts_88 t x1 x2 G)) else ((zgR G 7 t 0).bind fun r8 => r8.bind fun a10 => zk [12] G a10 <| (fJ2_get_0 a10 x2 G).bind fun r14 => zkq [3] G r14 (r14.bind fun a16 => (zgI G 3 a16 0).bind fun v18 => (zgR G 7 t 0).bind fun r20 => r20.bind fun a22 => zk [12] G a22 <| (fJ2_get_0 a22 x3 G).bind fun r26 => zkq [3] G r26 (r26.bind fun a28 => (zgI G 3 a28 0).bind fun v30 => if v18 = v30 then ((zgR G 7 t 3).bind fun r33 => r33.bind fun a35 => (zaR G 55 a35 x2).bind fun r37 => (zgR G 7 t 3).bind fun r39 => r39.bind fun a41 => (zaR G 55 a41 x3).bind fun r43 => r37.bind fun a45 => zk [8] G a45 <| (fX8_meets_0 a45 r43 G).bind fun v49 => if v49 = 0 then (fX7_conflicts_82 t x1 x2 x3 G) else (fX7_conflicts_82 t (x1 + 1) x2 x3 G)) else (fX7_conflicts_82 t x1 x2 x3 G))))
def flX7_conflicts_17 (t : Nat) (x1 : Int32) (x2 : Int32) (x3 : Int32) (G : GS) : Option ((Int32 × Int32) ⊕ (Int32)) := zloop (fun s : Int32 × Int32 => fbX7_conflicts_17 t s.1 x2 s.2 G) (x1, x3)
theorem wfbX7_conflicts_17 {F : zF} (hd : 4 ≤ F.2.2.2) (t : Nat) (x1 : Int32) (x2 : Int32) (x3 : Int32) (G : GS) {a : (Int32 × Int32) ⊕ ((Int32 × Int32) ⊕ (Int32))} (h : fbX7_conflicts_17 t x1 x2 x3 G = some a) (hk : (zcase (fun s : Int32 × Int32 => J mX7_conflicts F G 17 [(0, vR (some t)), (1, vI s.1), (2, vI x2), (3, vI s.2)] []) ((zcase (fun s : Int32 × Int32 => J mX7_conflicts F G 4 [(0, vR (some t)), (1, vI s.1), (2, vI s.2)] []) (zKPI F G)))) a) : J mX7_conflicts F G 17 [(0, vR (some t)), (1, vI x1), (2, vI x2), (3, vI x3)] [] := by
  unfold fbX7_conflicts_17 at h
  refine j_iload_n (j := 3) dX7_conflicts_17 rfl rfl ?_
  refine j_aload_n (j := 0) dX7_conflicts_18 rfl rfl ?_
  replace h := zbE h
  obtain ⟨r1, e2, h⟩ := h
  refine j_getR fgX7_41 (fun _ _ _ => rfl) dX7_conflicts_19 e2 ?_
  replace h := zbE h
  obtain ⟨a3, e4, h⟩ := h
  subst e4
  replace h := zbE h
  obtain ⟨v5, e6, h⟩ := h
  refine j_alen e6 dX7_conflicts_22 ?_
  refine j_icmp_ge (tgt := 88) dX7_conflicts_23 (by decide) (fun c7 => ?_) (fun c7 => ?_)
  · rw [if_pos c7] at h
    replace h := zoE h
    obtain ⟨a, h, rfl⟩ := h
    replace hk := hk
    exact J.sub (zall [0, 1, 2] rfl) (wfX7_conflicts_88 hd t x1 x2  G h hk)
  · rw [if_neg c7] at h
    refine j_aload_n (j := 0) dX7_conflicts_26 rfl rfl ?_
    replace h := zbE h
    obtain ⟨r8, e9, h⟩ := h
    refine j_getR fgX7_31 (fun _ _ _ => rfl) dX7_conflicts_27 e9 ?_
    refine j_iload_n (j := 2) dX7_conflicts_30 rfl rfl ?_
    replace h := zbE h
    obtain ⟨a10, e11, h⟩ := h
    subst e11
    replace h := zkE h
    obtain ⟨e12, h⟩ := h
    replace h := zbE h
    obtain ⟨r14, e13, h⟩ := h
    refine j_cont (zrF (As := [vI x2]) msX7_50_J2 (yJ2_get_ok e13) (Nat.le_trans (Nat.le_of_ble_eq_true rfl) hd) (zk_12 _ e12) rfl rfl (Nat.le_of_ble_eq_true rfl) dX7_conflicts_31) ?_
    replace h := zkqE h
    obtain ⟨e15, h⟩ := h
    refine j_castq (fun k => j_castN dX7_conflicts_36 k) (fun b q52 k => j_castS (zk_3 _ (e15 b q52)) ⟨2, _, rfl, rfl⟩ q1352 dX7_conflicts_36 k) ?_
    replace h := zbE h
    obtain ⟨a16, e17, h⟩ := h
    subst e17
    replace h := zbE h
    obtain ⟨v18, e19, h⟩ := h
    refine j_getI fgX7_60 (fun _ _ _ => rfl) dX7_conflicts_39 e19 ?_
    refine j_aload_n (j := 0) dX7_conflicts_42 rfl rfl ?_
    replace h := zbE h
    obtain ⟨r20, e21, h⟩ := h
    refine j_getR fgX7_31 (fun _ _ _ => rfl) dX7_conflicts_43 e21 ?_
    refine j_iload_n (j := 3) dX7_conflicts_46 rfl rfl ?_
    replace h := zbE h
    obtain ⟨a22, e23, h⟩ := h
    subst e23
    replace h := zkE h
    obtain ⟨e24, h⟩ := h
    replace h := zbE h
    obtain ⟨r26, e25, h⟩ := h
    refine j_cont (zrF (As := [vI x3]) msX7_50_J2 (yJ2_get_ok e25) (Nat.le_trans (Nat.le_of_ble_eq_true rfl) hd) (zk_12 _ e24) rfl rfl (Nat.le_of_ble_eq_true rfl) dX7_conflicts_47) ?_
    replace h := zkqE h
    obtain ⟨e27, h⟩ := h
    refine j_castq (fun k => j_castN dX7_conflicts_52 k) (fun b q51 k => j_castS (zk_3 _ (e27 b q51)) ⟨2, _, rfl, rfl⟩ q1352 dX7_conflicts_52 k) ?_
    replace h := zbE h
    obtain ⟨a28, e29, h⟩ := h
    subst e29
    replace h := zbE h
    obtain ⟨v30, e31, h⟩ := h
    refine j_getI fgX7_60 (fun _ _ _ => rfl) dX7_conflicts_55 e31 ?_
    refine j_icmp_ne (tgt := 82) dX7_conflicts_58 (by decide) (fun c32 => ?_) (fun c32 => ?_)
    · rw [if_pos c32] at h
      refine j_aload_n (j := 0) dX7_conflicts_61 rfl rfl ?_
      replace h := zbE h
      obtain ⟨r33, e34, h⟩ := h
      refine j_getR fgX7_41 (fun _ _ _ => rfl) dX7_conflicts_62 e34 ?_
      refine j_iload_n (j := 2) dX7_conflicts_65 rfl rfl ?_
      replace h := zbE h
      obtain ⟨a35, e36, h⟩ := h
      subst e36
      replace h := zbE h
      obtain ⟨r37, e38, h⟩ := h
      refine j_aald (Or.inr (Or.inl rfl)) e38 dX7_conflicts_66 ?_
      refine j_aload_n (j := 0) dX7_conflicts_67 rfl rfl ?_
      replace h := zbE h
      obtain ⟨r39, e40, h⟩ := h
      refine j_getR fgX7_41 (fun _ _ _ => rfl) dX7_conflicts_68 e40 ?_
      refine j_iload_n (j := 3) dX7_conflicts_71 rfl rfl ?_
      replace h := zbE h
      obtain ⟨a41, e42, h⟩ := h
      subst e42
      replace h := zbE h
      obtain ⟨r43, e44, h⟩ := h
      refine j_aald (Or.inr (Or.inl rfl)) e44 dX7_conflicts_72 ?_
      replace h := zbE h
      obtain ⟨a45, e46, h⟩ := h
      subst e46
      replace h := zkE h
      obtain ⟨e47, h⟩ := h
      replace h := zbE h
      obtain ⟨v49, e48, h⟩ := h
      refine j_cont (zrV (As := [vR r43]) msX7_120 (yX8_meets_ok e48) (Nat.le_trans (Nat.le_of_ble_eq_true rfl) hd) (zk_8 _ e47) rfl rfl (Nat.le_of_ble_eq_true rfl) dX7_conflicts_73) ?_
      refine j_if_eq (tgt := 82) dX7_conflicts_76 (by decide) (fun c50 => ?_) (fun c50 => ?_)
      · rw [if_pos c50] at h
        exact J.sub (zall [0, 1, 2, 3] rfl) (wfX7_conflicts_82 hd t x1 x2 x3  G h hk)
      · rw [if_neg c50] at h
        refine j_iinc (j := 1) (v := (x1 + 1)) (lv' := [(1, vI (x1 + 1)), (0, vR (some t)), (2, vI x2), (3, vI x3)]) dX7_conflicts_79 rfl rfl (Nat.le_of_ble_eq_true rfl) rfl ?_
        exact J.sub (zall [1, 0, 2, 3] rfl) (wfX7_conflicts_82 hd t (x1 + 1) x2 x3  G h hk)
    · rw [if_neg c32] at h
      exact J.sub (zall [0, 1, 2, 3] rfl) (wfX7_conflicts_82 hd t x1 x2 x3  G h hk)
theorem wflX7_conflicts_17 {F : zF} (hd : 4 ≤ F.2.2.2) (t : Nat) (x1 : Int32) (x2 : Int32) (x3 : Int32) (G : GS) {a : (Int32 × Int32) ⊕ (Int32)} (h : flX7_conflicts_17 t x1 x2 x3 G = some a) (hk : (zcase (fun s : Int32 × Int32 => J mX7_conflicts F G 4 [(0, vR (some t)), (1, vI s.1), (2, vI s.2)] []) (zKPI F G)) a) : J mX7_conflicts F G 17 [(0, vR (some t)), (1, vI x1), (2, vI x2), (3, vI x3)] [] := by
  unfold flX7_conflicts_17 at h
  exact zloop_walk (P := (fun s : Int32 × Int32 => J mX7_conflicts F G 17 [(0, vR (some t)), (1, vI s.1), (2, vI x2), (3, vI s.2)] [])) (fun s b e hk => wfbX7_conflicts_17 hd t s.1 x2 s.2 G e hk) (x1, x3) _ h hk
def fbX7_conflicts_4 (t : Nat) (x1 : Int32) (x2 : Int32)  (G : GS) : Option ((Int32 × Int32) ⊕ (Int32)) :=
  (zgR G 7 t 3).bind fun r1 => r1.bind fun a3 => (zln G a3).bind fun v5 => if v5 ≤ x2 then (zo (some x1)) else (flX7_conflicts_17 t x1 x2 (x2 + 1) G)
def flX7_conflicts_4 (t : Nat) (x1 : Int32) (x2 : Int32) (G : GS) : Option (Int32) := zloop (fun s : Int32 × Int32 => fbX7_conflicts_4 t s.1 s.2 G) (x1, x2)
theorem wfbX7_conflicts_4 {F : zF} (hd : 4 ≤ F.2.2.2) (t : Nat) (x1 : Int32) (x2 : Int32) (G : GS) {a : (Int32 × Int32) ⊕ (Int32)} (h : fbX7_conflicts_4 t x1 x2 G = some a) (hk : (zcase (fun s : Int32 × Int32 => J mX7_conflicts F G 4 [(0, vR (some t)), (1, vI s.1), (2, vI s.2)] []) (zKPI F G)) a) : J mX7_conflicts F G 4 [(0, vR (some t)), (1, vI x1), (2, vI x2)] [] := by
  unfold fbX7_conflicts_4 at h
  refine j_iload_n (j := 2) dX7_conflicts_4 rfl rfl ?_
  refine j_aload_n (j := 0) dX7_conflicts_5 rfl rfl ?_
  replace h := zbE h
  obtain ⟨r1, e2, h⟩ := h
  refine j_getR fgX7_41 (fun _ _ _ => rfl) dX7_conflicts_6 e2 ?_
  replace h := zbE h
  obtain ⟨a3, e4, h⟩ := h
  subst e4
  replace h := zbE h
  obtain ⟨v5, e6, h⟩ := h
  refine j_alen e6 dX7_conflicts_9 ?_
  refine j_icmp_ge (tgt := 94) dX7_conflicts_10 (by decide) (fun c7 => ?_) (fun c7 => ?_)
  · rw [if_pos c7] at h
    replace h := zoE h
    obtain ⟨a, h, rfl⟩ := h
    replace hk := hk
    refine j_iload_n (j := 1) dX7_conflicts_94 rfl rfl ?_
    obtain rfl := Option.some.inj h
    exact j_iret hk.1 hk.2 rfl dX7_conflicts_95
  · rw [if_neg c7] at h
    refine j_iload_n (j := 2) dX7_conflicts_13 rfl rfl ?_
    refine j_iconst (v := 1) dX7_conflicts_14 (by decide) ?_
    refine j_iadd dX7_conflicts_15 ?_
    refine j_istore_n (lv' := [(3, vI (x2 + 1)), (0, vR (some t)), (1, vI x1), (2, vI x2)]) dX7_conflicts_16 rfl (Nat.le_of_ble_eq_true rfl) rfl ?_
    exact J.sub (zall [1, 2, 3, 0] rfl) (wflX7_conflicts_17 hd t x1 x2 (x2 + 1)  G h hk)
theorem wflX7_conflicts_4 {F : zF} (hd : 4 ≤ F.2.2.2) (t : Nat) (x1 : Int32) (x2 : Int32) (G : GS) {a : Int32} (h : flX7_conflicts_4 t x1 x2 G = some a) (hk : zKPI F G a) : J mX7_conflicts F G 4 [(0, vR (some t)), (1, vI x1), (2, vI x2)] [] := by
  unfold flX7_conflicts_4 at h
  exact zloop_walk (P := (fun s : Int32 × Int32 => J mX7_conflicts F G 4 [(0, vR (some t)), (1, vI s.1), (2, vI s.2)] [])) (fun s b e hk => wfbX7_conflicts_4 hd t s.1 s.2 G e hk) (x1, x2) _ h hk
def fX7_conflicts_0 (t : Nat)  (G : GS) : Option (Int32) :=
  flX7_conflicts_4 t 0 0 G
theorem wfX7_conflicts_0 {F : zF} (hd : 4 ≤ F.2.2.2) (t : Nat)  (G : GS) {a : Int32} (h : fX7_conflicts_0 t  G = some a) (hk : zKPI F G a) : J mX7_conflicts F G 0 [(0, vR (some t))] [] := by
  unfold fX7_conflicts_0 at h
  refine j_iconst (v := 0) dX7_conflicts_0 (by decide) ?_
  refine j_istore_n (lv' := [(1, vI 0), (0, vR (some t))]) dX7_conflicts_1 rfl (Nat.le_of_ble_eq_true rfl) rfl ?_
  refine j_iconst (v := 0) dX7_conflicts_2 (by decide) ?_
  refine j_istore_n (lv' := [(2, vI 0), (1, vI 0), (0, vR (some t))]) dX7_conflicts_3 rfl (Nat.le_of_ble_eq_true rfl) rfl ?_
  exact J.sub (zall [2, 1, 0] rfl) (wflX7_conflicts_4 hd t 0 0  G h hk)
theorem yX7_conflicts_ok {t : Nat} {G : GS} {r : Int32} (h : fX7_conflicts_0 t G = some r) : zRuns yX7_conflicts (ws_ yX7_conflicts cX7_conflicts 4 (some Jvm.ClassFile.FieldType.int)) [vR (some t)] (.inl (some (vI r)), G, G, 4) :=
  zentry (M := mX7_conflicts) (plainFor_of_name (by decide +kernel)) ⟨rfl, rfl, rfl, rfl⟩ (Nat.le_of_ble_eq_true rfl) (wfX7_conflicts_0 (Nat.le_refl _) t G h ⟨rfl, rfl⟩)
end
