/-! printed: functions and walks -/
set_option maxRecDepth 100000
noncomputable section
theorem fgX10_25 : zFG RX10 25 8 2 (.object "java/util/List") := ⟨(RX10, TX10, 8, tyX10), rfl, by decide, in_X10, rfl, "SelahGenerator$Parse", Or.inl rfl, Or.inl q2468⟩
theorem fgX10_35 : zFG RX10 35 8 5 (.int) := ⟨(RX10, TX10, 8, tyX10), rfl, by decide, in_X10, rfl, "SelahGenerator$Parse", Or.inl rfl, Or.inl q2474⟩
theorem fpX10_62_X10 : zFP RX10 62 8 6 (.int) false := ⟨(RX10, TX10, 8, tyX10), rfl, by decide, in_X10, tyX10_ok, nmX10, rfl, rfl, (by decide), "SelahGenerator$Parse", Or.inl rfl, q2476⟩
theorem msX10_72 : zSV RX10 72 RX10 yX10_workOff cX10_workOff 4 none 2 := ⟨lw_V q2508 q2510 qs52 q171 q2511, (by decide +kernel), (by decide)⟩
abbrev mX10_give : zM := (cX10_give, RX10, 4, (some Jvm.ClassFile.FieldType.int), "give", [], "(I)I")
def fX10_give_178 (t : Nat) (x2 : Int32)  (G : GS) : Option ((Int32) × GS) :=
  (zgR G 9 t 4).bind fun r1 => r1.bind fun a3 => zk [12] G a3 <| (fJ2_size_0 a3 G).bind fun v7 => some ((v7 - x2), G)
theorem wfX10_give_178 {F : zF} (hd : 55 ≤ F.2.2.2) (t : Nat) (x2 : Int32)  (G : GS) {a : (Int32) × GS} (h : fX10_give_178 t x2  G = some a) (hk : zKI F a) : J mX10_give F G 178 [(0, vR (some t)), (2, vI x2)] [] := by
  unfold fX10_give_178 at h
  refine j_aload_n (j := 0) dX10_give_178 rfl rfl ?_
  replace h := zbE h
  obtain ⟨r1, e2, h⟩ := h
  refine j_getR fgX10_32 (fun _ _ _ => rfl) dX10_give_179 e2 ?_
  replace h := zbE h
  obtain ⟨a3, e4, h⟩ := h
  subst e4
  replace h := zkE h
  obtain ⟨e5, h⟩ := h
  replace h := zbE h
  obtain ⟨v7, e6, h⟩ := h
  refine j_cont (zrF (As := []) msX10_52_J2 (yJ2_size_ok e6) (Nat.le_trans (Nat.le_of_ble_eq_true rfl) hd) (zk_12 _ e5) rfl rfl (Nat.le_of_ble_eq_true rfl) dX10_give_182) ?_
  refine j_iload_n (j := 1) dX10_give_187 rfl rfl ?_
  refine j_isub dX10_give_188 ?_
  obtain rfl := Option.some.inj h
  exact j_iret hk.1 hk.2 rfl dX10_give_189
def fX10_give_156 (t : Nat) (x1 : Int32) (x2 : Int32)  (G : GS) : Option ((Int32) × GS) :=
  if x1 = 12 then ((zgI G 9 t 5).bind fun v2 => if v2 = 1 then (zk [9] G t <| (fX10_workOff_0 t 12 12 G).bind fun G7 => fX10_give_178 t x2 G7) else (fX10_give_178 t x2 G)) else (fX10_give_178 t x2 G)
theorem wfX10_give_156 {F : zF} (hd : 55 ≤ F.2.2.2) (t : Nat) (x1 : Int32) (x2 : Int32)  (G : GS) {a : (Int32) × GS} (h : fX10_give_156 t x1 x2  G = some a) (hk : zKI F a) : J mX10_give F G 156 [(0, vR (some t)), (1, vI x1), (2, vI x2)] [] := by
  unfold fX10_give_156 at h
  refine j_iload_n (j := 1) dX10_give_156 rfl rfl ?_
  refine j_bipush (v := 12) dX10_give_157 (by decide) ?_
  refine j_icmp_ne (tgt := 178) dX10_give_159 (by decide) (fun c1 => ?_) (fun c1 => ?_)
  · rw [if_pos c1] at h
    refine j_aload_n (j := 0) dX10_give_162 rfl rfl ?_
    replace h := zbE h
    obtain ⟨v2, e3, h⟩ := h
    refine j_getI fgX10_35 (fun _ _ _ => rfl) dX10_give_163 e3 ?_
    refine j_iconst (v := 1) dX10_give_166 (by decide) ?_
    refine j_icmp_ne (tgt := 178) dX10_give_167 (by decide) (fun c4 => ?_) (fun c4 => ?_)
    · rw [if_pos c4] at h
      refine j_aload_n (j := 0) dX10_give_170 rfl rfl ?_
      refine j_bipush (v := 12) dX10_give_171 (by decide) ?_
      refine j_bipush (v := 12) dX10_give_173 (by decide) ?_
      replace h := zkE h
      obtain ⟨e5, h⟩ := h
      replace h := zbE h
      obtain ⟨G7, e6, h⟩ := h
      refine j_cont (zrV (As := [vI 12, vI 12]) msX10_72 (yX10_workOff_ok e6) (Nat.le_trans (Nat.le_of_ble_eq_true rfl) hd) (zk_9 _ e5) rfl rfl (Nat.le_of_ble_eq_true rfl) dX10_give_175) ?_
      exact J.sub (zall [0, 2] rfl) (wfX10_give_178 hd t x2  G7 h hk)
    · rw [if_neg c4] at h
      exact J.sub (zall [0, 2] rfl) (wfX10_give_178 hd t x2  G h hk)
  · rw [if_neg c1] at h
    exact J.sub (zall [0, 2] rfl) (wfX10_give_178 hd t x2  G h hk)
def fX10_give_140 (t : Nat) (x1 : Int32) (x2 : Int32) (x3 : Int32) (s0 : Option Nat) (s1 : Int32) (s2 : Int32) (G : GS) : Option ((GS) ⊕ ((Int32) × GS)) :=
  s0.bind fun a1 => zk [9] G a1 <| (fX10_workOff_0 a1 s1 s2 G).bind fun G5 => (zgI G5 9 t 6).bind fun v6 => (zpI G5 9 t 6 (v6 + 1)).bind fun G8 => some (.inl (G8))
theorem wfX10_give_140 {F : zF} (hd : 55 ≤ F.2.2.2) (t : Nat) (x1 : Int32) (x2 : Int32) (x3 : Int32) (s0 : Option Nat) (s1 : Int32) (s2 : Int32) (G : GS) {a : (GS) ⊕ ((Int32) × GS)} (h : fX10_give_140 t x1 x2 x3 s0 s1 s2 G = some a) (hk : (zcase (fun s : GS => J mX10_give F s 60 [(0, vR (some t)), (1, vI x1), (2, vI x2), (3, vI x3)] []) (zKI F)) a) : J mX10_give F G 140 [(0, vR (some t)), (1, vI x1), (2, vI x2), (3, vI x3)] [vI s2, vI s1, vR s0] := by
  unfold fX10_give_140 at h
  replace h := zbE h
  obtain ⟨a1, e2, h⟩ := h
  subst e2
  replace h := zkE h
  obtain ⟨e3, h⟩ := h
  replace h := zbE h
  obtain ⟨G5, e4, h⟩ := h
  refine j_cont (zrV (As := [vI s1, vI s2]) msX10_72 (yX10_workOff_ok e4) (Nat.le_trans (Nat.le_of_ble_eq_true rfl) hd) (zk_9 _ e3) rfl rfl (Nat.le_of_ble_eq_true rfl) dX10_give_140) ?_
  refine j_aload_n (j := 0) dX10_give_143 rfl rfl ?_
  refine j_dup dX10_give_144 rfl ?_
  replace h := zbE h
  obtain ⟨v6, e7, h⟩ := h
  refine j_getI fgX10_62 (fun _ _ _ => rfl) dX10_give_145 e7 ?_
  refine j_iconst (v := 1) dX10_give_148 (by decide) ?_
  refine j_iadd dX10_give_149 ?_
  replace h := zbE h
  obtain ⟨G8, e9, h⟩ := h
  refine j_putI fpX10_62_X10 (Or.inl rfl) rfl dX10_give_150 e9 ?_
  refine j_goto (tgt := 60) dX10_give_153 (by decide) ?_
  obtain rfl := Option.some.inj h
  exact J.sub (zall [0, 1, 2, 3] rfl) hk
def fbX10_give_60 (t : Nat) (x1 : Int32) (x2 : Int32) (x3 : Int32)  (G : GS) : Option ((GS) ⊕ ((Int32) × GS)) :=
  (zgI G 9 t 6).bind fun v1 => if x3 ≤ v1 then (zo (fX10_give_156 t x1 x2 G)) else ((zgI G 9 t 5).bind fun v4 => if v4 = 1 then ((zgR G 9 t 2).bind fun r7 => (zgI G 9 t 6).bind fun v9 => r7.bind fun a11 => zk [12] G a11 <| (fJ2_get_0 a11 v9 G).bind fun r15 => zkq [21, 61] G r15 (r15.bind fun a17 => zk [21, 61] G a17 <| (fJ26_intValue_0 a17 G).bind fun v21 => (zgI G 9 t 6).bind fun v22 => (zgR G 9 t 2).bind fun r24 => r24.bind fun a26 => zk [12] G a26 <| (fJ2_size_0 a26 G).bind fun v30 => if v30 ≤ (v22 + 1) then (fX10_give_140 t x1 x2 x3 (some t) v21 12 G) else ((zgR G 9 t 2).bind fun r32 => (zgI G 9 t 6).bind fun v34 => r32.bind fun a36 => zk [12] G a36 <| (fJ2_get_0 a36 (v34 + 1) G).bind fun r40 => zkq [21, 61] G r40 (r40.bind fun a42 => zk [21, 61] G a42 <| (fJ26_intValue_0 a42 G).bind fun v46 => fX10_give_140 t x1 x2 x3 (some t) v21 v46 G)))) else (zo (fX10_give_156 t x1 x2 G)))
def flX10_give_60 (t : Nat) (x1 : Int32) (x2 : Int32) (x3 : Int32) (G : GS) : Option ((Int32) × GS) := zloop (fun s : GS => fbX10_give_60 t x1 x2 x3 s) (G)
theorem wfbX10_give_60 {F : zF} (hd : 55 ≤ F.2.2.2) (t : Nat) (x1 : Int32) (x2 : Int32) (x3 : Int32) (G : GS) {a : (GS) ⊕ ((Int32) × GS)} (h : fbX10_give_60 t x1 x2 x3 G = some a) (hk : (zcase (fun s : GS => J mX10_give F s 60 [(0, vR (some t)), (1, vI x1), (2, vI x2), (3, vI x3)] []) (zKI F)) a) : J mX10_give F G 60 [(0, vR (some t)), (1, vI x1), (2, vI x2), (3, vI x3)] [] := by
  unfold fbX10_give_60 at h
  refine j_aload_n (j := 0) dX10_give_60 rfl rfl ?_
  replace h := zbE h
  obtain ⟨v1, e2, h⟩ := h
  refine j_getI fgX10_62 (fun _ _ _ => rfl) dX10_give_61 e2 ?_
  refine j_iload_n (j := 3) dX10_give_64 rfl rfl ?_
  refine j_icmp_ge (tgt := 156) dX10_give_65 (by decide) (fun c3 => ?_) (fun c3 => ?_)
  · rw [if_pos c3] at h
    replace h := zoE h
    obtain ⟨a, h, rfl⟩ := h
    replace hk := hk
    exact J.sub (zall [0, 1, 2] rfl) (wfX10_give_156 hd t x1 x2  G h hk)
  · rw [if_neg c3] at h
    refine j_aload_n (j := 0) dX10_give_68 rfl rfl ?_
    replace h := zbE h
    obtain ⟨v4, e5, h⟩ := h
    refine j_getI fgX10_35 (fun _ _ _ => rfl) dX10_give_69 e5 ?_
    refine j_iconst (v := 1) dX10_give_72 (by decide) ?_
    refine j_icmp_ne (tgt := 156) dX10_give_73 (by decide) (fun c6 => ?_) (fun c6 => ?_)
    · rw [if_pos c6] at h
      refine j_aload_n (j := 0) dX10_give_76 rfl rfl ?_
      refine j_aload_n (j := 0) dX10_give_77 rfl rfl ?_
      replace h := zbE h
      obtain ⟨r7, e8, h⟩ := h
      refine j_getR fgX10_25 (fun _ _ _ => rfl) dX10_give_78 e8 ?_
      refine j_aload_n (j := 0) dX10_give_81 rfl rfl ?_
      replace h := zbE h
      obtain ⟨v9, e10, h⟩ := h
      refine j_getI fgX10_62 (fun _ _ _ => rfl) dX10_give_82 e10 ?_
      replace h := zbE h
      obtain ⟨a11, e12, h⟩ := h
      subst e12
      replace h := zkE h
      obtain ⟨e13, h⟩ := h
      replace h := zbE h
      obtain ⟨r15, e14, h⟩ := h
      refine j_cont (zrF (As := [vI v9]) msX10_65_J2 (yJ2_get_ok e14) (Nat.le_trans (Nat.le_of_ble_eq_true rfl) hd) (zk_12 _ e13) rfl rfl (Nat.le_of_ble_eq_true rfl) dX10_give_85) ?_
      replace h := zkqE h
      obtain ⟨e16, h⟩ := h
      refine j_castq (fun k => j_castN dX10_give_90 k) (fun b q48 k => j_castS (zk_21_61 _ (e16 b q48)) ⟨20, _, rfl, rfl⟩ q1487 dX10_give_90 k) ?_
      replace h := zbE h
      obtain ⟨a17, e18, h⟩ := h
      subst e18
      replace h := zkE h
      obtain ⟨e19, h⟩ := h
      replace h := zbE h
      obtain ⟨v21, e20, h⟩ := h
      refine j_cont (zrV (As := []) msX10_69 (yJ26_intValue_ok e20) (Nat.le_trans (Nat.le_of_ble_eq_true rfl) hd) (zk_21_61 _ e19) rfl rfl (Nat.le_of_ble_eq_true rfl) dX10_give_93) ?_
      refine j_aload_n (j := 0) dX10_give_96 rfl rfl ?_
      replace h := zbE h
      obtain ⟨v22, e23, h⟩ := h
      refine j_getI fgX10_62 (fun _ _ _ => rfl) dX10_give_97 e23 ?_
      refine j_iconst (v := 1) dX10_give_100 (by decide) ?_
      refine j_iadd dX10_give_101 ?_
      refine j_aload_n (j := 0) dX10_give_102 rfl rfl ?_
      replace h := zbE h
      obtain ⟨r24, e25, h⟩ := h
      refine j_getR fgX10_25 (fun _ _ _ => rfl) dX10_give_103 e25 ?_
      replace h := zbE h
      obtain ⟨a26, e27, h⟩ := h
      subst e27
      replace h := zkE h
      obtain ⟨e28, h⟩ := h
      replace h := zbE h
      obtain ⟨v30, e29, h⟩ := h
      refine j_cont (zrF (As := []) msX10_52_J2 (yJ2_size_ok e29) (Nat.le_trans (Nat.le_of_ble_eq_true rfl) hd) (zk_12 _ e28) rfl rfl (Nat.le_of_ble_eq_true rfl) dX10_give_106) ?_
      refine j_icmp_ge (tgt := 138) dX10_give_111 (by decide) (fun c31 => ?_) (fun c31 => ?_)
      · rw [if_pos c31] at h
        refine j_bipush (v := 12) dX10_give_138 (by decide) ?_
        exact J.sub (zall [0, 1, 2, 3] rfl) (wfX10_give_140 hd t x1 x2 x3 (some t) v21 12 G h hk)
      · rw [if_neg c31] at h
        refine j_aload_n (j := 0) dX10_give_114 rfl rfl ?_
        replace h := zbE h
        obtain ⟨r32, e33, h⟩ := h
        refine j_getR fgX10_25 (fun _ _ _ => rfl) dX10_give_115 e33 ?_
        refine j_aload_n (j := 0) dX10_give_118 rfl rfl ?_
        replace h := zbE h
        obtain ⟨v34, e35, h⟩ := h
        refine j_getI fgX10_62 (fun _ _ _ => rfl) dX10_give_119 e35 ?_
        refine j_iconst (v := 1) dX10_give_122 (by decide) ?_
        refine j_iadd dX10_give_123 ?_
        replace h := zbE h
        obtain ⟨a36, e37, h⟩ := h
        subst e37
        replace h := zkE h
        obtain ⟨e38, h⟩ := h
        replace h := zbE h
        obtain ⟨r40, e39, h⟩ := h
        refine j_cont (zrF (As := [vI (v34 + 1)]) msX10_65_J2 (yJ2_get_ok e39) (Nat.le_trans (Nat.le_of_ble_eq_true rfl) hd) (zk_12 _ e38) rfl rfl (Nat.le_of_ble_eq_true rfl) dX10_give_124) ?_
        replace h := zkqE h
        obtain ⟨e41, h⟩ := h
        refine j_castq (fun k => j_castN dX10_give_129 k) (fun b q47 k => j_castS (zk_21_61 _ (e41 b q47)) ⟨20, _, rfl, rfl⟩ q1487 dX10_give_129 k) ?_
        replace h := zbE h
        obtain ⟨a42, e43, h⟩ := h
        subst e43
        replace h := zkE h
        obtain ⟨e44, h⟩ := h
        replace h := zbE h
        obtain ⟨v46, e45, h⟩ := h
        refine j_cont (zrV (As := []) msX10_69 (yJ26_intValue_ok e45) (Nat.le_trans (Nat.le_of_ble_eq_true rfl) hd) (zk_21_61 _ e44) rfl rfl (Nat.le_of_ble_eq_true rfl) dX10_give_132) ?_
        refine j_goto (tgt := 140) dX10_give_135 (by decide) ?_
        exact J.sub (zall [0, 1, 2, 3] rfl) (wfX10_give_140 hd t x1 x2 x3 (some t) v21 v46 G h hk)
    · rw [if_neg c6] at h
      replace h := zoE h
      obtain ⟨a, h, rfl⟩ := h
      replace hk := hk
      exact J.sub (zall [0, 1, 2] rfl) (wfX10_give_156 hd t x1 x2  G h hk)
theorem wflX10_give_60 {F : zF} (hd : 55 ≤ F.2.2.2) (t : Nat) (x1 : Int32) (x2 : Int32) (x3 : Int32) (G : GS) {a : (Int32) × GS} (h : flX10_give_60 t x1 x2 x3 G = some a) (hk : zKI F a) : J mX10_give F G 60 [(0, vR (some t)), (1, vI x1), (2, vI x2), (3, vI x3)] [] := by
  unfold flX10_give_60 at h
  exact zloop_walk (P := (fun s : GS => J mX10_give F s 60 [(0, vR (some t)), (1, vI x1), (2, vI x2), (3, vI x3)] [])) (fun s b e hk => wfbX10_give_60 hd t x1 x2 x3 s e hk) (G) _ h hk
def fX10_give_58 (t : Nat) (x1 : Int32) (x2 : Int32) (s0 : Int32) (s1 : Int32) (G : GS) : Option ((Int32) × GS) :=
  flX10_give_60 t x1 x2 (s0 - s1) G
theorem wfX10_give_58 {F : zF} (hd : 55 ≤ F.2.2.2) (t : Nat) (x1 : Int32) (x2 : Int32) (s0 : Int32) (s1 : Int32) (G : GS) {a : (Int32) × GS} (h : fX10_give_58 t x1 x2 s0 s1 G = some a) (hk : zKI F a) : J mX10_give F G 58 [(0, vR (some t)), (1, vI x1), (2, vI x2)] [vI s1, vI s0] := by
  unfold fX10_give_58 at h
  refine j_isub dX10_give_58 ?_
  refine j_istore_n (lv' := [(3, vI (s0 - s1)), (0, vR (some t)), (1, vI x1), (2, vI x2)]) dX10_give_59 rfl (Nat.le_of_ble_eq_true rfl) rfl ?_
  exact J.sub (zall [1, 2, 3, 0] rfl) (wflX10_give_60 hd t x1 x2 (s0 - s1)  G h hk)
def fX10_give_57 (t : Nat) (x1 : Int32) (x2 : Int32) (s0 : Int32) (G : GS) : Option ((Int32) × GS) :=
  fX10_give_58 t x1 x2 s0 0 G
theorem wfX10_give_57 {F : zF} (hd : 55 ≤ F.2.2.2) (t : Nat) (x1 : Int32) (x2 : Int32) (s0 : Int32) (G : GS) {a : (Int32) × GS} (h : fX10_give_57 t x1 x2 s0 G = some a) (hk : zKI F a) : J mX10_give F G 57 [(0, vR (some t)), (1, vI x1), (2, vI x2)] [vI s0] := by
  unfold fX10_give_57 at h
  refine j_iconst (v := 0) dX10_give_57 (by decide) ?_
  exact J.sub (zall [0, 1, 2] rfl) (wfX10_give_58 hd t x1 x2 s0 0 G h hk)
def fX10_give_30 (t : Nat) (x1 : Int32) (x2 : Int32)  (G : GS) : Option ((Int32) × GS) :=
  (zgR G 9 t 2).bind fun r1 => r1.bind fun a3 => zk [12] G a3 <| (fJ2_size_0 a3 G).bind fun v7 => (zgI G 9 t 0).bind fun v8 => if v8 = 2 then (if x1 = 12 then (fX10_give_57 t x1 x2 v7 G) else (fX10_give_58 t x1 x2 v7 1 G)) else (fX10_give_57 t x1 x2 v7 G)
theorem wfX10_give_30 {F : zF} (hd : 55 ≤ F.2.2.2) (t : Nat) (x1 : Int32) (x2 : Int32)  (G : GS) {a : (Int32) × GS} (h : fX10_give_30 t x1 x2  G = some a) (hk : zKI F a) : J mX10_give F G 30 [(0, vR (some t)), (1, vI x1), (2, vI x2)] [] := by
  unfold fX10_give_30 at h
  refine j_aload_n (j := 0) dX10_give_30 rfl rfl ?_
  replace h := zbE h
  obtain ⟨r1, e2, h⟩ := h
  refine j_getR fgX10_25 (fun _ _ _ => rfl) dX10_give_31 e2 ?_
  replace h := zbE h
  obtain ⟨a3, e4, h⟩ := h
  subst e4
  replace h := zkE h
  obtain ⟨e5, h⟩ := h
  replace h := zbE h
  obtain ⟨v7, e6, h⟩ := h
  refine j_cont (zrF (As := []) msX10_52_J2 (yJ2_size_ok e6) (Nat.le_trans (Nat.le_of_ble_eq_true rfl) hd) (zk_12 _ e5) rfl rfl (Nat.le_of_ble_eq_true rfl) dX10_give_34) ?_
  refine j_aload_n (j := 0) dX10_give_39 rfl rfl ?_
  replace h := zbE h
  obtain ⟨v8, e9, h⟩ := h
  refine j_getI fgX10_39 (fun _ _ _ => rfl) dX10_give_40 e9 ?_
  refine j_iconst (v := 2) dX10_give_43 (by decide) ?_
  refine j_icmp_ne (tgt := 57) dX10_give_44 (by decide) (fun c10 => ?_) (fun c10 => ?_)
  · rw [if_pos c10] at h
    refine j_iload_n (j := 1) dX10_give_47 rfl rfl ?_
    refine j_bipush (v := 12) dX10_give_48 (by decide) ?_
    refine j_icmp_eq (tgt := 57) dX10_give_50 (by decide) (fun c11 => ?_) (fun c11 => ?_)
    · rw [if_pos c11] at h
      exact J.sub (zall [0, 1, 2] rfl) (wfX10_give_57 hd t x1 x2 v7 G h hk)
    · rw [if_neg c11] at h
      refine j_iconst (v := 1) dX10_give_53 (by decide) ?_
      refine j_goto (tgt := 58) dX10_give_54 (by decide) ?_
      exact J.sub (zall [0, 1, 2] rfl) (wfX10_give_58 hd t x1 x2 v7 1 G h hk)
  · rw [if_neg c10] at h
    exact J.sub (zall [0, 1, 2] rfl) (wfX10_give_57 hd t x1 x2 v7 G h hk)
def fX10_give_0 (t : Nat) (x1 : Int32)  (G : GS) : Option ((Int32) × GS) :=
  (zgR G 9 t 4).bind fun r1 => r1.bind fun a3 => zk [12] G a3 <| (fJ2_size_0 a3 G).bind fun v7 => if x1 = 12 then (fX10_give_30 t x1 v7 G) else ((zgR G 9 t 2).bind fun r9 => zb2 (fJ26_valueOf_0 x1 G) fun r12 G13 => r9.bind fun a14 => zk [12] G13 a14 <| zb2 (fJ2_add_0 a14 r12 G13) fun v18 G19 => fX10_give_30 t x1 v7 G19)
theorem wfX10_give_0 {F : zF} (hd : 55 ≤ F.2.2.2) (t : Nat) (x1 : Int32)  (G : GS) {a : (Int32) × GS} (h : fX10_give_0 t x1  G = some a) (hk : zKI F a) : J mX10_give F G 0 [(0, vR (some t)), (1, vI x1)] [] := by
  unfold fX10_give_0 at h
  refine j_aload_n (j := 0) dX10_give_0 rfl rfl ?_
  replace h := zbE h
  obtain ⟨r1, e2, h⟩ := h
  refine j_getR fgX10_32 (fun _ _ _ => rfl) dX10_give_1 e2 ?_
  replace h := zbE h
  obtain ⟨a3, e4, h⟩ := h
  subst e4
  replace h := zkE h
  obtain ⟨e5, h⟩ := h
  replace h := zbE h
  obtain ⟨v7, e6, h⟩ := h
  refine j_cont (zrF (As := []) msX10_52_J2 (yJ2_size_ok e6) (Nat.le_trans (Nat.le_of_ble_eq_true rfl) hd) (zk_12 _ e5) rfl rfl (Nat.le_of_ble_eq_true rfl) dX10_give_4) ?_
  refine j_istore_n (lv' := [(2, vI v7), (0, vR (some t)), (1, vI x1)]) dX10_give_9 rfl (Nat.le_of_ble_eq_true rfl) rfl ?_
  refine j_iload_n (j := 2) dX10_give_10 rfl rfl ?_
  refine j_bipush (v := 12) dX10_give_11 (by decide) ?_
  refine j_icmp_eq (tgt := 30) dX10_give_13 (by decide) (fun c8 => ?_) (fun c8 => ?_)
  · rw [if_pos c8] at h
    exact J.sub (zall [1, 2, 0] rfl) (wfX10_give_30 hd t x1 v7  G h hk)
  · rw [if_neg c8] at h
    refine j_aload_n (j := 1) dX10_give_16 rfl rfl ?_
    replace h := zbE h
    obtain ⟨r9, e10, h⟩ := h
    refine j_getR fgX10_25 (fun _ _ _ => rfl) dX10_give_17 e10 ?_
    refine j_iload_n (j := 2) dX10_give_20 rfl rfl ?_
    replace h := zb2E h
    obtain ⟨r12, G13, e11, h⟩ := h
    refine j_cont (zrS (As := [vI x1]) msX10_42 (yJ26_valueOf_ok e11) (Nat.le_trans (Nat.le_of_ble_eq_true rfl) hd) rfl rfl (Nat.le_of_ble_eq_true rfl) dX10_give_21) ?_
    replace h := zbE h
    obtain ⟨a14, e15, h⟩ := h
    subst e15
    replace h := zkE h
    obtain ⟨e16, h⟩ := h
    replace h := zb2E h
    obtain ⟨v18, G19, e17, h⟩ := h
    refine j_cont (zrF (As := [vR r12]) msX10_58_J2 (yJ2_add_ok e17) (Nat.le_trans (Nat.le_of_ble_eq_true rfl) hd) (zk_12 _ e16) rfl rfl (Nat.le_of_ble_eq_true rfl) dX10_give_24) ?_
    refine j_pop dX10_give_29 rfl ?_
    exact J.sub (zall [1, 2, 0] rfl) (wfX10_give_30 hd t x1 v7  G19 h hk)
theorem yX10_give_ok {t : Nat} {x1 : Int32} {G : GS} {r : Int32} {G1 : GS} (h : fX10_give_0 t x1 G = some (r, G1)) : zRuns yX10_give (ws_ yX10_give cX10_give 4 (some Jvm.ClassFile.FieldType.int)) [vR (some t), vI x1] (.inl (some (vI r)), G, G1, 55) :=
  zentry (M := mX10_give) (plainFor_of_name (by decide +kernel)) ⟨rfl, rfl, rfl, rfl⟩ (Nat.le_of_ble_eq_true rfl) (wfX10_give_0 (Nat.le_refl _) t x1 G h ⟨rfl, rfl⟩)
theorem msX1_149 : zSS RX1 149 yX1_token cX1_token 1 (some Jvm.ClassFile.FieldType.int) 1 := ⟨lw_S q1907 q1908 q123 q1909, (by decide +kernel), (by decide)⟩
theorem msX1_213 : zSV RX1 213 RX10 yX10_give cX10_give 4 (some Jvm.ClassFile.FieldType.int) 1 := ⟨lw_V q2502 q2503 q2504 q171 q2505, (by decide +kernel), (by decide)⟩
abbrev mX1_give : zM := (cX1_give, RX1, 3, (some Jvm.ClassFile.FieldType.int), "give", [], "(I)I")
def fX1_give_51 (t : Nat) (x2 : Int32) (s0 : Int32) (G : GS) : Option (((Int32) ⊕ String) × GS) :=
  zb3 (fX1_may_0 s0 G) (fun u5 G2 => (zgR G2 1 t 3).bind fun r6 => r6.bind fun a8 => zk [9] G2 a8 <| zb2 (fX10_give_0 a8 x2 G2) fun v12 G13 => some (.inl v12, G13)) (fun X3 G4 => some (.inr X3, G4))
theorem wfX1_give_51 {F : zF} (hd : 56 ≤ F.2.2.2) (t : Nat) (x2 : Int32) (s0 : Int32) (G : GS) {a : ((Int32) ⊕ String) × GS} (h : fX1_give_51 t x2 s0 G = some a) (hk : zKXI F a) : J mX1_give F G 51 [(0, vR (some t)), (2, vI x2)] [vI s0] := by
  unfold fX1_give_51 at h
  replace h := zb3E h
  rcases h with ⟨u5, G2, e1, h⟩ | ⟨X3, G4, e1, h⟩
  · refine j_cont (zrS (As := [vI s0]) msX1_79 (yX1_may_ok e1) (Nat.le_trans (Nat.le_of_ble_eq_true rfl) hd) rfl rfl (Nat.le_of_ble_eq_true rfl) dX1_give_51) ?_
    refine j_aload_n (j := 0) dX1_give_54 rfl rfl ?_
    replace h := zbE h
    obtain ⟨r6, e7, h⟩ := h
    refine j_getR fgX1_43 (fun _ _ _ => rfl) dX1_give_55 e7 ?_
    refine j_iload_n (j := 1) dX1_give_58 rfl rfl ?_
    replace h := zbE h
    obtain ⟨a8, e9, h⟩ := h
    subst e9
    replace h := zkE h
    obtain ⟨e10, h⟩ := h
    replace h := zb2E h
    obtain ⟨v12, G13, e11, h⟩ := h
    refine j_cont (zrV (As := [vI x2]) msX1_213 (yX10_give_ok e11) (Nat.le_trans (Nat.le_of_ble_eq_true rfl) hd) (zk_9 _ e10) rfl rfl (Nat.le_of_ble_eq_true rfl) dX1_give_59) ?_
    obtain rfl := Option.some.inj h
    exact j_iret hk.1 hk.2 rfl dX1_give_62
  · refine j_thr (zrS (As := [vI s0]) msX1_79 (yX1_may_ok e1) (Nat.le_trans (Nat.le_of_ble_eq_true rfl) hd) rfl rfl (Nat.le_of_ble_eq_true rfl) dX1_give_51) ?_
    obtain rfl := Option.some.inj h
    exact jx_out hk.1 hk.2 (by decide)
def fX1_give_50 (t : Nat) (x2 : Int32)  (G : GS) : Option (((Int32) ⊕ String) × GS) :=
  fX1_give_51 t x2 0 G
theorem wfX1_give_50 {F : zF} (hd : 56 ≤ F.2.2.2) (t : Nat) (x2 : Int32)  (G : GS) {a : ((Int32) ⊕ String) × GS} (h : fX1_give_50 t x2  G = some a) (hk : zKXI F a) : J mX1_give F G 50 [(0, vR (some t)), (2, vI x2)] [] := by
  unfold fX1_give_50 at h
  refine j_iconst (v := 0) dX1_give_50 (by decide) ?_
  exact J.sub (zall [0, 1] rfl) (wfX1_give_51 hd t x2 0 G h hk)
def fX1_give_46 (t : Nat) (x2 : Int32)  (G : GS) : Option (((Int32) ⊕ String) × GS) :=
  fX1_give_51 t x2 1 G
theorem wfX1_give_46 {F : zF} (hd : 56 ≤ F.2.2.2) (t : Nat) (x2 : Int32)  (G : GS) {a : ((Int32) ⊕ String) × GS} (h : fX1_give_46 t x2  G = some a) (hk : zKXI F a) : J mX1_give F G 46 [(0, vR (some t)), (2, vI x2)] [] := by
  unfold fX1_give_46 at h
  refine j_iconst (v := 1) dX1_give_46 (by decide) ?_
  refine j_goto (tgt := 51) dX1_give_47 (by decide) ?_
  exact J.sub (zall [0, 1] rfl) (wfX1_give_51 hd t x2 1 G h hk)
def fX1_give_0 (t : Nat) (x1 : Int32)  (G : GS) : Option (((Int32) ⊕ String) × GS) :=
  zb3 (fX1_token_0 x1 G) (fun v2 G3 => (zgR G3 1 t 3).bind fun r6 => zopt r6 (fX1_give_50 t v2 G3) (fun a8 => (zgR G3 1 t 3).bind fun r9 => r9.bind fun a11 => (zgI G3 9 a11 5).bind fun v13 => if v13 = 1 then (if v2 = 12 then (fX1_give_46 t v2 G3) else ((zgR G3 1 t 3).bind fun r17 => r17.bind fun a19 => (zgR G3 9 a19 2).bind fun r21 => r21.bind fun a23 => zk [12] G3 a23 <| (fJ2_size_0 a23 G3).bind fun v27 => if 40 ≤ v27 then (fX1_give_50 t v2 G3) else (fX1_give_46 t v2 G3))) else (fX1_give_50 t v2 G3))) (fun X4 G5 => some (.inr X4, G5))
theorem wfX1_give_0 {F : zF} (hd : 56 ≤ F.2.2.2) (t : Nat) (x1 : Int32)  (G : GS) {a : ((Int32) ⊕ String) × GS} (h : fX1_give_0 t x1  G = some a) (hk : zKXI F a) : J mX1_give F G 0 [(0, vR (some t)), (1, vI x1)] [] := by
  unfold fX1_give_0 at h
  refine j_iload_n (j := 1) dX1_give_0 rfl rfl ?_
  replace h := zb3E h
  rcases h with ⟨v2, G3, e1, h⟩ | ⟨X4, G5, e1, h⟩
  · refine j_cont (zrS (As := [vI x1]) msX1_149 (yX1_token_ok e1) (Nat.le_trans (Nat.le_of_ble_eq_true rfl) hd) rfl rfl (Nat.le_of_ble_eq_true rfl) dX1_give_1) ?_
    refine j_istore_n (lv' := [(2, vI v2), (0, vR (some t)), (1, vI x1)]) dX1_give_4 rfl (Nat.le_of_ble_eq_true rfl) rfl ?_
    refine j_aload_n (j := 1) dX1_give_5 rfl rfl ?_
    replace h := zbE h
    obtain ⟨r6, e7, h⟩ := h
    refine j_getR fgX1_43 (fun _ _ _ => rfl) dX1_give_6 e7 ?_
    rcases r6 with _ | a8
    · replace h := zopt_n h
      refine j_ifnull0 (tgt := 50) dX1_give_9 (by decide) ?_
      exact J.sub (zall [1, 0] rfl) (wfX1_give_50 hd t v2  G3 h hk)
    · replace h := zopt_s h
      refine j_ifnull1 dX1_give_9 ?_
      refine j_aload_n (j := 1) dX1_give_12 rfl rfl ?_
      replace h := zbE h
      obtain ⟨r9, e10, h⟩ := h
      refine j_getR fgX1_43 (fun _ _ _ => rfl) dX1_give_13 e10 ?_
      replace h := zbE h
      obtain ⟨a11, e12, h⟩ := h
      subst e12
      replace h := zbE h
      obtain ⟨v13, e14, h⟩ := h
      refine j_getI fgX1_207 (fun _ _ _ => rfl) dX1_give_16 e14 ?_
      refine j_iconst (v := 1) dX1_give_19 (by decide) ?_
      refine j_icmp_ne (tgt := 50) dX1_give_20 (by decide) (fun c15 => ?_) (fun c15 => ?_)
      · rw [if_pos c15] at h
        refine j_iload_n (j := 0) dX1_give_23 rfl rfl ?_
        refine j_bipush (v := 12) dX1_give_24 (by decide) ?_
        refine j_icmp_eq (tgt := 46) dX1_give_26 (by decide) (fun c16 => ?_) (fun c16 => ?_)
        · rw [if_pos c16] at h
          exact J.sub (zall [1, 0] rfl) (wfX1_give_46 hd t v2  G3 h hk)
        · rw [if_neg c16] at h
          refine j_aload_n (j := 1) dX1_give_29 rfl rfl ?_
          replace h := zbE h
          obtain ⟨r17, e18, h⟩ := h
          refine j_getR fgX1_43 (fun _ _ _ => rfl) dX1_give_30 e18 ?_
          replace h := zbE h
          obtain ⟨a19, e20, h⟩ := h
          subst e20
          replace h := zbE h
          obtain ⟨r21, e22, h⟩ := h
          refine j_getR fgX1_210 (fun _ _ _ => rfl) dX1_give_33 e22 ?_
          replace h := zbE h
          obtain ⟨a23, e24, h⟩ := h
          subst e24
          replace h := zkE h
          obtain ⟨e25, h⟩ := h
          replace h := zbE h
          obtain ⟨v27, e26, h⟩ := h
          refine j_cont (zrF (As := []) msX1_54_J2 (yJ2_size_ok e26) (Nat.le_trans (Nat.le_of_ble_eq_true rfl) hd) (zk_12 _ e25) rfl rfl (Nat.le_of_ble_eq_true rfl) dX1_give_36) ?_
          refine j_bipush (v := 40) dX1_give_41 (by decide) ?_
          refine j_icmp_ge (tgt := 50) dX1_give_43 (by decide) (fun c28 => ?_) (fun c28 => ?_)
          · rw [if_pos c28] at h
            exact J.sub (zall [1, 0] rfl) (wfX1_give_50 hd t v2  G3 h hk)
          · rw [if_neg c28] at h
            exact J.sub (zall [1, 0] rfl) (wfX1_give_46 hd t v2  G3 h hk)
      · rw [if_neg c15] at h
        exact J.sub (zall [1, 0] rfl) (wfX1_give_50 hd t v2  G3 h hk)
  · refine j_thr (zrS (As := [vI x1]) msX1_149 (yX1_token_ok e1) (Nat.le_trans (Nat.le_of_ble_eq_true rfl) hd) rfl rfl (Nat.le_of_ble_eq_true rfl) dX1_give_1) ?_
    obtain rfl := Option.some.inj h
    exact jx_out hk.1 hk.2 (by decide)
theorem yX1_give_ok {t : Nat} {x1 : Int32} {G : GS} {r : (Int32) ⊕ String} {G1 : GS} (h : fX1_give_0 t x1 G = some (r, G1)) : zRuns yX1_give (ws_ yX1_give cX1_give 3 (some Jvm.ClassFile.FieldType.int)) [vR (some t), vI x1] (zout (fun v => some (vI v)) r, G, G1, 56) :=
  zentry (M := mX1_give) (plainFor_of_name (by decide +kernel)) ⟨rfl, rfl, rfl, rfl⟩ (Nat.le_of_ble_eq_true rfl) (wfX1_give_0 (Nat.le_refl _) t x1 G h ⟨rfl, rfl⟩)
abbrev mX1_isLL1 : zM := (cX1_isLL1, RX1, 1, (some Jvm.ClassFile.FieldType.boolean), "isLL1", [], "()Z")
def fX1_isLL1_0 (t : Nat)  (G : GS) : Option ((Int32) × GS) :=
  zk [1] G t <| zb2 (fX1_sets_0 t G) fun r3 G4 => r3.bind fun a5 => zk [5] G4 a5 <| zb2 (fX5_conflicts_0 a5 G4) fun v9 G10 => if v9 = 0 then (zcond (zbb 1) (some (1, G10))) else (zcond (zbb 0) (some (0, G10)))
theorem wfX1_isLL1_0 {F : zF} (hd : 52 ≤ F.2.2.2) (t : Nat)  (G : GS) {a : (Int32) × GS} (h : fX1_isLL1_0 t  G = some a) (hk : zKI F a) : J mX1_isLL1 F G 0 [(0, vR (some t))] [] := by
  unfold fX1_isLL1_0 at h
  refine j_aload_n (j := 0) dX1_isLL1_0 rfl rfl ?_
  replace h := zkE h
  obtain ⟨e1, h⟩ := h
  replace h := zb2E h
  obtain ⟨r3, G4, e2, h⟩ := h
  refine j_cont (zrV (As := []) msX1_128 (yX1_sets_ok e2) (Nat.le_trans (Nat.le_of_ble_eq_true rfl) hd) (zk_1 _ e1) rfl rfl (Nat.le_of_ble_eq_true rfl) dX1_isLL1_1) ?_
  replace h := zbE h
  obtain ⟨a5, e6, h⟩ := h
  subst e6
  replace h := zkE h
  obtain ⟨e7, h⟩ := h
  replace h := zb2E h
  obtain ⟨v9, G10, e8, h⟩ := h
  refine j_cont (zrV (As := []) msX1_156 (yX5_conflicts_ok e8) (Nat.le_trans (Nat.le_of_ble_eq_true rfl) hd) (zk_5 _ e7) rfl rfl (Nat.le_of_ble_eq_true rfl) dX1_isLL1_4) ?_
  refine j_if_ne (tgt := 14) dX1_isLL1_7 (by decide) (fun c11 => ?_) (fun c11 => ?_)
  · rw [if_pos c11] at h
    refine j_iconst (v := 1) dX1_isLL1_10 (by decide) ?_
    refine j_goto (tgt := 15) dX1_isLL1_11 (by decide) ?_
    replace h := zcondE h
    obtain ⟨e12, h⟩ := h
    obtain rfl := Option.some.inj h
    exact j_zret hk.1 hk.2 rfl (zbb_n e12) dX1_isLL1_15
  · rw [if_neg c11] at h
    refine j_iconst (v := 0) dX1_isLL1_14 (by decide) ?_
    replace h := zcondE h
    obtain ⟨e13, h⟩ := h
    obtain rfl := Option.some.inj h
    exact j_zret hk.1 hk.2 rfl (zbb_n e13) dX1_isLL1_15
theorem yX1_isLL1_ok {t : Nat} {G : GS} {r : Int32} {G1 : GS} (h : fX1_isLL1_0 t G = some (r, G1)) : zRuns yX1_isLL1 (ws_ yX1_isLL1 cX1_isLL1 1 (some Jvm.ClassFile.FieldType.boolean)) [vR (some t)] (.inl (some (vI r)), G, G1, 52) :=
  zentry (M := mX1_isLL1) (plainFor_of_name (by decide +kernel)) ⟨rfl, rfl, rfl, rfl⟩ (Nat.le_of_ble_eq_true rfl) (wfX1_isLL1_0 (Nat.le_refl _) t G h ⟨rfl, rfl⟩)
abbrev mX1_isLeftRecursive : zM := (cX1_isLeftRecursive, RX1, 2, (some Jvm.ClassFile.FieldType.boolean), "isLeftRecursive", [], "(I)Z")
def fX1_isLeftRecursive_0 (t : Nat) (x1 : Int32)  (G : GS) : Option (((Int32) ⊕ String) × GS) :=
  zk [1] G t <| zb2 (fX1_sets_0 t G) fun r3 G4 => zb3 (fX1_index_0 x1 G4) (fun v6 G7 => r3.bind fun a10 => zk [5] G7 a10 <| (fX5_isLeftRecursive_0 a10 v6 G7).bind fun v14 => zcond (zbb v14) (some (.inl v14, G7))) (fun X8 G9 => some (.inr X8, G9))
theorem wfX1_isLeftRecursive_0 {F : zF} (hd : 52 ≤ F.2.2.2) (t : Nat) (x1 : Int32)  (G : GS) {a : ((Int32) ⊕ String) × GS} (h : fX1_isLeftRecursive_0 t x1  G = some a) (hk : zKXI F a) : J mX1_isLeftRecursive F G 0 [(0, vR (some t)), (1, vI x1)] [] := by
  unfold fX1_isLeftRecursive_0 at h
  refine j_aload_n (j := 0) dX1_isLeftRecursive_0 rfl rfl ?_
  replace h := zkE h
  obtain ⟨e1, h⟩ := h
  replace h := zb2E h
  obtain ⟨r3, G4, e2, h⟩ := h
  refine j_cont (zrV (As := []) msX1_128 (yX1_sets_ok e2) (Nat.le_trans (Nat.le_of_ble_eq_true rfl) hd) (zk_1 _ e1) rfl rfl (Nat.le_of_ble_eq_true rfl) dX1_isLeftRecursive_1) ?_
  refine j_iload_n (j := 1) dX1_isLeftRecursive_4 rfl rfl ?_
  replace h := zb3E h
  rcases h with ⟨v6, G7, e5, h⟩ | ⟨X8, G9, e5, h⟩
  · refine j_cont (zrS (As := [vI x1]) msX1_76 (yX1_index_ok e5) (Nat.le_trans (Nat.le_of_ble_eq_true rfl) hd) rfl rfl (Nat.le_of_ble_eq_true rfl) dX1_isLeftRecursive_5) ?_
    replace h := zbE h
    obtain ⟨a10, e11, h⟩ := h
    subst e11
    replace h := zkE h
    obtain ⟨e12, h⟩ := h
    replace h := zbE h
    obtain ⟨v14, e13, h⟩ := h
    refine j_cont (zrV (As := [vI v6]) msX1_172 (yX5_isLeftRecursive_ok e13) (Nat.le_trans (Nat.le_of_ble_eq_true rfl) hd) (zk_5 _ e12) rfl rfl (Nat.le_of_ble_eq_true rfl) dX1_isLeftRecursive_8) ?_
    replace h := zcondE h
    obtain ⟨e15, h⟩ := h
    obtain rfl := Option.some.inj h
    exact j_zret hk.1 hk.2 rfl (zbb_n e15) dX1_isLeftRecursive_11
  · refine j_thr (zrS (As := [vI x1]) msX1_76 (yX1_index_ok e5) (Nat.le_trans (Nat.le_of_ble_eq_true rfl) hd) rfl rfl (Nat.le_of_ble_eq_true rfl) dX1_isLeftRecursive_5) ?_
    obtain rfl := Option.some.inj h
    exact jx_out hk.1 hk.2 (by decide)
theorem yX1_isLeftRecursive_ok {t : Nat} {x1 : Int32} {G : GS} {r : (Int32) ⊕ String} {G1 : GS} (h : fX1_isLeftRecursive_0 t x1 G = some (r, G1)) : zRuns yX1_isLeftRecursive (ws_ yX1_isLeftRecursive cX1_isLeftRecursive 2 (some Jvm.ClassFile.FieldType.boolean)) [vR (some t), vI x1] (zout (fun v => some (vI v)) r, G, G1, 52) :=
  zentry (M := mX1_isLeftRecursive) (plainFor_of_name (by decide +kernel)) ⟨rfl, rfl, rfl, rfl⟩ (Nat.le_of_ble_eq_true rfl) (wfX1_isLeftRecursive_0 (Nat.le_refl _) t x1 G h ⟨rfl, rfl⟩)
theorem msX1_131 : zSV RX1 131 RX5 yX5_isNullable cX5_isNullable 2 (some Jvm.ClassFile.FieldType.boolean) 1 := ⟨lw_V q1871 q460 q461 q151 q462, (by decide +kernel), (by decide)⟩
abbrev mX1_isNullable : zM := (cX1_isNullable, RX1, 2, (some Jvm.ClassFile.FieldType.boolean), "isNullable", [], "(I)Z")
def fX1_isNullable_0 (t : Nat) (x1 : Int32)  (G : GS) : Option (((Int32) ⊕ String) × GS) :=
  zk [1] G t <| zb2 (fX1_sets_0 t G) fun r3 G4 => zb3 (fX1_index_0 x1 G4) (fun v6 G7 => r3.bind fun a10 => zk [5] G7 a10 <| (fX5_isNullable_0 a10 (20 + v6) G7).bind fun v14 => zcond (zbb v14) (some (.inl v14, G7))) (fun X8 G9 => some (.inr X8, G9))
theorem wfX1_isNullable_0 {F : zF} (hd : 52 ≤ F.2.2.2) (t : Nat) (x1 : Int32)  (G : GS) {a : ((Int32) ⊕ String) × GS} (h : fX1_isNullable_0 t x1  G = some a) (hk : zKXI F a) : J mX1_isNullable F G 0 [(0, vR (some t)), (1, vI x1)] [] := by
  unfold fX1_isNullable_0 at h
  refine j_aload_n (j := 0) dX1_isNullable_0 rfl rfl ?_
  replace h := zkE h
  obtain ⟨e1, h⟩ := h
  replace h := zb2E h
  obtain ⟨r3, G4, e2, h⟩ := h
  refine j_cont (zrV (As := []) msX1_128 (yX1_sets_ok e2) (Nat.le_trans (Nat.le_of_ble_eq_true rfl) hd) (zk_1 _ e1) rfl rfl (Nat.le_of_ble_eq_true rfl) dX1_isNullable_1) ?_
  refine j_bipush (v := 20) dX1_isNullable_4 (by decide) ?_
  refine j_iload_n (j := 1) dX1_isNullable_6 rfl rfl ?_
  replace h := zb3E h
  rcases h with ⟨v6, G7, e5, h⟩ | ⟨X8, G9, e5, h⟩
  · refine j_cont (zrS (As := [vI x1]) msX1_76 (yX1_index_ok e5) (Nat.le_trans (Nat.le_of_ble_eq_true rfl) hd) rfl rfl (Nat.le_of_ble_eq_true rfl) dX1_isNullable_7) ?_
    refine j_iadd dX1_isNullable_10 ?_
    replace h := zbE h
    obtain ⟨a10, e11, h⟩ := h
    subst e11
    replace h := zkE h
    obtain ⟨e12, h⟩ := h
    replace h := zbE h
    obtain ⟨v14, e13, h⟩ := h
    refine j_cont (zrV (As := [vI (20 + v6)]) msX1_131 (yX5_isNullable_ok e13) (Nat.le_trans (Nat.le_of_ble_eq_true rfl) hd) (zk_5 _ e12) rfl rfl (Nat.le_of_ble_eq_true rfl) dX1_isNullable_11) ?_
    replace h := zcondE h
    obtain ⟨e15, h⟩ := h
    obtain rfl := Option.some.inj h
    exact j_zret hk.1 hk.2 rfl (zbb_n e15) dX1_isNullable_14
  · refine j_thr (zrS (As := [vI x1]) msX1_76 (yX1_index_ok e5) (Nat.le_trans (Nat.le_of_ble_eq_true rfl) hd) rfl rfl (Nat.le_of_ble_eq_true rfl) dX1_isNullable_7) ?_
    obtain rfl := Option.some.inj h
    exact jx_out hk.1 hk.2 (by decide)
theorem yX1_isNullable_ok {t : Nat} {x1 : Int32} {G : GS} {r : (Int32) ⊕ String} {G1 : GS} (h : fX1_isNullable_0 t x1 G = some (r, G1)) : zRuns yX1_isNullable (ws_ yX1_isNullable cX1_isNullable 2 (some Jvm.ClassFile.FieldType.boolean)) [vR (some t), vI x1] (zout (fun v => some (vI v)) r, G, G1, 52) :=
  zentry (M := mX1_isNullable) (plainFor_of_name (by decide +kernel)) ⟨rfl, rfl, rfl, rfl⟩ (Nat.le_of_ble_eq_true rfl) (wfX1_isNullable_0 (Nat.le_refl _) t x1 G h ⟨rfl, rfl⟩)
abbrev mX8_meets : zM := (cX8_meets, RX8, 3, (some Jvm.ClassFile.FieldType.boolean), "meets", [], "(LSelahGenerator$Strings;)Z")
def fbX8_meets_2 (t : Nat) (x1 : Option Nat) (x2 : Int32)  (G : GS) : Option ((Int32) ⊕ (Int32)) :=
  (zgR G 8 t 0).bind fun r1 => r1.bind fun a3 => (zln G a3).bind fun v5 => if v5 ≤ x2 then (zo (zcond (zbb 0) (some 0))) else ((zgR G 8 t 0).bind fun r9 => r9.bind fun a11 => (zaL G 51 a11 x2).bind fun l13 => x1.bind fun a15 => (zgR G 8 a15 0).bind fun r17 => r17.bind fun a19 => (zaL G 51 a19 x2).bind fun l21 => if (lg_cmp (l13 &&& l21) (0 : Int64)) = 0 then (some (.inl ((x2 + 1)))) else (zo (zcond (zbb 1) (some 1))))
def flX8_meets_2 (t : Nat) (x1 : Option Nat) (x2 : Int32) (G : GS) : Option (Int32) := zloop (fun s : Int32 => fbX8_meets_2 t x1 s G) (x2)
theorem wfbX8_meets_2 {F : zF} (hd : 1 ≤ F.2.2.2) (t : Nat) (x1 : Option Nat) (x2 : Int32) (G : GS) {a : (Int32) ⊕ (Int32)} (h : fbX8_meets_2 t x1 x2 G = some a) (hk : (zcase (fun s : Int32 => J mX8_meets F G 2 [(0, vR (some t)), (1, vR x1), (2, vI s)] []) (zKPI F G)) a) : J mX8_meets F G 2 [(0, vR (some t)), (1, vR x1), (2, vI x2)] [] := by
  unfold fbX8_meets_2 at h
  refine j_iload_n (j := 2) dX8_meets_2 rfl rfl ?_
  refine j_aload_n (j := 0) dX8_meets_3 rfl rfl ?_
  replace h := zbE h
  obtain ⟨r1, e2, h⟩ := h
  refine j_getR fgX8_9 (fun _ _ _ => rfl) dX8_meets_4 e2 ?_
  replace h := zbE h
  obtain ⟨a3, e4, h⟩ := h
  subst e4
  replace h := zbE h
  obtain ⟨v5, e6, h⟩ := h
  refine j_alen e6 dX8_meets_7 ?_
  refine j_icmp_ge (tgt := 37) dX8_meets_8 (by decide) (fun c7 => ?_) (fun c7 => ?_)
  · rw [if_pos c7] at h
    replace h := zoE h
    obtain ⟨a, h, rfl⟩ := h
    replace hk := hk
    refine j_iconst (v := 0) dX8_meets_37 (by decide) ?_
    replace h := zcondE h
    obtain ⟨e8, h⟩ := h
    obtain rfl := Option.some.inj h
    exact j_zret hk.1 hk.2 rfl (zbb_n e8) dX8_meets_38
  · rw [if_neg c7] at h
    refine j_aload_n (j := 0) dX8_meets_11 rfl rfl ?_
    replace h := zbE h
    obtain ⟨r9, e10, h⟩ := h
    refine j_getR fgX8_9 (fun _ _ _ => rfl) dX8_meets_12 e10 ?_
    refine j_iload_n (j := 2) dX8_meets_15 rfl rfl ?_
    replace h := zbE h
    obtain ⟨a11, e12, h⟩ := h
    subst e12
    replace h := zbE h
    obtain ⟨l13, e14, h⟩ := h
    refine j_lald rfl e14 dX8_meets_16 ?_
    refine j_aload_n (j := 1) dX8_meets_17 rfl rfl ?_
    replace h := zbE h
    obtain ⟨a15, e16, h⟩ := h
    subst e16
    replace h := zbE h
    obtain ⟨r17, e18, h⟩ := h
    refine j_getR fgX8_9 (fun _ _ _ => rfl) dX8_meets_18 e18 ?_
    refine j_iload_n (j := 2) dX8_meets_21 rfl rfl ?_
    replace h := zbE h
    obtain ⟨a19, e20, h⟩ := h
    subst e20
    replace h := zbE h
    obtain ⟨l21, e22, h⟩ := h
    refine j_lald rfl e22 dX8_meets_22 ?_
    refine j_land dX8_meets_23 ?_
    refine j_lconst (v := 0) dX8_meets_24 rfl ?_
    refine j_lcmp dX8_meets_25 ?_
    refine j_if_eq (tgt := 31) dX8_meets_26 (by decide) (fun c23 => ?_) (fun c23 => ?_)
    · rw [if_pos c23] at h
      refine j_iinc (j := 2) (v := (x2 + 1)) (lv' := [(2, vI (x2 + 1)), (0, vR (some t)), (1, vR (some a15))]) dX8_meets_31 rfl rfl (Nat.le_of_ble_eq_true rfl) rfl ?_
      refine j_goto (tgt := 2) dX8_meets_34 (by decide) ?_
      obtain rfl := Option.some.inj h
      exact J.sub (zall [1, 2, 0] rfl) hk
    · rw [if_neg c23] at h
      replace h := zoE h
      obtain ⟨a, h, rfl⟩ := h
      replace hk := hk
      refine j_iconst (v := 1) dX8_meets_29 (by decide) ?_
      replace h := zcondE h
      obtain ⟨e24, h⟩ := h
      obtain rfl := Option.some.inj h
      exact j_zret hk.1 hk.2 rfl (zbb_n e24) dX8_meets_30
theorem wflX8_meets_2 {F : zF} (hd : 1 ≤ F.2.2.2) (t : Nat) (x1 : Option Nat) (x2 : Int32) (G : GS) {a : Int32} (h : flX8_meets_2 t x1 x2 G = some a) (hk : zKPI F G a) : J mX8_meets F G 2 [(0, vR (some t)), (1, vR x1), (2, vI x2)] [] := by
  unfold flX8_meets_2 at h
  exact zloop_walk (P := (fun s : Int32 => J mX8_meets F G 2 [(0, vR (some t)), (1, vR x1), (2, vI s)] [])) (fun s b e hk => wfbX8_meets_2 hd t x1 s G e hk) (x2) _ h hk
def fX8_meets_0 (t : Nat) (x1 : Option Nat)  (G : GS) : Option (Int32) :=
  flX8_meets_2 t x1 0 G
theorem wfX8_meets_0 {F : zF} (hd : 1 ≤ F.2.2.2) (t : Nat) (x1 : Option Nat)  (G : GS) {a : Int32} (h : fX8_meets_0 t x1  G = some a) (hk : zKPI F G a) : J mX8_meets F G 0 [(0, vR (some t)), (1, vR x1)] [] := by
  unfold fX8_meets_0 at h
  refine j_iconst (v := 0) dX8_meets_0 (by decide) ?_
  refine j_istore_n (lv' := [(2, vI 0), (0, vR (some t)), (1, vR x1)]) dX8_meets_1 rfl (Nat.le_of_ble_eq_true rfl) rfl ?_
  exact J.sub (zall [1, 2, 0] rfl) (wflX8_meets_2 hd t x1 0  G h hk)
theorem yX8_meets_ok {t : Nat} {x1 : Option Nat} {G : GS} {r : Int32} (h : fX8_meets_0 t x1 G = some r) : zRuns yX8_meets (ws_ yX8_meets cX8_meets 3 (some Jvm.ClassFile.FieldType.boolean)) [vR (some t), vR x1] (.inl (some (vI r)), G, G, 1) :=
  zentry (M := mX8_meets) (plainFor_of_name (by decide +kernel)) ⟨rfl, rfl, rfl, rfl⟩ (Nat.le_of_ble_eq_true rfl) (wfX8_meets_0 (Nat.le_refl _) t x1 G h ⟨rfl, rfl⟩)
theorem msX7_120 : zSV RX7 120 RX8 yX8_meets cX8_meets 3 (some Jvm.ClassFile.FieldType.boolean) 1 := ⟨lw_V q1439 q1440 q1441 q169 q1442, (by decide +kernel), (by decide)⟩
abbrev mX7_conflicts : zM := (cX7_conflicts, RX7, 4, (some Jvm.ClassFile.FieldType.int), "conflicts", [], "()I")
def fX7_conflicts_88 (t : Nat) (x1 : Int32) (x2 : Int32)  (G : GS) : Option ((Int32 × Int32) ⊕ (Int32)) :=
  some (.inl (x1, (x2 + 1)))
theorem wfX7_conflicts_88 {F : zF} (hd : 4 ≤ F.2.2.2) (t : Nat) (x1 : Int32) (x2 : Int32)  (G : GS) {a : (Int32 × Int32) ⊕ (Int32)} (h : fX7_conflicts_88 t x1 x2  G = some a) (hk : (zcase (fun s : Int32 × Int32 => J mX7_conflicts F G 4 [(0, vR (some t)), (1, vI s.1), (2, vI s.2)] []) (zKPI F G)) a) : J mX7_conflicts F G 88 [(0, vR (some t)), (1, vI x1), (2, vI x2)] [] := by
  unfold fX7_conflicts_88 at h
  refine j_iinc (j := 2) (v := (x2 + 1)) (lv' := [(2, vI (x2 + 1)), (0, vR (some t)), (1, vI x1)]) dX7_conflicts_88 rfl rfl (Nat.le_of_ble_eq_true rfl) rfl ?_
  refine j_goto (tgt := 4) dX7_conflicts_91 (by decide) ?_
  obtain rfl := Option.some.inj h
  exact J.sub (zall [1, 2, 0] rfl) hk
def fX7_conflicts_82 (t : Nat) (x1 : Int32) (x2 : Int32) (x3 : Int32)  (G : GS) : Option ((Int32 × Int32) ⊕ ((Int32 × Int32) ⊕ (Int32))) :=
  some (.inl (x1, (x3 + 1)))
theorem wfX7_conflicts_82 {F : zF} (hd : 4 ≤ F.2.2.2) (t : Nat) (x1 : Int32) (x2 : Int32) (x3 : Int32)  (G : GS) {a : (Int32 × Int32) ⊕ ((Int32 × Int32) ⊕ (Int32))} (h : fX7_conflicts_82 t x1 x2 x3  G = some a) (hk : (zcase (fun s : Int32 × Int32 => J mX7_conflicts F G 17 [(0, vR (some t)), (1, vI s.1), (2, vI x2), (3, vI s.2)] []) ((zcase (fun s : Int32 × Int32 => J mX7_conflicts F G 4 [(0, vR (some t)), (1, vI s.1), (2, vI s.2)] []) (zKPI F G)))) a) : J mX7_conflicts F G 82 [(0, vR (some t)), (1, vI x1), (2, vI x2), (3, vI x3)] [] := by
  unfold fX7_conflicts_82 at h
  refine j_iinc (j := 3) (v := (x3 + 1)) (lv' := [(3, vI (x3 + 1)), (0, vR (some t)), (1, vI x1), (2, vI x2)]) dX7_conflicts_82 rfl rfl (Nat.le_of_ble_eq_true rfl) rfl ?_
  refine j_goto (tgt := 17) dX7_conflicts_85 (by decide) ?_
  obtain rfl := Option.some.inj h
  exact J.sub (zall [1, 2, 3, 0] rfl) hk
def fbX7_conflicts_17 (t : Nat) (x1 : Int32) (x2 : Int32) (x3 : Int32)  (G : GS) : Option ((Int32 × Int32) ⊕ ((Int32 × Int32) ⊕ (Int32))) :=
  (zgR G 7 t 3).bind fun r1 => r1.bind fun a3 => (zln G a3).bind fun v5 => if v5 ≤ x3 then (zo (fX7_conflicts_88 t x1 x2 G)) else ((zgR G 7 t 0).bind fun r8 => r8.bind fun a10 => zk [12] G a10 <| (fJ2_get_0 a10 x2 G).bind fun r14 => zkq [3] G r14 (r14.bind fun a16 => (zgI G 3 a16 0).bind fun v18 => (zgR G 7 t 0).bind fun r20 => r20.bind fun a22 => zk [12] G a22 <| (fJ2_get_0 a22 x3 G).bind fun r26 => zkq [3] G r26 (r26.bind fun a28 => (zgI G 3 a28 0).bind fun v30 => if v18 = v30 then ((zgR G 7 t 3).bind fun r33 => r33.bind fun a35 => (zaR G 55 a35 x2).bind fun r37 => (zgR G 7 t 3).bind fun r39 => r39.bind fun a41 => (zaR G 55 a41 x3).bind fun r43 => r37.bind fun a45 => zk [8] G a45 <| (fX8_meets_0 a45 r43 G).bind fun v49 => if v49 = 0 then (fX7_conflicts_82 t x1 x2 x3 G) else (fX7_conflicts_82 t (x1 + 1) x2 x3 G)) else (fX7_conflicts_82 t x1 x2 x3 G))))
def flX7_conflicts_17 (t : Nat) (x1 : Int32) (x2 : Int32) (x3 : Int32) (G : GS) : Option ((Int32 × Int32) ⊕ (Int32)) := zloop (fun s : Int32 × Int32 => fbX7_conflicts_17 t s.1 x2 s.2 G) (x1, x3)
theorem wfbX7_conflicts_17 {F : zF} (hd : 4 ≤ F.2.2.2) (t : Nat) (x1 : Int32) (x2 : Int32) (x3 : Int32) (G : GS) {a : (Int32 × Int32) ⊕ ((Int32 × Int32) ⊕ (Int32))} (h : fbX7_conflicts_17 t x1 x2 x3 G = some a) (hk : (zcase (fun s : Int32 × Int32 => J mX7_conflicts F G 17 [(0, vR (some t)), (1, vI s.1), (2, vI x2), (3, vI s.2)] []) ((zcase (fun s : Int32 × Int32 => J mX7_conflicts F G 4 [(0, vR (some t)), (1, vI s.1), (2, vI s.2)] []) (zKPI F G)))) a) : J mX7_conflicts F G 17 [(0, vR (some t)), (1, vI x1), (2, vI x2), (3, vI x3)] [] := by
  unfold fbX7_conflicts_17 at h
  refine j_iload_n (j := 3) dX7_conflicts_17 rfl rfl ?_
  refine j_aload_n (j := 0) dX7_conflicts_18 rfl rfl ?_
  replace h := zbE h
  obtain ⟨r1, e2, h⟩ := h
  refine j_getR fgX7_41 (fun _ _ _ => rfl) dX7_conflicts_19 e2 ?_
  replace h := zbE h
  obtain ⟨a3, e4, h⟩ := h
  subst e4
  replace h := zbE h
  obtain ⟨v5, e6, h⟩ := h
  refine j_alen e6 dX7_conflicts_22 ?_
  refine j_icmp_ge (tgt := 88) dX7_conflicts_23 (by decide) (fun c7 => ?_) (fun c7 => ?_)
  · rw [if_pos c7] at h
    replace h := zoE h
    obtain ⟨a, h, rfl⟩ := h
    replace hk := hk
    exact J.sub (zall [0, 1, 2] rfl) (wfX7_conflicts_88 hd t x1 x2  G h hk)
  · rw [if_neg c7] at h
    refine j_aload_n (j := 0) dX7_conflicts_26 rfl rfl ?_
    replace h := zbE h
    obtain ⟨r8, e9, h⟩ := h
    refine j_getR fgX7_31 (fun _ _ _ => rfl) dX7_conflicts_27 e9 ?_
    refine j_iload_n (j := 2) dX7_conflicts_30 rfl rfl ?_
    replace h := zbE h
    obtain ⟨a10, e11, h⟩ := h
    subst e11
    replace h := zkE h
    obtain ⟨e12, h⟩ := h
    replace h := zbE h
    obtain ⟨r14, e13, h⟩ := h
    refine j_cont (zrF (As := [vI x2]) msX7_50_J2 (yJ2_get_ok e13) (Nat.le_trans (Nat.le_of_ble_eq_true rfl) hd) (zk_12 _ e12) rfl rfl (Nat.le_of_ble_eq_true rfl) dX7_conflicts_31) ?_
    replace h := zkqE h
    obtain ⟨e15, h⟩ := h
    refine j_castq (fun k => j_castN dX7_conflicts_36 k) (fun b q52 k => j_castS (zk_3 _ (e15 b q52)) ⟨2, _, rfl, rfl⟩ q1352 dX7_conflicts_36 k) ?_
    replace h := zbE h
    obtain ⟨a16, e17, h⟩ := h
    subst e17
    replace h := zbE h
    obtain ⟨v18, e19, h⟩ := h
    refine j_getI fgX7_60 (fun _ _ _ => rfl) dX7_conflicts_39 e19 ?_
    refine j_aload_n (j := 0) dX7_conflicts_42 rfl rfl ?_
    replace h := zbE h
    obtain ⟨r20, e21, h⟩ := h
    refine j_getR fgX7_31 (fun _ _ _ => rfl) dX7_conflicts_43 e21 ?_
    refine j_iload_n (j := 3) dX7_conflicts_46 rfl rfl ?_
    replace h := zbE h
    obtain ⟨a22, e23, h⟩ := h
    subst e23
    replace h := zkE h
    obtain ⟨e24, h⟩ := h
    replace h := zbE h
    obtain ⟨r26, e25, h⟩ := h
    refine j_cont (zrF (As := [vI x3]) msX7_50_J2 (yJ2_get_ok e25) (Nat.le_trans (Nat.le_of_ble_eq_true rfl) hd) (zk_12 _ e24) rfl rfl (Nat.le_of_ble_eq_true rfl) dX7_conflicts_47) ?_
    replace h := zkqE h
    obtain ⟨e27, h⟩ := h
    refine j_castq (fun k => j_castN dX7_conflicts_52 k) (fun b q51 k => j_castS (zk_3 _ (e27 b q51)) ⟨2, _, rfl, rfl⟩ q1352 dX7_conflicts_52 k) ?_
    replace h := zbE h
    obtain ⟨a28, e29, h⟩ := h
    subst e29
    replace h := zbE h
    obtain ⟨v30, e31, h⟩ := h
    refine j_getI fgX7_60 (fun _ _ _ => rfl) dX7_conflicts_55 e31 ?_
    refine j_icmp_ne (tgt := 82) dX7_conflicts_58 (by decide) (fun c32 => ?_) (fun c32 => ?_)
    · rw [if_pos c32] at h
      refine j_aload_n (j := 0) dX7_conflicts_61 rfl rfl ?_
      replace h := zbE h
      obtain ⟨r33, e34, h⟩ := h
      refine j_getR fgX7_41 (fun _ _ _ => rfl) dX7_conflicts_62 e34 ?_
      refine j_iload_n (j := 2) dX7_conflicts_65 rfl rfl ?_
      replace h := zbE h
      obtain ⟨a35, e36, h⟩ := h
      subst e36
      replace h := zbE h
      obtain ⟨r37, e38, h⟩ := h
      refine j_aald (Or.inr (Or.inl rfl)) e38 dX7_conflicts_66 ?_
      refine j_aload_n (j := 0) dX7_conflicts_67 rfl rfl ?_
      replace h := zbE h
      obtain ⟨r39, e40, h⟩ := h
      refine j_getR fgX7_41 (fun _ _ _ => rfl) dX7_conflicts_68 e40 ?_
      refine j_iload_n (j := 3) dX7_conflicts_71 rfl rfl ?_
      replace h := zbE h
      obtain ⟨a41, e42, h⟩ := h
      subst e42
      replace h := zbE h
      obtain ⟨r43, e44, h⟩ := h
      refine j_aald (Or.inr (Or.inl rfl)) e44 dX7_conflicts_72 ?_
      replace h := zbE h
      obtain ⟨a45, e46, h⟩ := h
      subst e46
      replace h := zkE h
      obtain ⟨e47, h⟩ := h
      replace h := zbE h
      obtain ⟨v49, e48, h⟩ := h
      refine j_cont (zrV (As := [vR r43]) msX7_120 (yX8_meets_ok e48) (Nat.le_trans (Nat.le_of_ble_eq_true rfl) hd) (zk_8 _ e47) rfl rfl (Nat.le_of_ble_eq_true rfl) dX7_conflicts_73) ?_
      refine j_if_eq (tgt := 82) dX7_conflicts_76 (by decide) (fun c50 => ?_) (fun c50 => ?_)
      · rw [if_pos c50] at h
        exact J.sub (zall [0, 1, 2, 3] rfl) (wfX7_conflicts_82 hd t x1 x2 x3  G h hk)
      · rw [if_neg c50] at h
        refine j_iinc (j := 1) (v := (x1 + 1)) (lv' := [(1, vI (x1 + 1)), (0, vR (some t)), (2, vI x2), (3, vI x3)]) dX7_conflicts_79 rfl rfl (Nat.le_of_ble_eq_true rfl) rfl ?_
        exact J.sub (zall [1, 0, 2, 3] rfl) (wfX7_conflicts_82 hd t (x1 + 1) x2 x3  G h hk)
    · rw [if_neg c32] at h
      exact J.sub (zall [0, 1, 2, 3] rfl) (wfX7_conflicts_82 hd t x1 x2 x3  G h hk)
theorem wflX7_conflicts_17 {F : zF} (hd : 4 ≤ F.2.2.2) (t : Nat) (x1 : Int32) (x2 : Int32) (x3 : Int32) (G : GS) {a : (Int32 × Int32) ⊕ (Int32)} (h : flX7_conflicts_17 t x1 x2 x3 G = some a) (hk : (zcase (fun s : Int32 × Int32 => J mX7_conflicts F G 4 [(0, vR (some t)), (1, vI s.1), (2, vI s.2)] []) (zKPI F G)) a) : J mX7_conflicts F G 17 [(0, vR (some t)), (1, vI x1), (2, vI x2), (3, vI x3)] [] := by
  unfold flX7_conflicts_17 at h
  exact zloop_walk (P := (fun s : Int32 × Int32 => J mX7_conflicts F G 17 [(0, vR (some t)), (1, vI s.1), (2, vI x2), (3, vI s.2)] [])) (fun s b e hk => wfbX7_conflicts_17 hd t s.1 x2 s.2 G e hk) (x1, x3) _ h hk
def fbX7_conflicts_4 (t : Nat) (x1 : Int32) (x2 : Int32)  (G : GS) : Option ((Int32 × Int32) ⊕ (Int32)) :=
  (zgR G 7 t 3).bind fun r1 => r1.bind fun a3 => (zln G a3).bind fun v5 => if v5 ≤ x2 then (zo (some x1)) else (flX7_conflicts_17 t x1 x2 (x2 + 1) G)
def flX7_conflicts_4 (t : Nat) (x1 : Int32) (x2 : Int32) (G : GS) : Option (Int32) := zloop (fun s : Int32 × Int32 => fbX7_conflicts_4 t s.1 s.2 G) (x1, x2)
theorem wfbX7_conflicts_4 {F : zF} (hd : 4 ≤ F.2.2.2) (t : Nat) (x1 : Int32) (x2 : Int32) (G : GS) {a : (Int32 × Int32) ⊕ (Int32)} (h : fbX7_conflicts_4 t x1 x2 G = some a) (hk : (zcase (fun s : Int32 × Int32 => J mX7_conflicts F G 4 [(0, vR (some t)), (1, vI s.1), (2, vI s.2)] []) (zKPI F G)) a) : J mX7_conflicts F G 4 [(0, vR (some t)), (1, vI x1), (2, vI x2)] [] := by
  unfold fbX7_conflicts_4 at h
  refine j_iload_n (j := 2) dX7_conflicts_4 rfl rfl ?_
  refine j_aload_n (j := 0) dX7_conflicts_5 rfl rfl ?_
  replace h := zbE h
  obtain ⟨r1, e2, h⟩ := h
  refine j_getR fgX7_41 (fun _ _ _ => rfl) dX7_conflicts_6 e2 ?_
  replace h := zbE h
  obtain ⟨a3, e4, h⟩ := h
  subst e4
  replace h := zbE h
  obtain ⟨v5, e6, h⟩ := h
  refine j_alen e6 dX7_conflicts_9 ?_
  refine j_icmp_ge (tgt := 94) dX7_conflicts_10 (by decide) (fun c7 => ?_) (fun c7 => ?_)
  · rw [if_pos c7] at h
    replace h := zoE h
    obtain ⟨a, h, rfl⟩ := h
    replace hk := hk
    refine j_iload_n (j := 1) dX7_conflicts_94 rfl rfl ?_
    obtain rfl := Option.some.inj h
    exact j_iret hk.1 hk.2 rfl dX7_conflicts_95
  · rw [if_neg c7] at h
    refine j_iload_n (j := 2) dX7_conflicts_13 rfl rfl ?_
    refine j_iconst (v := 1) dX7_conflicts_14 (by decide) ?_
    refine j_iadd dX7_conflicts_15 ?_
    refine j_istore_n (lv' := [(3, vI (x2 + 1)), (0, vR (some t)), (1, vI x1), (2, vI x2)]) dX7_conflicts_16 rfl (Nat.le_of_ble_eq_true rfl) rfl ?_
    exact J.sub (zall [1, 2, 3, 0] rfl) (wflX7_conflicts_17 hd t x1 x2 (x2 + 1)  G h hk)
theorem wflX7_conflicts_4 {F : zF} (hd : 4 ≤ F.2.2.2) (t : Nat) (x1 : Int32) (x2 : Int32) (G : GS) {a : Int32} (h : flX7_conflicts_4 t x1 x2 G = some a) (hk : zKPI F G a) : J mX7_conflicts F G 4 [(0, vR (some t)), (1, vI x1), (2, vI x2)] [] := by
  unfold flX7_conflicts_4 at h
  exact zloop_walk (P := (fun s : Int32 × Int32 => J mX7_conflicts F G 4 [(0, vR (some t)), (1, vI s.1), (2, vI s.2)] [])) (fun s b e hk => wfbX7_conflicts_4 hd t s.1 s.2 G e hk) (x1, x2) _ h hk
def fX7_conflicts_0 (t : Nat)  (G : GS) : Option (Int32) :=
  flX7_conflicts_4 t 0 0 G
theorem wfX7_conflicts_0 {F : zF} (hd : 4 ≤ F.2.2.2) (t : Nat)  (G : GS) {a : Int32} (h : fX7_conflicts_0 t  G = some a) (hk : zKPI F G a) : J mX7_conflicts F G 0 [(0, vR (some t))] [] := by
  unfold fX7_conflicts_0 at h
  refine j_iconst (v := 0) dX7_conflicts_0 (by decide) ?_
  refine j_istore_n (lv' := [(1, vI 0), (0, vR (some t))]) dX7_conflicts_1 rfl (Nat.le_of_ble_eq_true rfl) rfl ?_
  refine j_iconst (v := 0) dX7_conflicts_2 (by decide) ?_
  refine j_istore_n (lv' := [(2, vI 0), (1, vI 0), (0, vR (some t))]) dX7_conflicts_3 rfl (Nat.le_of_ble_eq_true rfl) rfl ?_
  exact J.sub (zall [2, 1, 0] rfl) (wflX7_conflicts_4 hd t 0 0  G h hk)
theorem yX7_conflicts_ok {t : Nat} {G : GS} {r : Int32} (h : fX7_conflicts_0 t G = some r) : zRuns yX7_conflicts (ws_ yX7_conflicts cX7_conflicts 4 (some Jvm.ClassFile.FieldType.int)) [vR (some t)] (.inl (some (vI r)), G, G, 4) :=
  zentry (M := mX7_conflicts) (plainFor_of_name (by decide +kernel)) ⟨rfl, rfl, rfl, rfl⟩ (Nat.le_of_ble_eq_true rfl) (wfX7_conflicts_0 (Nat.le_refl _) t G h ⟨rfl, rfl⟩)
theorem msX1_159 : zSV RX1 159 RX1 yX1_pairs cX1_pairs 1 (some (Jvm.ClassFile.FieldType.object "SelahGenerator$Pairs")) 0 := ⟨lw_V q1318 q1320 qs20 q123 q1321, (by decide +kernel), (by decide)⟩
theorem msX1_171 : zSV RX1 171 RX7 yX7_conflicts cX7_conflicts 4 (some Jvm.ClassFile.FieldType.int) 0 := ⟨lw_V q1435 q1436 q1437 q168 q1438, (by decide +kernel), (by decide)⟩
abbrev mX1_isStrongLL2 : zM := (cX1_isStrongLL2, RX1, 1, (some Jvm.ClassFile.FieldType.boolean), "isStrongLL2", [], "()Z")
def fX1_isStrongLL2_0 (t : Nat)  (G : GS) : Option ((Int32) × GS) :=
  zk [1] G t <| zb2 (fX1_pairs_0 t G) fun r3 G4 => r3.bind fun a5 => zk [7] G4 a5 <| (fX7_conflicts_0 a5 G4).bind fun v9 => if v9 = 0 then (zcond (zbb 1) (some (1, G4))) else (zcond (zbb 0) (some (0, G4)))
theorem wfX1_isStrongLL2_0 {F : zF} (hd : 10 ≤ F.2.2.2) (t : Nat)  (G : GS) {a : (Int32) × GS} (h : fX1_isStrongLL2_0 t  G = some a) (hk : zKI F a) : J mX1_isStrongLL2 F G 0 [(0, vR (some t))] [] := by
  unfold fX1_isStrongLL2_0 at h
  refine j_aload_n (j := 0) dX1_isStrongLL2_0 rfl rfl ?_
  replace h := zkE h
  obtain ⟨e1, h⟩ := h
  replace h := zb2E h
  obtain ⟨r3, G4, e2, h⟩ := h
  refine j_cont (zrV (As := []) msX1_159 (yX1_pairs_ok e2) (Nat.le_trans (Nat.le_of_ble_eq_true rfl) hd) (zk_1 _ e1) rfl rfl (Nat.le_of_ble_eq_true rfl) dX1_isStrongLL2_1) ?_
  replace h := zbE h
  obtain ⟨a5, e6, h⟩ := h
  subst e6
  replace h := zkE h
  obtain ⟨e7, h⟩ := h
  replace h := zbE h
  obtain ⟨v9, e8, h⟩ := h
  refine j_cont (zrV (As := []) msX1_171 (yX7_conflicts_ok e8) (Nat.le_trans (Nat.le_of_ble_eq_true rfl) hd) (zk_7 _ e7) rfl rfl (Nat.le_of_ble_eq_true rfl) dX1_isStrongLL2_4) ?_
  refine j_if_ne (tgt := 14) dX1_isStrongLL2_7 (by decide) (fun c10 => ?_) (fun c10 => ?_)
  · rw [if_pos c10] at h
    refine j_iconst (v := 1) dX1_isStrongLL2_10 (by decide) ?_
    refine j_goto (tgt := 15) dX1_isStrongLL2_11 (by decide) ?_
    replace h := zcondE h
    obtain ⟨e11, h⟩ := h
    obtain rfl := Option.some.inj h
    exact j_zret hk.1 hk.2 rfl (zbb_n e11) dX1_isStrongLL2_15
  · rw [if_neg c10] at h
    refine j_iconst (v := 0) dX1_isStrongLL2_14 (by decide) ?_
    replace h := zcondE h
    obtain ⟨e12, h⟩ := h
    obtain rfl := Option.some.inj h
    exact j_zret hk.1 hk.2 rfl (zbb_n e12) dX1_isStrongLL2_15
theorem yX1_isStrongLL2_ok {t : Nat} {G : GS} {r : Int32} {G1 : GS} (h : fX1_isStrongLL2_0 t G = some (r, G1)) : zRuns yX1_isStrongLL2 (ws_ yX1_isStrongLL2 cX1_isStrongLL2 1 (some Jvm.ClassFile.FieldType.boolean)) [vR (some t)] (.inl (some (vI r)), G, G1, 10) :=
  zentry (M := mX1_isStrongLL2) (plainFor_of_name (by decide +kernel)) ⟨rfl, rfl, rfl, rfl⟩ (Nat.le_of_ble_eq_true rfl) (wfX1_isStrongLL2_0 (Nat.le_refl _) t G h ⟨rfl, rfl⟩)
theorem fgX1_118 : zFG RX1 118 2 0 (.int) := ⟨(RX3, TX3, 2, tyX3), rfl, by decide, in_X3, rfl, "SelahGenerator$Rule", Or.inl rfl, Or.inr ⟨_, zxw 63 rfl⟩⟩
abbrev mX1_leftOf : zM := (cX1_leftOf, RX1, 2, (some Jvm.ClassFile.FieldType.int), "leftOf", [], "(I)I")
def fX1_leftOf_0 (t : Nat) (x1 : Int32)  (G : GS) : Option (((Int32) ⊕ String) × GS) :=
  zk [1] G t <| zb3 (fX1_rule_0 t x1 G) (fun r3 G4 => r3.bind fun a7 => (zgI G4 3 a7 0).bind fun v9 => some (.inl v9, G4)) (fun X5 G6 => some (.inr X5, G6))
theorem wfX1_leftOf_0 {F : zF} (hd : 10 ≤ F.2.2.2) (t : Nat) (x1 : Int32)  (G : GS) {a : ((Int32) ⊕ String) × GS} (h : fX1_leftOf_0 t x1  G = some a) (hk : zKXI F a) : J mX1_leftOf F G 0 [(0, vR (some t)), (1, vI x1)] [] := by
  unfold fX1_leftOf_0 at h
  refine j_aload_n (j := 0) dX1_leftOf_0 rfl rfl ?_
  refine j_iload_n (j := 1) dX1_leftOf_1 rfl rfl ?_
  replace h := zkE h
  obtain ⟨e1, h⟩ := h
  replace h := zb3E h
  rcases h with ⟨r3, G4, e2, h⟩ | ⟨X5, G6, e2, h⟩
  · refine j_cont (zrV (As := [vI x1]) msX1_93 (yX1_rule_ok e2) (Nat.le_trans (Nat.le_of_ble_eq_true rfl) hd) (zk_1 _ e1) rfl rfl (Nat.le_of_ble_eq_true rfl) dX1_leftOf_2) ?_
    replace h := zbE h
    obtain ⟨a7, e8, h⟩ := h
    subst e8
    replace h := zbE h
    obtain ⟨v9, e10, h⟩ := h
    refine j_getI fgX1_118 (fun _ _ _ => rfl) dX1_leftOf_5 e10 ?_
    obtain rfl := Option.some.inj h
    exact j_iret hk.1 hk.2 rfl dX1_leftOf_8
  · refine j_thr (zrV (As := [vI x1]) msX1_93 (yX1_rule_ok e2) (Nat.le_trans (Nat.le_of_ble_eq_true rfl) hd) (zk_1 _ e1) rfl rfl (Nat.le_of_ble_eq_true rfl) dX1_leftOf_2) ?_
    obtain rfl := Option.some.inj h
    exact jx_out hk.1 hk.2 (by decide)
theorem yX1_leftOf_ok {t : Nat} {x1 : Int32} {G : GS} {r : (Int32) ⊕ String} {G1 : GS} (h : fX1_leftOf_0 t x1 G = some (r, G1)) : zRuns yX1_leftOf (ws_ yX1_leftOf cX1_leftOf 2 (some Jvm.ClassFile.FieldType.int)) [vR (some t), vI x1] (zout (fun v => some (vI v)) r, G, G1, 10) :=
  zentry (M := mX1_leftOf) (plainFor_of_name (by decide +kernel)) ⟨rfl, rfl, rfl, rfl⟩ (Nat.le_of_ble_eq_true rfl) (wfX1_leftOf_0 (Nat.le_refl _) t x1 G h ⟨rfl, rfl⟩)
abbrev mX1_lengthOf : zM := (cX1_lengthOf, RX1, 2, (some Jvm.ClassFile.FieldType.int), "lengthOf", [], "(I)I")
def fX1_lengthOf_0 (t : Nat) (x1 : Int32)  (G : GS) : Option (((Int32) ⊕ String) × GS) :=
  zk [1] G t <| zb3 (fX1_rule_0 t x1 G) (fun r3 G4 => r3.bind fun a7 => (zgR G4 3 a7 1).bind fun r9 => r9.bind fun a11 => (zln G4 a11).bind fun v13 => some (.inl v13, G4)) (fun X5 G6 => some (.inr X5, G6))
theorem wfX1_lengthOf_0 {F : zF} (hd : 10 ≤ F.2.2.2) (t : Nat) (x1 : Int32)  (G : GS) {a : ((Int32) ⊕ String) × GS} (h : fX1_lengthOf_0 t x1  G = some a) (hk : zKXI F a) : J mX1_lengthOf F G 0 [(0, vR (some t)), (1, vI x1)] [] := by
  unfold fX1_lengthOf_0 at h
  refine j_aload_n (j := 0) dX1_lengthOf_0 rfl rfl ?_
  refine j_iload_n (j := 1) dX1_lengthOf_1 rfl rfl ?_
  replace h := zkE h
  obtain ⟨e1, h⟩ := h
  replace h := zb3E h
  rcases h with ⟨r3, G4, e2, h⟩ | ⟨X5, G6, e2, h⟩
  · refine j_cont (zrV (As := [vI x1]) msX1_93 (yX1_rule_ok e2) (Nat.le_trans (Nat.le_of_ble_eq_true rfl) hd) (zk_1 _ e1) rfl rfl (Nat.le_of_ble_eq_true rfl) dX1_lengthOf_2) ?_
    replace h := zbE h
    obtain ⟨a7, e8, h⟩ := h
    subst e8
    replace h := zbE h
    obtain ⟨r9, e10, h⟩ := h
    refine j_getR fgX1_104 (fun _ _ _ => rfl) dX1_lengthOf_5 e10 ?_
    replace h := zbE h
    obtain ⟨a11, e12, h⟩ := h
    subst e12
    replace h := zbE h
    obtain ⟨v13, e14, h⟩ := h
    refine j_alen e14 dX1_lengthOf_8 ?_
    obtain rfl := Option.some.inj h
    exact j_iret hk.1 hk.2 rfl dX1_lengthOf_9
  · refine j_thr (zrV (As := [vI x1]) msX1_93 (yX1_rule_ok e2) (Nat.le_trans (Nat.le_of_ble_eq_true rfl) hd) (zk_1 _ e1) rfl rfl (Nat.le_of_ble_eq_true rfl) dX1_lengthOf_2) ?_
    obtain rfl := Option.some.inj h
    exact jx_out hk.1 hk.2 (by decide)
theorem yX1_lengthOf_ok {t : Nat} {x1 : Int32} {G : GS} {r : (Int32) ⊕ String} {G1 : GS} (h : fX1_lengthOf_0 t x1 G = some (r, G1)) : zRuns yX1_lengthOf (ws_ yX1_lengthOf cX1_lengthOf 2 (some Jvm.ClassFile.FieldType.int)) [vR (some t), vI x1] (zout (fun v => some (vI v)) r, G, G1, 10) :=
  zentry (M := mX1_lengthOf) (plainFor_of_name (by decide +kernel)) ⟨rfl, rfl, rfl, rfl⟩ (Nat.le_of_ble_eq_true rfl) (wfX1_lengthOf_0 (Nat.le_refl _) t x1 G h ⟨rfl, rfl⟩)
abbrev mX1_letter : zM := (cX1_letter, RX1, 1, (some Jvm.ClassFile.FieldType.char), "letter", [], "(I)C")
def fX1_letter_0 (x0 : Int32)  (G : GS) : Option (Int32) :=
  (fX1_isNonterminal_0 x0 G).bind fun v2 => if v2 = 0 then (zcond (zch (((97 + x0).toUInt32 % 65536).toInt32)) (some (((97 + x0).toUInt32 % 65536).toInt32))) else (zcond (zch ((((65 + x0) - 20).toUInt32 % 65536).toInt32)) (some ((((65 + x0) - 20).toUInt32 % 65536).toInt32)))
theorem wfX1_letter_0 {F : zF} (hd : 3 ≤ F.2.2.2) (x0 : Int32)  (G : GS) {a : Int32} (h : fX1_letter_0 x0  G = some a) (hk : zKPI F G a) : J mX1_letter F G 0 [(0, vI x0)] [] := by
  unfold fX1_letter_0 at h
  refine j_iload_n (j := 0) dX1_letter_0 rfl rfl ?_
  replace h := zbE h
  obtain ⟨v2, e1, h⟩ := h
  refine j_cont (zrS (As := [vI x0]) msX1_97 (yX1_isNonterminal_ok e1) (Nat.le_trans (Nat.le_of_ble_eq_true rfl) hd) rfl rfl (Nat.le_of_ble_eq_true rfl) dX1_letter_1) ?_
  refine j_if_eq (tgt := 17) dX1_letter_4 (by decide) (fun c3 => ?_) (fun c3 => ?_)
  · rw [if_pos c3] at h
    refine j_bipush (v := 97) dX1_letter_17 (by decide) ?_
    refine j_iload_n (j := 0) dX1_letter_19 rfl rfl ?_
    refine j_iadd dX1_letter_20 ?_
    refine j_i2c dX1_letter_21 ?_
    replace h := zcondE h
    obtain ⟨e4, h⟩ := h
    obtain rfl := Option.some.inj h
    exact j_zret hk.1 hk.2 rfl (zch_n e4) dX1_letter_22
  · rw [if_neg c3] at h
    refine j_bipush (v := 65) dX1_letter_7 (by decide) ?_
    refine j_iload_n (j := 0) dX1_letter_9 rfl rfl ?_
    refine j_iadd dX1_letter_10 ?_
    refine j_bipush (v := 20) dX1_letter_11 (by decide) ?_
    refine j_isub dX1_letter_13 ?_
    refine j_goto (tgt := 21) dX1_letter_14 (by decide) ?_
    refine j_i2c dX1_letter_21 ?_
    replace h := zcondE h
    obtain ⟨e5, h⟩ := h
    obtain rfl := Option.some.inj h
    exact j_zret hk.1 hk.2 rfl (zch_n e5) dX1_letter_22
theorem yX1_letter_ok {x0 : Int32} {G : GS} {r : Int32} (h : fX1_letter_0 x0 G = some r) : zRuns yX1_letter (ws_ yX1_letter cX1_letter 1 (some Jvm.ClassFile.FieldType.char)) [vI x0] (.inl (some (vI r)), G, G, 3) :=
  zentry (M := mX1_letter) (plainFor_of_name (by decide +kernel)) ⟨rfl, rfl, rfl, rfl⟩ (Nat.le_of_ble_eq_true rfl) (wfX1_letter_0 (Nat.le_refl _) x0 G h ⟨rfl, rfl⟩)
abbrev mJ2_isEmpty : zM := (cJ2_isEmpty, RJ2, 1, (some Jvm.ClassFile.FieldType.boolean), "isEmpty", [], "()Z")
def fJ2_isEmpty_0 (t : Nat)  (G : GS) : Option (Int32) :=
  (zgI G 12 t 2).bind fun v1 => if v1 = 0 then (zcond (zbb 1) (some 1)) else (zcond (zbb 0) (some 0))
theorem wfJ2_isEmpty_0 {F : zF} (hd : 1 ≤ F.2.2.2) (t : Nat)  (G : GS) {a : Int32} (h : fJ2_isEmpty_0 t  G = some a) (hk : zKPI F G a) : J mJ2_isEmpty F G 0 [(0, vR (some t))] [] := by
  unfold fJ2_isEmpty_0 at h
  refine j_aload_n (j := 0) dJ2_isEmpty_0 rfl rfl ?_
  replace h := zbE h
  obtain ⟨v1, e2, h⟩ := h
  refine j_getI fgJ2_48 (fun _ _ _ => rfl) dJ2_isEmpty_1 e2 ?_
  refine j_if_ne (tgt := 11) dJ2_isEmpty_4 (by decide) (fun c3 => ?_) (fun c3 => ?_)
  · rw [if_pos c3] at h
    refine j_iconst (v := 1) dJ2_isEmpty_7 (by decide) ?_
    refine j_goto (tgt := 12) dJ2_isEmpty_8 (by decide) ?_
    replace h := zcondE h
    obtain ⟨e4, h⟩ := h
    obtain rfl := Option.some.inj h
    exact j_zret hk.1 hk.2 rfl (zbb_n e4) dJ2_isEmpty_12
  · rw [if_neg c3] at h
    refine j_iconst (v := 0) dJ2_isEmpty_11 (by decide) ?_
    replace h := zcondE h
    obtain ⟨e5, h⟩ := h
    obtain rfl := Option.some.inj h
    exact j_zret hk.1 hk.2 rfl (zbb_n e5) dJ2_isEmpty_12
theorem yJ2_isEmpty_ok {t : Nat} {G : GS} {r : Int32} (h : fJ2_isEmpty_0 t G = some r) : zRuns yJ2_isEmpty (ws_ yJ2_isEmpty cJ2_isEmpty 1 (some Jvm.ClassFile.FieldType.boolean)) [vR (some t)] (.inl (some (vI r)), G, G, 1) :=
  zentry (M := mJ2_isEmpty) (plainFor_of_name (by decide +kernel)) ⟨rfl, rfl, rfl, rfl⟩ (Nat.le_of_ble_eq_true rfl) (wfJ2_isEmpty_0 (Nat.le_refl _) t G h ⟨rfl, rfl⟩)
theorem msX1_192_J2 : zSF RX1 192 RJ2 ⟨"java/util/List", "isEmpty", "()Z"⟩ yJ2_isEmpty cJ2_isEmpty 1 (some Jvm.ClassFile.FieldType.boolean) 0 := ⟨lw_F q1617 q1620 q1622 q126 q1624, zfw 11 rfl, ⟨11, _, rfl, rfl⟩, (by decide +kernel), (by decide)⟩
theorem msX1_230_J19 : zSF RX1 230 RJ19 ⟨"java/util/Iterator", "next", "()Ljava/lang/Object;"⟩ yJ19_next cJ19_next 3 (some (Jvm.ClassFile.FieldType.object "java/lang/Object")) 0 := ⟨lw_F q1467 q359 q361 q147 q363, zfw 18 rfl, ⟨12, _, rfl, rfl⟩, (by decide +kernel), (by decide)⟩
theorem msX1_288_J2 : zSF RX1 288 RJ2 ⟨"java/util/List", "iterator", "()Ljava/util/Iterator;"⟩ yJ2_iterator cJ2_iterator 1 (some (Jvm.ClassFile.FieldType.object "java/util/Iterator")) 0 := ⟨lw_F q1612 q288 q290 q126 q292, zfw 12 rfl, ⟨11, _, rfl, rfl⟩, (by decide +kernel), (by decide)⟩
theorem msX1_289_J19 : zSF RX1 289 RJ19 ⟨"java/util/Iterator", "hasNext", "()Z"⟩ yJ19_hasNext cJ19_hasNext 1 (some Jvm.ClassFile.FieldType.boolean) 0 := ⟨lw_F q1614 q323 q325 q147 q327, zfw 17 rfl, ⟨12, _, rfl, rfl⟩, (by decide +kernel), (by decide)⟩
abbrev mX1_meanLength : zM := (cX1_meanLength, RX1, 4, (some Jvm.ClassFile.FieldType.double), "meanLength", [], "()D")
def fX1_meanLength_42 (t : Nat) (x1 : Int32)  (G : GS) : Option ((UInt64) × GS) :=
  (zgR G 1 t 0).bind fun r1 => r1.bind fun a3 => zk [12] G a3 <| (fJ2_isEmpty_0 a3 G).bind fun v7 => if v7 = 0 then ((zgR G 1 t 0).bind fun r9 => r9.bind fun a11 => zk [12] G a11 <| (fJ2_size_0 a11 G).bind fun v15 => zcond (zn64 (FP.ddiv (FP.i2d x1) (FP.i2d v15))) (some ((FP.ddiv (FP.i2d x1) (FP.i2d v15)), G))) else (some (FP.dconst0, G))
theorem wfX1_meanLength_42 {F : zF} (hd : 4 ≤ F.2.2.2) (t : Nat) (x1 : Int32)  (G : GS) {a : (UInt64) × GS} (h : fX1_meanLength_42 t x1  G = some a) (hk : zKD F a) : J mX1_meanLength F G 42 [(0, vR (some t)), (1, vI x1)] [] := by
  unfold fX1_meanLength_42 at h
  refine j_aload_n (j := 0) dX1_meanLength_42 rfl rfl ?_
  replace h := zbE h
  obtain ⟨r1, e2, h⟩ := h
  refine j_getR fgX1_16 (fun _ _ _ => rfl) dX1_meanLength_43 e2 ?_
  replace h := zbE h
  obtain ⟨a3, e4, h⟩ := h
  subst e4
  replace h := zkE h
  obtain ⟨e5, h⟩ := h
  replace h := zbE h
  obtain ⟨v7, e6, h⟩ := h
  refine j_cont (zrF (As := []) msX1_192_J2 (yJ2_isEmpty_ok e6) (Nat.le_trans (Nat.le_of_ble_eq_true rfl) hd) (zk_12 _ e5) rfl rfl (Nat.le_of_ble_eq_true rfl) dX1_meanLength_46) ?_
  refine j_if_eq (tgt := 58) dX1_meanLength_51 (by decide) (fun c8 => ?_) (fun c8 => ?_)
  · rw [if_pos c8] at h
    refine j_iload_n (j := 1) dX1_meanLength_58 rfl rfl ?_
    refine j_i2d dX1_meanLength_59 ?_
    refine j_aload_n (j := 0) dX1_meanLength_60 rfl rfl ?_
    replace h := zbE h
    obtain ⟨r9, e10, h⟩ := h
    refine j_getR fgX1_16 (fun _ _ _ => rfl) dX1_meanLength_61 e10 ?_
    replace h := zbE h
    obtain ⟨a11, e12, h⟩ := h
    subst e12
    replace h := zkE h
    obtain ⟨e13, h⟩ := h
    replace h := zbE h
    obtain ⟨v15, e14, h⟩ := h
    refine j_cont (zrF (As := []) msX1_54_J2 (yJ2_size_ok e14) (Nat.le_trans (Nat.le_of_ble_eq_true rfl) hd) (zk_12 _ e13) rfl rfl (Nat.le_of_ble_eq_true rfl) dX1_meanLength_64) ?_
    refine j_i2d dX1_meanLength_69 ?_
    replace h := zcondE h
    obtain ⟨e16, h⟩ := h
    refine j_ddiv dX1_meanLength_70 e16 ?_
    obtain rfl := Option.some.inj h
    exact j_dret hk.1 hk.2 rfl dX1_meanLength_71
  · rw [if_neg c8] at h
    refine j_dconst0 dX1_meanLength_54 ?_
    refine j_goto (tgt := 71) dX1_meanLength_55 (by decide) ?_
    obtain rfl := Option.some.inj h
    exact j_dret hk.1 hk.2 rfl dX1_meanLength_71
def fbX1_meanLength_12 (t : Nat) (x1 : Int32) (x2 : Option Nat)  (G : GS) : Option ((Int32 × GS) ⊕ ((UInt64) × GS)) :=
  x2.bind fun a1 => zk [13] G a1 <| (fJ19_hasNext_0 a1 G).bind fun v5 => if v5 = 0 then (zo (fX1_meanLength_42 t x1 G)) else (zk [13] G a1 <| zb2 (fJ19_next_0 a1 G) fun r9 G10 => zkq [3] G10 r9 (r9.bind fun a12 => (zgR G10 3 a12 1).bind fun r14 => r14.bind fun a16 => (zln G10 a16).bind fun v18 => some (.inl ((x1 + v18), G10))))
def flX1_meanLength_12 (t : Nat) (x1 : Int32) (x2 : Option Nat) (G : GS) : Option ((UInt64) × GS) := zloop (fun s : Int32 × GS => fbX1_meanLength_12 t s.1 x2 s.2) (x1, G)
theorem wfbX1_meanLength_12 {F : zF} (hd : 4 ≤ F.2.2.2) (t : Nat) (x1 : Int32) (x2 : Option Nat) (G : GS) {a : (Int32 × GS) ⊕ ((UInt64) × GS)} (h : fbX1_meanLength_12 t x1 x2 G = some a) (hk : (zcase (fun s : Int32 × GS => J mX1_meanLength F s.2 12 [(0, vR (some t)), (1, vI s.1), (2, vR x2)] []) (zKD F)) a) : J mX1_meanLength F G 12 [(0, vR (some t)), (1, vI x1), (2, vR x2)] [] := by
  unfold fbX1_meanLength_12 at h
  refine j_aload_n (j := 2) dX1_meanLength_12 rfl rfl ?_
  replace h := zbE h
  obtain ⟨a1, e2, h⟩ := h
  subst e2
  replace h := zkE h
  obtain ⟨e3, h⟩ := h
  replace h := zbE h
  obtain ⟨v5, e4, h⟩ := h
  refine j_cont (zrF (As := []) msX1_289_J19 (yJ19_hasNext_ok e4) (Nat.le_trans (Nat.le_of_ble_eq_true rfl) hd) (zk_13 _ e3) rfl rfl (Nat.le_of_ble_eq_true rfl) dX1_meanLength_13) ?_
  refine j_if_eq (tgt := 42) dX1_meanLength_18 (by decide) (fun c6 => ?_) (fun c6 => ?_)
  · rw [if_pos c6] at h
    replace h := zoE h
    obtain ⟨a, h, rfl⟩ := h
    replace hk := hk
    exact J.sub (zall [0, 1] rfl) (wfX1_meanLength_42 hd t x1  G h hk)
  · rw [if_neg c6] at h
    refine j_aload_n (j := 2) dX1_meanLength_21 rfl rfl ?_
    replace h := zkE h
    obtain ⟨e7, h⟩ := h
    replace h := zb2E h
    obtain ⟨r9, G10, e8, h⟩ := h
    refine j_cont (zrF (As := []) msX1_230_J19 (yJ19_next_ok e8) (Nat.le_trans (Nat.le_of_ble_eq_true rfl) hd) (zk_13 _ e7) rfl rfl (Nat.le_of_ble_eq_true rfl) dX1_meanLength_22) ?_
    replace h := zkqE h
    obtain ⟨e11, h⟩ := h
    refine j_castq (fun k => j_castN dX1_meanLength_27 k) (fun b q20 k => j_castS (zk_3 _ (e11 b q20)) ⟨2, _, rfl, rfl⟩ q1615 dX1_meanLength_27 k) ?_
    refine j_astore_n (lv' := [(3, vR r9), (0, vR (some t)), (1, vI x1), (2, vR (some a1))]) dX1_meanLength_30 rfl (Nat.le_of_ble_eq_true rfl) rfl ?_
    refine j_iload_n (j := 2) dX1_meanLength_31 rfl rfl ?_
    refine j_aload_n (j := 0) dX1_meanLength_32 rfl rfl ?_
    replace h := zbE h
    obtain ⟨a12, e13, h⟩ := h
    subst e13
    replace h := zbE h
    obtain ⟨r14, e15, h⟩ := h
    refine j_getR fgX1_104 (fun _ _ _ => rfl) dX1_meanLength_33 e15 ?_
    replace h := zbE h
    obtain ⟨a16, e17, h⟩ := h
    subst e17
    replace h := zbE h
    obtain ⟨v18, e19, h⟩ := h
    refine j_alen e19 dX1_meanLength_36 ?_
    refine j_iadd dX1_meanLength_37 ?_
    refine j_istore_n (lv' := [(1, vI (x1 + v18)), (3, vR (some a12)), (0, vR (some t)), (2, vR (some a1))]) dX1_meanLength_38 rfl (Nat.le_of_ble_eq_true rfl) rfl ?_
    refine j_goto (tgt := 12) dX1_meanLength_39 (by decide) ?_
    obtain rfl := Option.some.inj h
    exact J.sub (zall [2, 0, 3] rfl) hk
theorem wflX1_meanLength_12 {F : zF} (hd : 4 ≤ F.2.2.2) (t : Nat) (x1 : Int32) (x2 : Option Nat) (G : GS) {a : (UInt64) × GS} (h : flX1_meanLength_12 t x1 x2 G = some a) (hk : zKD F a) : J mX1_meanLength F G 12 [(0, vR (some t)), (1, vI x1), (2, vR x2)] [] := by
  unfold flX1_meanLength_12 at h
  exact zloop_walk (P := (fun s : Int32 × GS => J mX1_meanLength F s.2 12 [(0, vR (some t)), (1, vI s.1), (2, vR x2)] [])) (fun s b e hk => wfbX1_meanLength_12 hd t s.1 x2 s.2 e hk) (x1, G) _ h hk
def fX1_meanLength_0 (t : Nat)  (G : GS) : Option ((UInt64) × GS) :=
  (zgR G 1 t 0).bind fun r1 => r1.bind fun a3 => zk [12] G a3 <| zb2 (fJ2_iterator_0 a3 G) fun r7 G8 => flX1_meanLength_12 t 0 r7 G8
theorem wfX1_meanLength_0 {F : zF} (hd : 4 ≤ F.2.2.2) (t : Nat)  (G : GS) {a : (UInt64) × GS} (h : fX1_meanLength_0 t  G = some a) (hk : zKD F a) : J mX1_meanLength F G 0 [(0, vR (some t))] [] := by
  unfold fX1_meanLength_0 at h
  refine j_iconst (v := 0) dX1_meanLength_0 (by decide) ?_
  refine j_istore_n (lv' := [(1, vI 0), (0, vR (some t))]) dX1_meanLength_1 rfl (Nat.le_of_ble_eq_true rfl) rfl ?_
  refine j_aload_n (j := 1) dX1_meanLength_2 rfl rfl ?_
  replace h := zbE h
  obtain ⟨r1, e2, h⟩ := h
  refine j_getR fgX1_16 (fun _ _ _ => rfl) dX1_meanLength_3 e2 ?_
  replace h := zbE h
  obtain ⟨a3, e4, h⟩ := h
  subst e4
  replace h := zkE h
  obtain ⟨e5, h⟩ := h
  replace h := zb2E h
  obtain ⟨r7, G8, e6, h⟩ := h
  refine j_cont (zrF (As := []) msX1_288_J2 (yJ2_iterator_ok e6) (Nat.le_trans (Nat.le_of_ble_eq_true rfl) hd) (zk_12 _ e5) rfl rfl (Nat.le_of_ble_eq_true rfl) dX1_meanLength_6) ?_
  refine j_astore_n (lv' := [(2, vR r7), (1, vI 0), (0, vR (some t))]) dX1_meanLength_11 rfl (Nat.le_of_ble_eq_true rfl) rfl ?_
  exact J.sub (zall [2, 1, 0] rfl) (wflX1_meanLength_12 hd t 0 r7  G8 h hk)
theorem yX1_meanLength_ok {t : Nat} {G : GS} {r : UInt64} {G1 : GS} (h : fX1_meanLength_0 t G = some (r, G1)) : zRuns yX1_meanLength (ws_ yX1_meanLength cX1_meanLength 4 (some Jvm.ClassFile.FieldType.double)) [vR (some t)] (.inl (some (vD r)), G, G1, 4) :=
  zentry (M := mX1_meanLength) (plainFor_of_name (by decide +kernel)) ⟨rfl, rfl, rfl, rfl⟩ (Nat.le_of_ble_eq_true rfl) (wfX1_meanLength_0 (Nat.le_refl _) t G h ⟨rfl, rfl⟩)
theorem fgJ3_79 : zFG RJ3 79 21 3 (.int) := ⟨(RJ4, TJ4, 4, tyJ4), rfl, by decide, in_J4, rfl, "java/lang/AbstractStringBuilder", Or.inl rfl, Or.inl q234⟩
abbrev mJ3_length : zM := (cJ3_length, RJ3, 1, (some Jvm.ClassFile.FieldType.int), "length", [], "()I")
def fJ3_length_0 (t : Nat)  (G : GS) : Option (Int32) :=
  (zgI G 22 t 3).bind fun v1 => some v1
theorem wfJ3_length_0 {F : zF} (hd : 1 ≤ F.2.2.2) (t : Nat)  (G : GS) {a : Int32} (h : fJ3_length_0 t  G = some a) (hk : zKPI F G a) : J mJ3_length F G 0 [(0, vR (some t))] [] := by
  unfold fJ3_length_0 at h
  refine j_aload_n (j := 0) dJ3_length_0 rfl rfl ?_
  replace h := zbE h
  obtain ⟨v1, e2, h⟩ := h
  refine j_getI fgJ3_79 (fun _ _ _ => rfl) dJ3_length_1 e2 ?_
  obtain rfl := Option.some.inj h
  exact j_iret hk.1 hk.2 rfl dJ3_length_4
theorem yJ3_length_ok {t : Nat} {G : GS} {r : Int32} (h : fJ3_length_0 t G = some r) : zRuns yJ3_length (ws_ yJ3_length cJ3_length 1 (some Jvm.ClassFile.FieldType.int)) [vR (some t)] (.inl (some (vI r)), G, G, 1) :=
  zentry (M := mJ3_length) (plainFor_of_name (by decide +kernel)) ⟨rfl, rfl, rfl, rfl⟩ (Nat.le_of_ble_eq_true rfl) (wfJ3_length_0 (Nat.le_refl _) t G h ⟨rfl, rfl⟩)
theorem zk_22 : ∀ k, [22].contains k = true → zKc k = some "java/lang/StringBuilder" := fun k h => by rw [zKc_one h]; rfl
theorem msJ4_343 : zSP RJ4 343 yJ3_length cJ3_length 1 (some Jvm.ClassFile.FieldType.int) 0 := ⟨lw_SP q1650 q3277 q243 q1651 q127 q1652, (by decide +kernel), (by decide)⟩
abbrev mJ4_length : zM := (cJ4_length, RJ4, 1, (some Jvm.ClassFile.FieldType.int), "length", [], "()I")
def fJ4_length_0 (t : Nat)  (G : GS) : Option (Int32) :=
  zk [22] G t <| (fJ3_length_0 t G).bind fun v3 => some v3
theorem wfJ4_length_0 {F : zF} (hd : 2 ≤ F.2.2.2) (t : Nat)  (G : GS) {a : Int32} (h : fJ4_length_0 t  G = some a) (hk : zKPI F G a) : J mJ4_length F G 0 [(0, vR (some t))] [] := by
  unfold fJ4_length_0 at h
  refine j_aload_n (j := 0) dJ4_length_0 rfl rfl ?_
  replace h := zkE h
  obtain ⟨e1, h⟩ := h
  replace h := zbE h
  obtain ⟨v3, e2, h⟩ := h
  refine j_cont (zrSP (As := []) msJ4_343 ⟨21, _, rfl, rfl⟩ (yJ3_length_ok e2) (Nat.le_trans (Nat.le_of_ble_eq_true rfl) hd) (zk_22 _ e1) rfl rfl (Nat.le_of_ble_eq_true rfl) dJ4_length_1) ?_
  obtain rfl := Option.some.inj h
  exact j_iret hk.1 hk.2 rfl dJ4_length_4
theorem yJ4_length_ok {t : Nat} {G : GS} {r : Int32} (h : fJ4_length_0 t G = some r) : zRuns yJ4_length (ws_ yJ4_length cJ4_length 1 (some Jvm.ClassFile.FieldType.int)) [vR (some t)] (.inl (some (vI r)), G, G, 2) :=
  zentry (M := mJ4_length) (plainFor_of_name (by decide +kernel)) ⟨rfl, rfl, rfl, rfl⟩ (Nat.le_of_ble_eq_true rfl) (wfJ4_length_0 (Nat.le_refl _) t G h ⟨rfl, rfl⟩)
theorem msJ5_1059 : zSS RJ5 1059 yJ17_checkIndex cJ17_checkIndex 3 (some Jvm.ClassFile.FieldType.int) 3 := ⟨lw_S q1664 q1028 q144 q1029, (by decide +kernel), (by decide)⟩
abbrev mJ5_checkIndex : zM := (cJ5_checkIndex, RJ5, 2, none, "checkIndex", [], "(II)V")
def fJ5_checkIndex_0 (x0 : Int32) (x1 : Int32)  (G : GS) : Option (GS) :=
  (fJ17_checkIndex_0 x0 x1 (some (gS G 4)) G).bind fun v2 => some G
theorem wfJ5_checkIndex_0 {F : zF} (hd : 2 ≤ F.2.2.2) (x0 : Int32) (x1 : Int32)  (G : GS) {a : GS} (h : fJ5_checkIndex_0 x0 x1  G = some a) (hk : zKV F a) : J mJ5_checkIndex F G 0 [(0, vI x0), (1, vI x1)] [] := by
  unfold fJ5_checkIndex_0 at h
  refine j_iload_n (j := 0) dJ5_checkIndex_0 rfl rfl ?_
  refine j_iload_n (j := 1) dJ5_checkIndex_1 rfl rfl ?_
  refine j_gets (i := 4) (x := vR (some (gS G 4))) rfl rfl q958 dJ5_checkIndex_2 ?_
  replace h := zbE h
  obtain ⟨v2, e1, h⟩ := h
  refine j_cont (zrS (As := [vI x0, vI x1, vR (some (gS G 4))]) msJ5_1059 (yJ17_checkIndex_ok e1) (Nat.le_trans (Nat.le_of_ble_eq_true rfl) hd) rfl rfl (Nat.le_of_ble_eq_true rfl) dJ5_checkIndex_5) ?_
  refine j_pop dJ5_checkIndex_8 rfl ?_
  obtain rfl := Option.some.inj h
  exact j_vret hk.1 hk.2 rfl dJ5_checkIndex_9
theorem yJ5_checkIndex_ok {x0 : Int32} {x1 : Int32} {G : GS} {G1 : GS} (h : fJ5_checkIndex_0 x0 x1 G = some G1) : zRuns yJ5_checkIndex (ws_ yJ5_checkIndex cJ5_checkIndex 2 none) [vI x0, vI x1] (.inl none, G, G1, 2) :=
  zentry (M := mJ5_checkIndex) (plainFor_of_name (by decide +kernel)) ⟨rfl, rfl, rfl, rfl⟩ (Nat.le_of_ble_eq_true rfl) (wfJ5_checkIndex_0 (Nat.le_refl _) x0 x1 G h ⟨rfl, rfl⟩)
abbrev mJ6_length : zM := (cJ6_length, RJ6, 1, (some Jvm.ClassFile.FieldType.int), "length", [], "([B)I")
def fJ6_length_0 (x0 : Option Nat)  (G : GS) : Option (Int32) :=
  x0.bind fun a1 => (zln G a1).bind fun v3 => some (v3 >>> ((1 : Int32) &&& 31))
theorem wfJ6_length_0 {F : zF} (hd : 1 ≤ F.2.2.2) (x0 : Option Nat)  (G : GS) {a : Int32} (h : fJ6_length_0 x0  G = some a) (hk : zKPI F G a) : J mJ6_length F G 0 [(0, vR x0)] [] := by
  unfold fJ6_length_0 at h
  refine j_aload_n (j := 0) dJ6_length_0 rfl rfl ?_
  replace h := zbE h
  obtain ⟨a1, e2, h⟩ := h
  subst e2
  replace h := zbE h
  obtain ⟨v3, e4, h⟩ := h
  refine j_alen e4 dJ6_length_1 ?_
  refine j_iconst (v := 1) dJ6_length_2 (by decide) ?_
  refine j_ishr dJ6_length_3 ?_
  obtain rfl := Option.some.inj h
  exact j_iret hk.1 hk.2 rfl dJ6_length_4
theorem yJ6_length_ok {x0 : Option Nat} {G : GS} {r : Int32} (h : fJ6_length_0 x0 G = some r) : zRuns yJ6_length (ws_ yJ6_length cJ6_length 1 (some Jvm.ClassFile.FieldType.int)) [vR x0] (.inl (some (vI r)), G, G, 1) :=
  zentry (M := mJ6_length) (plainFor_of_name (by decide +kernel)) ⟨rfl, rfl, rfl, rfl⟩ (Nat.le_of_ble_eq_true rfl) (wfJ6_length_0 (Nat.le_refl _) x0 G h ⟨rfl, rfl⟩)
abbrev mJ6_getChar : zM := (cJ6_getChar, RJ6, 2, (some Jvm.ClassFile.FieldType.char), "getChar", [], "([BI)C")
def fJ6_getChar_0 (x0 : Option Nat) (x1 : Int32)  (G : GS) : Option ((Int32) × GS) :=
  none
theorem wfJ6_getChar_0 {F : zF} (hd : 2 ≤ F.2.2.2) (x0 : Option Nat) (x1 : Int32)  (G : GS) {a : (Int32) × GS} (h : fJ6_getChar_0 x0 x1  G = some a) (hk : zKI F a) : J mJ6_getChar F G 0 [(0, vR x0), (1, vI x1)] [] := by
  unfold fJ6_getChar_0 at h
  cases h
theorem yJ6_getChar_ok {x0 : Option Nat} {x1 : Int32} {G : GS} {r : Int32} {G1 : GS} (h : fJ6_getChar_0 x0 x1 G = some (r, G1)) : zRuns yJ6_getChar (ws_ yJ6_getChar cJ6_getChar 2 (some Jvm.ClassFile.FieldType.char)) [vR x0, vI x1] (.inl (some (vI r)), G, G1, 2) :=
  zentry (M := mJ6_getChar) (plainFor_of_name (by decide +kernel)) ⟨rfl, rfl, rfl, rfl⟩ (Nat.le_of_ble_eq_true rfl) (wfJ6_getChar_0 (Nat.le_refl _) x0 x1 G h ⟨rfl, rfl⟩)
theorem fgJ3_15 : zFG RJ3 15 21 0 (.array (.byte)) := ⟨(RJ4, TJ4, 4, tyJ4), rfl, by decide, in_J4, rfl, "java/lang/AbstractStringBuilder", Or.inl rfl, Or.inl q230⟩
theorem fgJ3_22 : zFG RJ3 22 21 1 (.byte) := ⟨(RJ4, TJ4, 4, tyJ4), rfl, by decide, in_J4, rfl, "java/lang/AbstractStringBuilder", Or.inl rfl, Or.inl q231⟩
theorem msJ3_138 : zSS RJ3 138 yJ14_min cJ14_min 2 (some Jvm.ClassFile.FieldType.int) 2 := ⟨lw_S q1660 q731 q140 q732, (by decide +kernel), (by decide)⟩
theorem msJ3_144 : zSS RJ3 144 yJ5_checkIndex cJ5_checkIndex 2 none 2 := ⟨lw_S q1661 q1662 q129 q1663, (by decide +kernel), (by decide)⟩
theorem msJ3_148 : zSS RJ3 148 yJ6_getChar cJ6_getChar 2 (some Jvm.ClassFile.FieldType.char) 2 := ⟨lw_S q1665 q906 q130 q907, (by decide +kernel), (by decide)⟩
abbrev mJ3_charAt : zM := (cJ3_charAt, RJ3, 5, (some Jvm.ClassFile.FieldType.char), "charAt", [], "(I)C")
def fJ3_charAt_0 (t : Nat) (x1 : Int32)  (G : GS) : Option ((Int32) × GS) :=
  (zgI G 22 t 1).bind fun v1 => (zgR G 22 t 0).bind fun r3 => (zgI G 22 t 3).bind fun v5 => r3.bind fun a7 => (zln G a7).bind fun v9 => (fJ14_min_0 v5 (v9 >>> (v1 &&& 31)) G).bind fun v12 => (fJ5_checkIndex_0 x1 v12 G).bind fun G14 => if v1 = 0 then ((zaI G14 53 a7 x1).bind fun v16 => zcond (zch (((v16 &&& 255).toUInt32 % 65536).toInt32)) (some (((v16 &&& 255).toUInt32 % 65536).toInt32, G14))) else (zb2 (fJ6_getChar_0 (some a7) x1 G14) fun v20 G21 => zcond (zch v20) (some (v20, G21)))
theorem wfJ3_charAt_0 {F : zF} (hd : 3 ≤ F.2.2.2) (t : Nat) (x1 : Int32)  (G : GS) {a : (Int32) × GS} (h : fJ3_charAt_0 t x1  G = some a) (hk : zKI F a) : J mJ3_charAt F G 0 [(0, vR (some t)), (1, vI x1)] [] := by
  unfold fJ3_charAt_0 at h
  refine j_aload_n (j := 0) dJ3_charAt_0 rfl rfl ?_
  replace h := zbE h
  obtain ⟨v1, e2, h⟩ := h
  refine j_getI fgJ3_22 (fun _ _ _ => rfl) dJ3_charAt_1 e2 ?_
  refine j_istore_n (lv' := [(2, vI v1), (0, vR (some t)), (1, vI x1)]) dJ3_charAt_4 rfl (Nat.le_of_ble_eq_true rfl) rfl ?_
  refine j_aload_n (j := 1) dJ3_charAt_5 rfl rfl ?_
  replace h := zbE h
  obtain ⟨r3, e4, h⟩ := h
  refine j_getR fgJ3_15 (fun _ _ _ => rfl) dJ3_charAt_6 e4 ?_
  refine j_astore_n (lv' := [(3, vR r3), (2, vI v1), (0, vR (some t)), (1, vI x1)]) dJ3_charAt_9 rfl (Nat.le_of_ble_eq_true rfl) rfl ?_
  refine j_aload_n (j := 2) dJ3_charAt_10 rfl rfl ?_
  replace h := zbE h
  obtain ⟨v5, e6, h⟩ := h
  refine j_getI fgJ3_79 (fun _ _ _ => rfl) dJ3_charAt_11 e6 ?_
  refine j_aload_n (j := 0) dJ3_charAt_14 rfl rfl ?_
  replace h := zbE h
  obtain ⟨a7, e8, h⟩ := h
  subst e8
  replace h := zbE h
  obtain ⟨v9, e10, h⟩ := h
  refine j_alen e10 dJ3_charAt_15 ?_
  refine j_iload_n (j := 1) dJ3_charAt_16 rfl rfl ?_
  refine j_ishr dJ3_charAt_17 ?_
  replace h := zbE h
  obtain ⟨v12, e11, h⟩ := h
  refine j_cont (zrS (As := [vI v5, vI (v9 >>> (v1 &&& 31))]) msJ3_138 (yJ14_min_ok e11) (Nat.le_trans (Nat.le_of_ble_eq_true rfl) hd) rfl rfl (Nat.le_of_ble_eq_true rfl) dJ3_charAt_18) ?_
  refine j_istore (lv' := [(4, vI v12), (3, vR (some a7)), (2, vI v1), (0, vR (some t)), (1, vI x1)]) dJ3_charAt_21 (Nat.le_of_ble_eq_true rfl) rfl ?_
  refine j_iload_n (j := 4) dJ3_charAt_23 rfl rfl ?_
  refine j_iload (j := 0) dJ3_charAt_24 rfl ?_
  replace h := zbE h
  obtain ⟨G14, e13, h⟩ := h
  refine j_cont (zrS (As := [vI x1, vI v12]) msJ3_144 (yJ5_checkIndex_ok e13) (Nat.le_trans (Nat.le_of_ble_eq_true rfl) hd) rfl rfl (Nat.le_of_ble_eq_true rfl) dJ3_charAt_26) ?_
  refine j_iload_n (j := 2) dJ3_charAt_29 rfl rfl ?_
  refine j_if_ne (tgt := 42) dJ3_charAt_30 (by decide) (fun c15 => ?_) (fun c15 => ?_)
  · rw [if_pos c15] at h
    refine j_aload_n (j := 1) dJ3_charAt_33 rfl rfl ?_
    refine j_iload_n (j := 4) dJ3_charAt_34 rfl rfl ?_
    replace h := zbE h
    obtain ⟨v16, e17, h⟩ := h
    refine j_bald rfl e17 dJ3_charAt_35 ?_
    refine j_sipush (v := 255) dJ3_charAt_36 (by decide) ?_
    refine j_iand dJ3_charAt_39 ?_
    refine j_i2c dJ3_charAt_40 ?_
    replace h := zcondE h
    obtain ⟨e18, h⟩ := h
    obtain rfl := Option.some.inj h
    exact j_zret hk.1 hk.2 rfl (zch_n e18) dJ3_charAt_41
  · rw [if_neg c15] at h
    refine j_aload_n (j := 1) dJ3_charAt_42 rfl rfl ?_
    refine j_iload_n (j := 4) dJ3_charAt_43 rfl rfl ?_
    replace h := zb2E h
    obtain ⟨v20, G21, e19, h⟩ := h
    refine j_cont (zrS (As := [vR (some a7), vI x1]) msJ3_148 (yJ6_getChar_ok e19) (Nat.le_trans (Nat.le_of_ble_eq_true rfl) hd) rfl rfl (Nat.le_of_ble_eq_true rfl) dJ3_charAt_44) ?_
    replace h := zcondE h
    obtain ⟨e22, h⟩ := h
    obtain rfl := Option.some.inj h
    exact j_zret hk.1 hk.2 rfl (zch_n e22) dJ3_charAt_47
theorem yJ3_charAt_ok {t : Nat} {x1 : Int32} {G : GS} {r : Int32} {G1 : GS} (h : fJ3_charAt_0 t x1 G = some (r, G1)) : zRuns yJ3_charAt (ws_ yJ3_charAt cJ3_charAt 5 (some Jvm.ClassFile.FieldType.char)) [vR (some t), vI x1] (.inl (some (vI r)), G, G1, 3) :=
  zentry (M := mJ3_charAt) (plainFor_of_name (by decide +kernel)) ⟨rfl, rfl, rfl, rfl⟩ (Nat.le_of_ble_eq_true rfl) (wfJ3_charAt_0 (Nat.le_refl _) t x1 G h ⟨rfl, rfl⟩)
theorem msJ4_329 : zSP RJ4 329 yJ3_charAt cJ3_charAt 5 (some Jvm.ClassFile.FieldType.char) 1 := ⟨lw_SP q1657 q3278 q243 q1658 q127 q1659, (by decide +kernel), (by decide)⟩
abbrev mJ4_charAt : zM := (cJ4_charAt, RJ4, 2, (some Jvm.ClassFile.FieldType.char), "charAt", [], "(I)C")
def fJ4_charAt_0 (t : Nat) (x1 : Int32)  (G : GS) : Option ((Int32) × GS) :=
  zk [22] G t <| zb2 (fJ3_charAt_0 t x1 G) fun v3 G4 => zcond (zch v3) (some (v3, G4))
theorem wfJ4_charAt_0 {F : zF} (hd : 4 ≤ F.2.2.2) (t : Nat) (x1 : Int32)  (G : GS) {a : (Int32) × GS} (h : fJ4_charAt_0 t x1  G = some a) (hk : zKI F a) : J mJ4_charAt F G 0 [(0, vR (some t)), (1, vI x1)] [] := by
  unfold fJ4_charAt_0 at h
  refine j_aload_n (j := 0) dJ4_charAt_0 rfl rfl ?_
  refine j_iload_n (j := 1) dJ4_charAt_1 rfl rfl ?_
  replace h := zkE h
  obtain ⟨e1, h⟩ := h
  replace h := zb2E h
  obtain ⟨v3, G4, e2, h⟩ := h
  refine j_cont (zrSP (As := [vI x1]) msJ4_329 ⟨21, _, rfl, rfl⟩ (yJ3_charAt_ok e2) (Nat.le_trans (Nat.le_of_ble_eq_true rfl) hd) (zk_22 _ e1) rfl rfl (Nat.le_of_ble_eq_true rfl) dJ4_charAt_2) ?_
  replace h := zcondE h
  obtain ⟨e5, h⟩ := h
  obtain rfl := Option.some.inj h
  exact j_zret hk.1 hk.2 rfl (zch_n e5) dJ4_charAt_5
theorem yJ4_charAt_ok {t : Nat} {x1 : Int32} {G : GS} {r : Int32} {G1 : GS} (h : fJ4_charAt_0 t x1 G = some (r, G1)) : zRuns yJ4_charAt (ws_ yJ4_charAt cJ4_charAt 2 (some Jvm.ClassFile.FieldType.char)) [vR (some t), vI x1] (.inl (some (vI r)), G, G1, 4) :=
  zentry (M := mJ4_charAt) (plainFor_of_name (by decide +kernel)) ⟨rfl, rfl, rfl, rfl⟩ (Nat.le_of_ble_eq_true rfl) (wfJ4_charAt_0 (Nat.le_refl _) t x1 G h ⟨rfl, rfl⟩)
theorem fgX1_23 : zFG RX1 23 0 4 (.object "java/lang/StringBuilder") := ⟨(RX1, TX1, 5, tyX1), rfl, by decide, in_X1, rfl, "SelahGenerator", Or.inl rfl, Or.inl q251⟩
theorem msX1_314 : zSV RX1 314 RJ4 yJ4_length cJ4_length 1 (some Jvm.ClassFile.FieldType.int) 0 := ⟨lw_V q1646 q1647 q1648 q128 q1649, (by decide +kernel), (by decide)⟩
theorem msX1_317 : zSV RX1 317 RJ4 yJ4_charAt cJ4_charAt 2 (some Jvm.ClassFile.FieldType.char) 1 := ⟨lw_V q1653 q1654 q1655 q128 q1656, (by decide +kernel), (by decide)⟩
abbrev mX1_outputByte : zM := (cX1_outputByte, RX1, 2, (some Jvm.ClassFile.FieldType.int), "outputByte", [], "(I)I")
def fX1_outputByte_0 (t : Nat) (x1 : Int32)  (G : GS) : Option ((Int32) × GS) :=
  (zgR G 1 t 4).bind fun r1 => r1.bind fun a3 => zk [22] G a3 <| (fJ4_length_0 a3 G).bind fun v7 => (fX1_isIn_0 x1 0 (v7 - 1) G).bind fun v9 => if v9 = 0 then (some ((-1), G)) else ((zgR G 1 t 4).bind fun r11 => r11.bind fun a13 => zk [22] G a13 <| zb2 (fJ4_charAt_0 a13 x1 G) fun v17 G18 => some (v17, G18))
theorem wfX1_outputByte_0 {F : zF} (hd : 5 ≤ F.2.2.2) (t : Nat) (x1 : Int32)  (G : GS) {a : (Int32) × GS} (h : fX1_outputByte_0 t x1  G = some a) (hk : zKI F a) : J mX1_outputByte F G 0 [(0, vR (some t)), (1, vI x1)] [] := by
  unfold fX1_outputByte_0 at h
  refine j_iload_n (j := 1) dX1_outputByte_0 rfl rfl ?_
  refine j_iconst (v := 0) dX1_outputByte_1 (by decide) ?_
  refine j_aload_n (j := 0) dX1_outputByte_2 rfl rfl ?_
  replace h := zbE h
  obtain ⟨r1, e2, h⟩ := h
  refine j_getR fgX1_23 (fun _ _ _ => rfl) dX1_outputByte_3 e2 ?_
  replace h := zbE h
  obtain ⟨a3, e4, h⟩ := h
  subst e4
  replace h := zkE h
  obtain ⟨e5, h⟩ := h
  replace h := zbE h
  obtain ⟨v7, e6, h⟩ := h
  refine j_cont (zrV (As := []) msX1_314 (yJ4_length_ok e6) (Nat.le_trans (Nat.le_of_ble_eq_true rfl) hd) (zk_22 _ e5) rfl rfl (Nat.le_of_ble_eq_true rfl) dX1_outputByte_6) ?_
  refine j_iconst (v := 1) dX1_outputByte_9 (by decide) ?_
  refine j_isub dX1_outputByte_10 ?_
  replace h := zbE h
  obtain ⟨v9, e8, h⟩ := h
  refine j_cont (zrS (As := [vI x1, vI 0, vI (v7 - 1)]) msX1_3 (yX1_isIn_ok e8) (Nat.le_trans (Nat.le_of_ble_eq_true rfl) hd) rfl rfl (Nat.le_of_ble_eq_true rfl) dX1_outputByte_11) ?_
  refine j_if_eq (tgt := 28) dX1_outputByte_14 (by decide) (fun c10 => ?_) (fun c10 => ?_)
  · rw [if_pos c10] at h
    refine j_iconst (v := (-1)) dX1_outputByte_28 (by decide) ?_
    obtain rfl := Option.some.inj h
    exact j_iret hk.1 hk.2 rfl dX1_outputByte_29
  · rw [if_neg c10] at h
    refine j_aload_n (j := 0) dX1_outputByte_17 rfl rfl ?_
    replace h := zbE h
    obtain ⟨r11, e12, h⟩ := h
    refine j_getR fgX1_23 (fun _ _ _ => rfl) dX1_outputByte_18 e12 ?_
    refine j_iload_n (j := 1) dX1_outputByte_21 rfl rfl ?_
    replace h := zbE h
    obtain ⟨a13, e14, h⟩ := h
    subst e14
    replace h := zkE h
    obtain ⟨e15, h⟩ := h
    replace h := zb2E h
    obtain ⟨v17, G18, e16, h⟩ := h
    refine j_cont (zrV (As := [vI x1]) msX1_317 (yJ4_charAt_ok e16) (Nat.le_trans (Nat.le_of_ble_eq_true rfl) hd) (zk_22 _ e15) rfl rfl (Nat.le_of_ble_eq_true rfl) dX1_outputByte_22) ?_
    refine j_goto (tgt := 29) dX1_outputByte_25 (by decide) ?_
    obtain rfl := Option.some.inj h
    exact j_iret hk.1 hk.2 rfl dX1_outputByte_29
theorem yX1_outputByte_ok {t : Nat} {x1 : Int32} {G : GS} {r : Int32} {G1 : GS} (h : fX1_outputByte_0 t x1 G = some (r, G1)) : zRuns yX1_outputByte (ws_ yX1_outputByte cX1_outputByte 2 (some Jvm.ClassFile.FieldType.int)) [vR (some t), vI x1] (.inl (some (vI r)), G, G1, 5) :=
  zentry (M := mX1_outputByte) (plainFor_of_name (by decide +kernel)) ⟨rfl, rfl, rfl, rfl⟩ (Nat.le_of_ble_eq_true rfl) (wfX1_outputByte_0 (Nat.le_refl _) t x1 G h ⟨rfl, rfl⟩)
abbrev mX1_pairConflicts : zM := (cX1_pairConflicts, RX1, 1, (some Jvm.ClassFile.FieldType.int), "pairConflicts", [], "()I")
def fX1_pairConflicts_0 (t : Nat)  (G : GS) : Option ((Int32) × GS) :=
  zk [1] G t <| zb2 (fX1_pairs_0 t G) fun r3 G4 => r3.bind fun a5 => zk [7] G4 a5 <| (fX7_conflicts_0 a5 G4).bind fun v9 => some (v9, G4)
theorem wfX1_pairConflicts_0 {F : zF} (hd : 10 ≤ F.2.2.2) (t : Nat)  (G : GS) {a : (Int32) × GS} (h : fX1_pairConflicts_0 t  G = some a) (hk : zKI F a) : J mX1_pairConflicts F G 0 [(0, vR (some t))] [] := by
  unfold fX1_pairConflicts_0 at h
  refine j_aload_n (j := 0) dX1_pairConflicts_0 rfl rfl ?_
  replace h := zkE h
  obtain ⟨e1, h⟩ := h
  replace h := zb2E h
  obtain ⟨r3, G4, e2, h⟩ := h
  refine j_cont (zrV (As := []) msX1_159 (yX1_pairs_ok e2) (Nat.le_trans (Nat.le_of_ble_eq_true rfl) hd) (zk_1 _ e1) rfl rfl (Nat.le_of_ble_eq_true rfl) dX1_pairConflicts_1) ?_
  replace h := zbE h
  obtain ⟨a5, e6, h⟩ := h
  subst e6
  replace h := zkE h
  obtain ⟨e7, h⟩ := h
  replace h := zbE h
  obtain ⟨v9, e8, h⟩ := h
  refine j_cont (zrV (As := []) msX1_171 (yX7_conflicts_ok e8) (Nat.le_trans (Nat.le_of_ble_eq_true rfl) hd) (zk_7 _ e7) rfl rfl (Nat.le_of_ble_eq_true rfl) dX1_pairConflicts_4) ?_
  obtain rfl := Option.some.inj h
  exact j_iret hk.1 hk.2 rfl dX1_pairConflicts_7
theorem yX1_pairConflicts_ok {t : Nat} {G : GS} {r : Int32} {G1 : GS} (h : fX1_pairConflicts_0 t G = some (r, G1)) : zRuns yX1_pairConflicts (ws_ yX1_pairConflicts cX1_pairConflicts 1 (some Jvm.ClassFile.FieldType.int)) [vR (some t)] (.inl (some (vI r)), G, G1, 10) :=
  zentry (M := mX1_pairConflicts) (plainFor_of_name (by decide +kernel)) ⟨rfl, rfl, rfl, rfl⟩ (Nat.le_of_ble_eq_true rfl) (wfX1_pairConflicts_0 (Nat.le_refl _) t G h ⟨rfl, rfl⟩)
abbrev mX8_pairs : zM := (cX8_pairs, RX8, 3, (some Jvm.ClassFile.FieldType.int), "pairs", [], "()I")
def fX8_pairs_23 (t : Nat) (x1 : Int32) (x2 : Int32)  (G : GS) : Option ((Int32 × Int32) ⊕ (Int32)) :=
  some (.inl (x1, (x2 + 1)))
theorem wfX8_pairs_23 {F : zF} (hd : 2 ≤ F.2.2.2) (t : Nat) (x1 : Int32) (x2 : Int32)  (G : GS) {a : (Int32 × Int32) ⊕ (Int32)} (h : fX8_pairs_23 t x1 x2  G = some a) (hk : (zcase (fun s : Int32 × Int32 => J mX8_pairs F G 5 [(0, vR (some t)), (1, vI s.1), (2, vI s.2)] []) (zKPI F G)) a) : J mX8_pairs F G 23 [(0, vR (some t)), (1, vI x1), (2, vI x2)] [] := by
  unfold fX8_pairs_23 at h
  refine j_iinc (j := 2) (v := (x2 + 1)) (lv' := [(2, vI (x2 + 1)), (0, vR (some t)), (1, vI x1)]) dX8_pairs_23 rfl rfl (Nat.le_of_ble_eq_true rfl) rfl ?_
  refine j_goto (tgt := 5) dX8_pairs_26 (by decide) ?_
  obtain rfl := Option.some.inj h
  exact J.sub (zall [1, 2, 0] rfl) hk
def fbX8_pairs_5 (t : Nat) (x1 : Int32) (x2 : Int32)  (G : GS) : Option ((Int32 × Int32) ⊕ (Int32)) :=
  if 183 ≤ x2 then (zo (some x1)) else (zk [8] G t <| (fX8_has_0 t x2 G).bind fun v4 => if v4 = 0 then (fX8_pairs_23 t x1 x2 G) else (fX8_pairs_23 t (x1 + 1) x2 G))
def flX8_pairs_5 (t : Nat) (x1 : Int32) (x2 : Int32) (G : GS) : Option (Int32) := zloop (fun s : Int32 × Int32 => fbX8_pairs_5 t s.1 s.2 G) (x1, x2)
theorem wfbX8_pairs_5 {F : zF} (hd : 2 ≤ F.2.2.2) (t : Nat) (x1 : Int32) (x2 : Int32) (G : GS) {a : (Int32 × Int32) ⊕ (Int32)} (h : fbX8_pairs_5 t x1 x2 G = some a) (hk : (zcase (fun s : Int32 × Int32 => J mX8_pairs F G 5 [(0, vR (some t)), (1, vI s.1), (2, vI s.2)] []) (zKPI F G)) a) : J mX8_pairs F G 5 [(0, vR (some t)), (1, vI x1), (2, vI x2)] [] := by
  unfold fbX8_pairs_5 at h
  refine j_iload_n (j := 2) dX8_pairs_5 rfl rfl ?_
  refine j_sipush (v := 183) dX8_pairs_6 (by decide) ?_
  refine j_icmp_ge (tgt := 29) dX8_pairs_9 (by decide) (fun c1 => ?_) (fun c1 => ?_)
  · rw [if_pos c1] at h
    replace h := zoE h
    obtain ⟨a, h, rfl⟩ := h
    replace hk := hk
    refine j_iload_n (j := 1) dX8_pairs_29 rfl rfl ?_
    obtain rfl := Option.some.inj h
    exact j_iret hk.1 hk.2 rfl dX8_pairs_30
  · rw [if_neg c1] at h
    refine j_aload_n (j := 0) dX8_pairs_12 rfl rfl ?_
    refine j_iload_n (j := 2) dX8_pairs_13 rfl rfl ?_
    replace h := zkE h
    obtain ⟨e2, h⟩ := h
    replace h := zbE h
    obtain ⟨v4, e3, h⟩ := h
    refine j_cont (zrV (As := [vI x2]) msX8_17 (yX8_has_ok e3) (Nat.le_trans (Nat.le_of_ble_eq_true rfl) hd) (zk_8 _ e2) rfl rfl (Nat.le_of_ble_eq_true rfl) dX8_pairs_14) ?_
    refine j_if_eq (tgt := 23) dX8_pairs_17 (by decide) (fun c5 => ?_) (fun c5 => ?_)
    · rw [if_pos c5] at h
      exact J.sub (zall [0, 1, 2] rfl) (wfX8_pairs_23 hd t x1 x2  G h hk)
    · rw [if_neg c5] at h
      refine j_iinc (j := 1) (v := (x1 + 1)) (lv' := [(1, vI (x1 + 1)), (0, vR (some t)), (2, vI x2)]) dX8_pairs_20 rfl rfl (Nat.le_of_ble_eq_true rfl) rfl ?_
      exact J.sub (zall [1, 0, 2] rfl) (wfX8_pairs_23 hd t (x1 + 1) x2  G h hk)
theorem wflX8_pairs_5 {F : zF} (hd : 2 ≤ F.2.2.2) (t : Nat) (x1 : Int32) (x2 : Int32) (G : GS) {a : Int32} (h : flX8_pairs_5 t x1 x2 G = some a) (hk : zKPI F G a) : J mX8_pairs F G 5 [(0, vR (some t)), (1, vI x1), (2, vI x2)] [] := by
  unfold flX8_pairs_5 at h
  exact zloop_walk (P := (fun s : Int32 × Int32 => J mX8_pairs F G 5 [(0, vR (some t)), (1, vI s.1), (2, vI s.2)] [])) (fun s b e hk => wfbX8_pairs_5 hd t s.1 s.2 G e hk) (x1, x2) _ h hk
def fX8_pairs_0 (t : Nat)  (G : GS) : Option (Int32) :=
  flX8_pairs_5 t 0 14 G
theorem wfX8_pairs_0 {F : zF} (hd : 2 ≤ F.2.2.2) (t : Nat)  (G : GS) {a : Int32} (h : fX8_pairs_0 t  G = some a) (hk : zKPI F G a) : J mX8_pairs F G 0 [(0, vR (some t))] [] := by
  unfold fX8_pairs_0 at h
  refine j_iconst (v := 0) dX8_pairs_0 (by decide) ?_
  refine j_istore_n (lv' := [(1, vI 0), (0, vR (some t))]) dX8_pairs_1 rfl (Nat.le_of_ble_eq_true rfl) rfl ?_
  refine j_bipush (v := 14) dX8_pairs_2 (by decide) ?_
  refine j_istore_n (lv' := [(2, vI 14), (1, vI 0), (0, vR (some t))]) dX8_pairs_4 rfl (Nat.le_of_ble_eq_true rfl) rfl ?_
  exact J.sub (zall [2, 1, 0] rfl) (wflX8_pairs_5 hd t 0 14  G h hk)
theorem yX8_pairs_ok {t : Nat} {G : GS} {r : Int32} (h : fX8_pairs_0 t G = some r) : zRuns yX8_pairs (ws_ yX8_pairs cX8_pairs 3 (some Jvm.ClassFile.FieldType.int)) [vR (some t)] (.inl (some (vI r)), G, G, 2) :=
  zentry (M := mX8_pairs) (plainFor_of_name (by decide +kernel)) ⟨rfl, rfl, rfl, rfl⟩ (Nat.le_of_ble_eq_true rfl) (wfX8_pairs_0 (Nat.le_refl _) t G h ⟨rfl, rfl⟩)
theorem fgX1_162 : zFG RX1 162 6 3 (.array (.object "SelahGenerator$Strings")) := ⟨(RX7, TX7, 7, tyX7), rfl, by decide, in_X7, rfl, "SelahGenerator$Pairs", Or.inl rfl, Or.inr ⟨_, zxw 62 rfl⟩⟩
theorem msX1_165 : zSV RX1 165 RX8 yX8_pairs cX8_pairs 3 (some Jvm.ClassFile.FieldType.int) 0 := ⟨lw_V q1938 q1939 q1940 q169 q1941, (by decide +kernel), (by decide)⟩
abbrev mX1_pairCount : zM := (cX1_pairCount, RX1, 2, (some Jvm.ClassFile.FieldType.int), "pairCount", [], "(I)I")
def fX1_pairCount_0 (t : Nat) (x1 : Int32)  (G : GS) : Option (((Int32) ⊕ String) × GS) :=
  zk [1] G t <| zb2 (fX1_pairs_0 t G) fun r3 G4 => r3.bind fun a5 => (zgR G4 7 a5 3).bind fun r7 => zk [1] G4 t <| zb3 (fX1_number_0 t x1 G4) (fun v11 G12 => r7.bind fun a15 => (zaR G12 55 a15 v11).bind fun r17 => r17.bind fun a19 => zk [8] G12 a19 <| (fX8_pairs_0 a19 G12).bind fun v23 => some (.inl v23, G12)) (fun X13 G14 => some (.inr X13, G14))
theorem wfX1_pairCount_0 {F : zF} (hd : 10 ≤ F.2.2.2) (t : Nat) (x1 : Int32)  (G : GS) {a : ((Int32) ⊕ String) × GS} (h : fX1_pairCount_0 t x1  G = some a) (hk : zKXI F a) : J mX1_pairCount F G 0 [(0, vR (some t)), (1, vI x1)] [] := by
  unfold fX1_pairCount_0 at h
  refine j_aload_n (j := 0) dX1_pairCount_0 rfl rfl ?_
  replace h := zkE h
  obtain ⟨e1, h⟩ := h
  replace h := zb2E h
  obtain ⟨r3, G4, e2, h⟩ := h
  refine j_cont (zrV (As := []) msX1_159 (yX1_pairs_ok e2) (Nat.le_trans (Nat.le_of_ble_eq_true rfl) hd) (zk_1 _ e1) rfl rfl (Nat.le_of_ble_eq_true rfl) dX1_pairCount_1) ?_
  replace h := zbE h
  obtain ⟨a5, e6, h⟩ := h
  subst e6
  replace h := zbE h
  obtain ⟨r7, e8, h⟩ := h
  refine j_getR fgX1_162 (fun _ _ _ => rfl) dX1_pairCount_4 e8 ?_
  refine j_aload_n (j := 0) dX1_pairCount_7 rfl rfl ?_
  refine j_iload_n (j := 1) dX1_pairCount_8 rfl rfl ?_
  replace h := zkE h
  obtain ⟨e9, h⟩ := h
  replace h := zb3E h
  rcases h with ⟨v11, G12, e10, h⟩ | ⟨X13, G14, e10, h⟩
  · refine j_cont (zrV (As := [vI x1]) msX1_60 (yX1_number_ok e10) (Nat.le_trans (Nat.le_of_ble_eq_true rfl) hd) (zk_1 _ e9) rfl rfl (Nat.le_of_ble_eq_true rfl) dX1_pairCount_9) ?_
    replace h := zbE h
    obtain ⟨a15, e16, h⟩ := h
    subst e16
    replace h := zbE h
    obtain ⟨r17, e18, h⟩ := h
    refine j_aald (Or.inr (Or.inl rfl)) e18 dX1_pairCount_12 ?_
    replace h := zbE h
    obtain ⟨a19, e20, h⟩ := h
    subst e20
    replace h := zkE h
    obtain ⟨e21, h⟩ := h
    replace h := zbE h
    obtain ⟨v23, e22, h⟩ := h
    refine j_cont (zrV (As := []) msX1_165 (yX8_pairs_ok e22) (Nat.le_trans (Nat.le_of_ble_eq_true rfl) hd) (zk_8 _ e21) rfl rfl (Nat.le_of_ble_eq_true rfl) dX1_pairCount_13) ?_
    obtain rfl := Option.some.inj h
    exact j_iret hk.1 hk.2 rfl dX1_pairCount_16
  · refine j_thr (zrV (As := [vI x1]) msX1_60 (yX1_number_ok e10) (Nat.le_trans (Nat.le_of_ble_eq_true rfl) hd) (zk_1 _ e9) rfl rfl (Nat.le_of_ble_eq_true rfl) dX1_pairCount_9) ?_
    obtain rfl := Option.some.inj h
    exact jx_out hk.1 hk.2 (by decide)
theorem yX1_pairCount_ok {t : Nat} {x1 : Int32} {G : GS} {r : (Int32) ⊕ String} {G1 : GS} (h : fX1_pairCount_0 t x1 G = some (r, G1)) : zRuns yX1_pairCount (ws_ yX1_pairCount cX1_pairCount 2 (some Jvm.ClassFile.FieldType.int)) [vR (some t), vI x1] (zout (fun v => some (vI v)) r, G, G1, 10) :=
  zentry (M := mX1_pairCount) (plainFor_of_name (by decide +kernel)) ⟨rfl, rfl, rfl, rfl⟩ (Nat.le_of_ble_eq_true rfl) (wfX1_pairCount_0 (Nat.le_refl _) t x1 G h ⟨rfl, rfl⟩)
theorem msX1_152 : zSV RX1 152 RX5 yX5_predicted cX5_predicted 4 (some Jvm.ClassFile.FieldType.int) 2 := ⟨lw_V q1910 q1911 q1912 q151 q1913, (by decide +kernel), (by decide)⟩
abbrev mX1_predicted : zM := (cX1_predicted, RX1, 3, (some Jvm.ClassFile.FieldType.int), "predicted", [], "(II)I")
def fX1_predicted_0 (t : Nat) (x1 : Int32) (x2 : Int32)  (G : GS) : Option (((Int32) ⊕ String) × GS) :=
  zk [1] G t <| zb2 (fX1_sets_0 t G) fun r3 G4 => zb3 (fX1_index_0 x1 G4) (fun v6 G7 => zb3 (fX1_token_0 x2 G7) (fun v11 G12 => r3.bind fun a15 => zk [5] G12 a15 <| zb2 (fX5_predicted_0 a15 (20 + v6) v11 G12) fun v19 G20 => some (.inl v19, G20)) (fun X13 G14 => some (.inr X13, G14))) (fun X8 G9 => some (.inr X8, G9))
theorem wfX1_predicted_0 {F : zF} (hd : 52 ≤ F.2.2.2) (t : Nat) (x1 : Int32) (x2 : Int32)  (G : GS) {a : ((Int32) ⊕ String) × GS} (h : fX1_predicted_0 t x1 x2  G = some a) (hk : zKXI F a) : J mX1_predicted F G 0 [(0, vR (some t)), (1, vI x1), (2, vI x2)] [] := by
  unfold fX1_predicted_0 at h
  refine j_aload_n (j := 0) dX1_predicted_0 rfl rfl ?_
  replace h := zkE h
  obtain ⟨e1, h⟩ := h
  replace h := zb2E h
  obtain ⟨r3, G4, e2, h⟩ := h
  refine j_cont (zrV (As := []) msX1_128 (yX1_sets_ok e2) (Nat.le_trans (Nat.le_of_ble_eq_true rfl) hd) (zk_1 _ e1) rfl rfl (Nat.le_of_ble_eq_true rfl) dX1_predicted_1) ?_
  refine j_bipush (v := 20) dX1_predicted_4 (by decide) ?_
  refine j_iload_n (j := 1) dX1_predicted_6 rfl rfl ?_
  replace h := zb3E h
  rcases h with ⟨v6, G7, e5, h⟩ | ⟨X8, G9, e5, h⟩
  · refine j_cont (zrS (As := [vI x1]) msX1_76 (yX1_index_ok e5) (Nat.le_trans (Nat.le_of_ble_eq_true rfl) hd) rfl rfl (Nat.le_of_ble_eq_true rfl) dX1_predicted_7) ?_
    refine j_iadd dX1_predicted_10 ?_
    refine j_iload_n (j := 2) dX1_predicted_11 rfl rfl ?_
    replace h := zb3E h
    rcases h with ⟨v11, G12, e10, h⟩ | ⟨X13, G14, e10, h⟩
    · refine j_cont (zrS (As := [vI x2]) msX1_149 (yX1_token_ok e10) (Nat.le_trans (Nat.le_of_ble_eq_true rfl) hd) rfl rfl (Nat.le_of_ble_eq_true rfl) dX1_predicted_12) ?_
      replace h := zbE h
      obtain ⟨a15, e16, h⟩ := h
      subst e16
      replace h := zkE h
      obtain ⟨e17, h⟩ := h
      replace h := zb2E h
      obtain ⟨v19, G20, e18, h⟩ := h
      refine j_cont (zrV (As := [vI (20 + v6), vI v11]) msX1_152 (yX5_predicted_ok e18) (Nat.le_trans (Nat.le_of_ble_eq_true rfl) hd) (zk_5 _ e17) rfl rfl (Nat.le_of_ble_eq_true rfl) dX1_predicted_15) ?_
      obtain rfl := Option.some.inj h
      exact j_iret hk.1 hk.2 rfl dX1_predicted_18
    · refine j_thr (zrS (As := [vI x2]) msX1_149 (yX1_token_ok e10) (Nat.le_trans (Nat.le_of_ble_eq_true rfl) hd) rfl rfl (Nat.le_of_ble_eq_true rfl) dX1_predicted_12) ?_
      obtain rfl := Option.some.inj h
      exact jx_out hk.1 hk.2 (by decide)
  · refine j_thr (zrS (As := [vI x1]) msX1_76 (yX1_index_ok e5) (Nat.le_trans (Nat.le_of_ble_eq_true rfl) hd) rfl rfl (Nat.le_of_ble_eq_true rfl) dX1_predicted_7) ?_
    obtain rfl := Option.some.inj h
    exact jx_out hk.1 hk.2 (by decide)
theorem yX1_predicted_ok {t : Nat} {x1 : Int32} {x2 : Int32} {G : GS} {r : (Int32) ⊕ String} {G1 : GS} (h : fX1_predicted_0 t x1 x2 G = some (r, G1)) : zRuns yX1_predicted (ws_ yX1_predicted cX1_predicted 3 (some Jvm.ClassFile.FieldType.int)) [vR (some t), vI x1, vI x2] (zout (fun v => some (vI v)) r, G, G1, 52) :=
  zentry (M := mX1_predicted) (plainFor_of_name (by decide +kernel)) ⟨rfl, rfl, rfl, rfl⟩ (Nat.le_of_ble_eq_true rfl) (wfX1_predicted_0 (Nat.le_refl _) t x1 x2 G h ⟨rfl, rfl⟩)
theorem msX1_169 : zSV RX1 169 RX7 yX7_predicted cX7_predicted 6 (some Jvm.ClassFile.FieldType.int) 3 := ⟨lw_V q1949 q1950 q1951 q168 q1952, (by decide +kernel), (by decide)⟩
abbrev mX1_predictedByPair : zM := (cX1_predictedByPair, RX1, 4, (some Jvm.ClassFile.FieldType.int), "predictedByPair", [], "(III)I")
def fX1_predictedByPair_0 (t : Nat) (x1 : Int32) (x2 : Int32) (x3 : Int32)  (G : GS) : Option (((Int32) ⊕ String) × GS) :=
  zk [1] G t <| zb2 (fX1_pairs_0 t G) fun r3 G4 => zb3 (fX1_index_0 x1 G4) (fun v6 G7 => zb3 (fX1_token_0 x2 G7) (fun v11 G12 => zb3 (fX1_token_0 x3 G12) (fun v16 G17 => r3.bind fun a20 => zk [7] G17 a20 <| (fX7_predicted_0 a20 (20 + v6) v11 v16 G17).bind fun v24 => some (.inl v24, G17)) (fun X18 G19 => some (.inr X18, G19))) (fun X13 G14 => some (.inr X13, G14))) (fun X8 G9 => some (.inr X8, G9))
theorem wfX1_predictedByPair_0 {F : zF} (hd : 10 ≤ F.2.2.2) (t : Nat) (x1 : Int32) (x2 : Int32) (x3 : Int32)  (G : GS) {a : ((Int32) ⊕ String) × GS} (h : fX1_predictedByPair_0 t x1 x2 x3  G = some a) (hk : zKXI F a) : J mX1_predictedByPair F G 0 [(0, vR (some t)), (1, vI x1), (2, vI x2), (3, vI x3)] [] := by
  unfold fX1_predictedByPair_0 at h
  refine j_aload_n (j := 0) dX1_predictedByPair_0 rfl rfl ?_
  replace h := zkE h
  obtain ⟨e1, h⟩ := h
  replace h := zb2E h
  obtain ⟨r3, G4, e2, h⟩ := h
  refine j_cont (zrV (As := []) msX1_159 (yX1_pairs_ok e2) (Nat.le_trans (Nat.le_of_ble_eq_true rfl) hd) (zk_1 _ e1) rfl rfl (Nat.le_of_ble_eq_true rfl) dX1_predictedByPair_1) ?_
  refine j_bipush (v := 20) dX1_predictedByPair_4 (by decide) ?_
  refine j_iload_n (j := 1) dX1_predictedByPair_6 rfl rfl ?_
  replace h := zb3E h
  rcases h with ⟨v6, G7, e5, h⟩ | ⟨X8, G9, e5, h⟩
  · refine j_cont (zrS (As := [vI x1]) msX1_76 (yX1_index_ok e5) (Nat.le_trans (Nat.le_of_ble_eq_true rfl) hd) rfl rfl (Nat.le_of_ble_eq_true rfl) dX1_predictedByPair_7) ?_
    refine j_iadd dX1_predictedByPair_10 ?_
    refine j_iload_n (j := 2) dX1_predictedByPair_11 rfl rfl ?_
    replace h := zb3E h
    rcases h with ⟨v11, G12, e10, h⟩ | ⟨X13, G14, e10, h⟩
    · refine j_cont (zrS (As := [vI x2]) msX1_149 (yX1_token_ok e10) (Nat.le_trans (Nat.le_of_ble_eq_true rfl) hd) rfl rfl (Nat.le_of_ble_eq_true rfl) dX1_predictedByPair_12) ?_
      refine j_iload_n (j := 3) dX1_predictedByPair_15 rfl rfl ?_
      replace h := zb3E h
      rcases h with ⟨v16, G17, e15, h⟩ | ⟨X18, G19, e15, h⟩
      · refine j_cont (zrS (As := [vI x3]) msX1_149 (yX1_token_ok e15) (Nat.le_trans (Nat.le_of_ble_eq_true rfl) hd) rfl rfl (Nat.le_of_ble_eq_true rfl) dX1_predictedByPair_16) ?_
        replace h := zbE h
        obtain ⟨a20, e21, h⟩ := h
        subst e21
        replace h := zkE h
        obtain ⟨e22, h⟩ := h
        replace h := zbE h
        obtain ⟨v24, e23, h⟩ := h
        refine j_cont (zrV (As := [vI (20 + v6), vI v11, vI v16]) msX1_169 (yX7_predicted_ok e23) (Nat.le_trans (Nat.le_of_ble_eq_true rfl) hd) (zk_7 _ e22) rfl rfl (Nat.le_of_ble_eq_true rfl) dX1_predictedByPair_19) ?_
        obtain rfl := Option.some.inj h
        exact j_iret hk.1 hk.2 rfl dX1_predictedByPair_22
      · refine j_thr (zrS (As := [vI x3]) msX1_149 (yX1_token_ok e15) (Nat.le_trans (Nat.le_of_ble_eq_true rfl) hd) rfl rfl (Nat.le_of_ble_eq_true rfl) dX1_predictedByPair_16) ?_
        obtain rfl := Option.some.inj h
        exact jx_out hk.1 hk.2 (by decide)
    · refine j_thr (zrS (As := [vI x2]) msX1_149 (yX1_token_ok e10) (Nat.le_trans (Nat.le_of_ble_eq_true rfl) hd) rfl rfl (Nat.le_of_ble_eq_true rfl) dX1_predictedByPair_12) ?_
      obtain rfl := Option.some.inj h
      exact jx_out hk.1 hk.2 (by decide)
  · refine j_thr (zrS (As := [vI x1]) msX1_76 (yX1_index_ok e5) (Nat.le_trans (Nat.le_of_ble_eq_true rfl) hd) rfl rfl (Nat.le_of_ble_eq_true rfl) dX1_predictedByPair_7) ?_
    obtain rfl := Option.some.inj h
    exact jx_out hk.1 hk.2 (by decide)
theorem yX1_predictedByPair_ok {t : Nat} {x1 : Int32} {x2 : Int32} {x3 : Int32} {G : GS} {r : (Int32) ⊕ String} {G1 : GS} (h : fX1_predictedByPair_0 t x1 x2 x3 G = some (r, G1)) : zRuns yX1_predictedByPair (ws_ yX1_predictedByPair cX1_predictedByPair 4 (some Jvm.ClassFile.FieldType.int)) [vR (some t), vI x1, vI x2, vI x3] (zout (fun v => some (vI v)) r, G, G1, 10) :=
  zentry (M := mX1_predictedByPair) (plainFor_of_name (by decide +kernel)) ⟨rfl, rfl, rfl, rfl⟩ (Nat.le_of_ble_eq_true rfl) (wfX1_predictedByPair_0 (Nat.le_refl _) t x1 x2 x3 G h ⟨rfl, rfl⟩)
theorem fgX1_146 : zFG RX1 146 4 5 (.array (.int)) := ⟨(RX5, TX5, 10, tyX5), rfl, by decide, in_X5, rfl, "SelahGenerator$Sets", Or.inl rfl, Or.inr ⟨_, zxw 59 rfl⟩⟩
abbrev mX1_predictionOf : zM := (cX1_predictionOf, RX1, 2, (some Jvm.ClassFile.FieldType.int), "predictionOf", [], "(I)I")
def fX1_predictionOf_0 (t : Nat) (x1 : Int32)  (G : GS) : Option (((Int32) ⊕ String) × GS) :=
  zk [1] G t <| zb2 (fX1_sets_0 t G) fun r3 G4 => r3.bind fun a5 => (zgR G4 5 a5 5).bind fun r7 => zk [1] G4 t <| zb3 (fX1_number_0 t x1 G4) (fun v11 G12 => r7.bind fun a15 => (zaI G12 50 a15 v11).bind fun v17 => some (.inl v17, G12)) (fun X13 G14 => some (.inr X13, G14))
theorem wfX1_predictionOf_0 {F : zF} (hd : 52 ≤ F.2.2.2) (t : Nat) (x1 : Int32)  (G : GS) {a : ((Int32) ⊕ String) × GS} (h : fX1_predictionOf_0 t x1  G = some a) (hk : zKXI F a) : J mX1_predictionOf F G 0 [(0, vR (some t)), (1, vI x1)] [] := by
  unfold fX1_predictionOf_0 at h
  refine j_aload_n (j := 0) dX1_predictionOf_0 rfl rfl ?_
  replace h := zkE h
  obtain ⟨e1, h⟩ := h
  replace h := zb2E h
  obtain ⟨r3, G4, e2, h⟩ := h
  refine j_cont (zrV (As := []) msX1_128 (yX1_sets_ok e2) (Nat.le_trans (Nat.le_of_ble_eq_true rfl) hd) (zk_1 _ e1) rfl rfl (Nat.le_of_ble_eq_true rfl) dX1_predictionOf_1) ?_
  replace h := zbE h
  obtain ⟨a5, e6, h⟩ := h
  subst e6
  replace h := zbE h
  obtain ⟨r7, e8, h⟩ := h
  refine j_getR fgX1_146 (fun _ _ _ => rfl) dX1_predictionOf_4 e8 ?_
  refine j_aload_n (j := 0) dX1_predictionOf_7 rfl rfl ?_
  refine j_iload_n (j := 1) dX1_predictionOf_8 rfl rfl ?_
  replace h := zkE h
  obtain ⟨e9, h⟩ := h
  replace h := zb3E h
  rcases h with ⟨v11, G12, e10, h⟩ | ⟨X13, G14, e10, h⟩
  · refine j_cont (zrV (As := [vI x1]) msX1_60 (yX1_number_ok e10) (Nat.le_trans (Nat.le_of_ble_eq_true rfl) hd) (zk_1 _ e9) rfl rfl (Nat.le_of_ble_eq_true rfl) dX1_predictionOf_9) ?_
    replace h := zbE h
    obtain ⟨a15, e16, h⟩ := h
    subst e16
    replace h := zbE h
    obtain ⟨v17, e18, h⟩ := h
    refine j_iald (Or.inl rfl) e18 dX1_predictionOf_12 ?_
    obtain rfl := Option.some.inj h
    exact j_iret hk.1 hk.2 rfl dX1_predictionOf_13
  · refine j_thr (zrV (As := [vI x1]) msX1_60 (yX1_number_ok e10) (Nat.le_trans (Nat.le_of_ble_eq_true rfl) hd) (zk_1 _ e9) rfl rfl (Nat.le_of_ble_eq_true rfl) dX1_predictionOf_9) ?_
    obtain rfl := Option.some.inj h
    exact jx_out hk.1 hk.2 (by decide)
theorem yX1_predictionOf_ok {t : Nat} {x1 : Int32} {G : GS} {r : (Int32) ⊕ String} {G1 : GS} (h : fX1_predictionOf_0 t x1 G = some (r, G1)) : zRuns yX1_predictionOf (ws_ yX1_predictionOf cX1_predictionOf 2 (some Jvm.ClassFile.FieldType.int)) [vR (some t), vI x1] (zout (fun v => some (vI v)) r, G, G1, 52) :=
  zentry (M := mX1_predictionOf) (plainFor_of_name (by decide +kernel)) ⟨rfl, rfl, rfl, rfl⟩ (Nat.le_of_ble_eq_true rfl) (wfX1_predictionOf_0 (Nat.le_refl _) t x1 G h ⟨rfl, rfl⟩)
end
