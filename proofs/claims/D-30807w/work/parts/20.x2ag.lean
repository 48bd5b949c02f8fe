/-! printed: functions and walks -/
set_option maxRecDepth 100000
noncomputable section
theorem fgX2_344 : zFG RX2 344 1 36 (.int) := ⟨(RX2, TX2, 42, tyX2), rfl, by decide, in_X2, rfl, "SelahGeneratorModel", Or.inl rfl, Or.inl q2708⟩
theorem fpX2_344_X2 : zFP RX2 344 1 36 (.int) false := ⟨(RX2, TX2, 42, tyX2), rfl, by decide, in_X2, tyX2_ok, nmX2, rfl, rfl, (by decide), "SelahGeneratorModel", Or.inl rfl, q2708⟩
theorem msX2_237 : zSS RX2 237 yX2_isToken cX2_isToken 1 (some Jvm.ClassFile.FieldType.boolean) 1 := ⟨lw_S q2975 q2976 q131 q2977, (by decide +kernel), (by decide)⟩
theorem msX2_358 : zSV RX2 358 RX2 yX2_worksOff cX2_worksOff 5 none 3 := ⟨lw_V q3150 q3152 qs111 q131 q3153, (by decide +kernel), (by decide)⟩
abbrev mX2_give : zM := (cX2_give, RX2, 4, (some Jvm.ClassFile.FieldType.int), "give", [], "(I)I")
def fX2_give_159 (t : Nat) (x2 : Int32)  (G : GS) : Option ((Int32) × GS) :=
  (zgI G 2 t 35).bind fun v1 => some ((v1 - x2), G)
theorem wfX2_give_159 {F : zF} (hd : 9 ≤ F.2.2.2) (t : Nat) (x2 : Int32)  (G : GS) {a : (Int32) × GS} (h : fX2_give_159 t x2  G = some a) (hk : zKI F a) : J mX2_give F G 159 [(0, vR (some t)), (2, vI x2)] [] := by
  unfold fX2_give_159 at h
  refine j_aload_n (j := 0) dX2_give_159 rfl rfl ?_
  replace h := zbE h
  obtain ⟨v1, e2, h⟩ := h
  refine j_getI fgX2_146 (fun _ _ _ => rfl) dX2_give_160 e2 ?_
  refine j_iload_n (j := 1) dX2_give_163 rfl rfl ?_
  refine j_isub dX2_give_164 ?_
  obtain rfl := Option.some.inj h
  exact j_iret hk.1 hk.2 rfl dX2_give_165
def fX2_give_131 (t : Nat) (x1 : Int32) (x2 : Int32) (x3 : Int32)  (G : GS) : Option ((Int32) × GS) :=
  (zpI G 2 t 36 x1).bind fun G1 => if x1 = 12 then ((zgI G1 2 t 30).bind fun v4 => if v4 = 1 then (zk [2] G1 t <| (fX2_worksOff_0 t 12 12 x3 G1).bind fun G9 => fX2_give_159 t x2 G9) else (fX2_give_159 t x2 G1)) else (fX2_give_159 t x2 G1)
theorem wfX2_give_131 {F : zF} (hd : 9 ≤ F.2.2.2) (t : Nat) (x1 : Int32) (x2 : Int32) (x3 : Int32)  (G : GS) {a : (Int32) × GS} (h : fX2_give_131 t x1 x2 x3  G = some a) (hk : zKI F a) : J mX2_give F G 131 [(0, vR (some t)), (1, vI x1), (2, vI x2), (3, vI x3)] [] := by
  unfold fX2_give_131 at h
  refine j_aload_n (j := 0) dX2_give_131 rfl rfl ?_
  refine j_iload_n (j := 1) dX2_give_132 rfl rfl ?_
  replace h := zbE h
  obtain ⟨G1, e2, h⟩ := h
  refine j_putI fpX2_344_X2 (Or.inl rfl) rfl dX2_give_133 e2 ?_
  refine j_iload_n (j := 1) dX2_give_136 rfl rfl ?_
  refine j_bipush (v := 12) dX2_give_137 (by decide) ?_
  refine j_icmp_ne (tgt := 159) dX2_give_139 (by decide) (fun c3 => ?_) (fun c3 => ?_)
  · rw [if_pos c3] at h
    refine j_aload_n (j := 0) dX2_give_142 rfl rfl ?_
    replace h := zbE h
    obtain ⟨v4, e5, h⟩ := h
    refine j_getI fgX2_134 (fun _ _ _ => rfl) dX2_give_143 e5 ?_
    refine j_iconst (v := 1) dX2_give_146 (by decide) ?_
    refine j_icmp_ne (tgt := 159) dX2_give_147 (by decide) (fun c6 => ?_) (fun c6 => ?_)
    · rw [if_pos c6] at h
      refine j_aload_n (j := 0) dX2_give_150 rfl rfl ?_
      refine j_bipush (v := 12) dX2_give_151 (by decide) ?_
      refine j_bipush (v := 12) dX2_give_153 (by decide) ?_
      refine j_iload_n (j := 3) dX2_give_155 rfl rfl ?_
      replace h := zkE h
      obtain ⟨e7, h⟩ := h
      replace h := zbE h
      obtain ⟨G9, e8, h⟩ := h
      refine j_cont (zrV (As := [vI 12, vI 12, vI x3]) msX2_358 (yX2_worksOff_ok e8) (Nat.le_trans (Nat.le_of_ble_eq_true rfl) hd) (zk_2 _ e7) rfl rfl (Nat.le_of_ble_eq_true rfl) dX2_give_156) ?_
      exact J.sub (zall [0, 2] rfl) (wfX2_give_159 hd t x2  G9 h hk)
    · rw [if_neg c6] at h
      exact J.sub (zall [0, 2] rfl) (wfX2_give_159 hd t x2  G1 h hk)
  · rw [if_neg c3] at h
    exact J.sub (zall [0, 2] rfl) (wfX2_give_159 hd t x2  G1 h hk)
def fX2_give_93 (t : Nat) (x1 : Int32) (x2 : Int32) (x3 : Int32)  (G : GS) : Option ((Int32) × GS) :=
  (zgI G 2 t 31).bind fun v1 => if v1 = 1 then (zk [2] G t <| (fX2_worksOff_0 t x1 (-1) x3 G).bind fun G6 => fX2_give_159 t x2 G6) else ((zgI G 2 t 36).bind fun v7 => if v7 = (-1) then (fX2_give_131 t x1 x2 x3 G) else ((zgI G 2 t 36).bind fun v10 => zk [2] G t <| (fX2_worksOff_0 t v10 x1 (x3 - 1) G).bind fun G14 => fX2_give_131 t x1 x2 x3 G14))
theorem wfX2_give_93 {F : zF} (hd : 9 ≤ F.2.2.2) (t : Nat) (x1 : Int32) (x2 : Int32) (x3 : Int32)  (G : GS) {a : (Int32) × GS} (h : fX2_give_93 t x1 x2 x3  G = some a) (hk : zKI F a) : J mX2_give F G 93 [(0, vR (some t)), (1, vI x1), (2, vI x2), (3, vI x3)] [] := by
  unfold fX2_give_93 at h
  refine j_aload_n (j := 0) dX2_give_93 rfl rfl ?_
  replace h := zbE h
  obtain ⟨v1, e2, h⟩ := h
  refine j_getI fgX2_341 (fun _ _ _ => rfl) dX2_give_94 e2 ?_
  refine j_iconst (v := 1) dX2_give_97 (by decide) ?_
  refine j_icmp_ne (tgt := 111) dX2_give_98 (by decide) (fun c3 => ?_) (fun c3 => ?_)
  · rw [if_pos c3] at h
    refine j_aload_n (j := 0) dX2_give_101 rfl rfl ?_
    refine j_iload_n (j := 1) dX2_give_102 rfl rfl ?_
    refine j_iconst (v := (-1)) dX2_give_103 (by decide) ?_
    refine j_iload_n (j := 3) dX2_give_104 rfl rfl ?_
    replace h := zkE h
    obtain ⟨e4, h⟩ := h
    replace h := zbE h
    obtain ⟨G6, e5, h⟩ := h
    refine j_cont (zrV (As := [vI x1, vI (-1), vI x3]) msX2_358 (yX2_worksOff_ok e5) (Nat.le_trans (Nat.le_of_ble_eq_true rfl) hd) (zk_2 _ e4) rfl rfl (Nat.le_of_ble_eq_true rfl) dX2_give_105) ?_
    refine j_goto (tgt := 159) dX2_give_108 (by decide) ?_
    exact J.sub (zall [0, 2] rfl) (wfX2_give_159 hd t x2  G6 h hk)
  · rw [if_neg c3] at h
    refine j_aload_n (j := 0) dX2_give_111 rfl rfl ?_
    replace h := zbE h
    obtain ⟨v7, e8, h⟩ := h
    refine j_getI fgX2_344 (fun _ _ _ => rfl) dX2_give_112 e8 ?_
    refine j_iconst (v := (-1)) dX2_give_115 (by decide) ?_
    refine j_icmp_eq (tgt := 131) dX2_give_116 (by decide) (fun c9 => ?_) (fun c9 => ?_)
    · rw [if_pos c9] at h
      exact J.sub (zall [0, 1, 2, 3] rfl) (wfX2_give_131 hd t x1 x2 x3  G h hk)
    · rw [if_neg c9] at h
      refine j_aload_n (j := 0) dX2_give_119 rfl rfl ?_
      refine j_aload_n (j := 0) dX2_give_120 rfl rfl ?_
      replace h := zbE h
      obtain ⟨v10, e11, h⟩ := h
      refine j_getI fgX2_344 (fun _ _ _ => rfl) dX2_give_121 e11 ?_
      refine j_iload_n (j := 1) dX2_give_124 rfl rfl ?_
      refine j_iload_n (j := 3) dX2_give_125 rfl rfl ?_
      refine j_iconst (v := 1) dX2_give_126 (by decide) ?_
      refine j_isub dX2_give_127 ?_
      replace h := zkE h
      obtain ⟨e12, h⟩ := h
      replace h := zbE h
      obtain ⟨G14, e13, h⟩ := h
      refine j_cont (zrV (As := [vI v10, vI x1, vI (x3 - 1)]) msX2_358 (yX2_worksOff_ok e13) (Nat.le_trans (Nat.le_of_ble_eq_true rfl) hd) (zk_2 _ e12) rfl rfl (Nat.le_of_ble_eq_true rfl) dX2_give_128) ?_
      exact J.sub (zall [0, 1, 2, 3] rfl) (wfX2_give_131 hd t x1 x2 x3  G14 h hk)
def fX2_give_57 (t : Nat) (x1 : Int32)  (G : GS) : Option ((Int32) × GS) :=
  (zgI G 2 t 35).bind fun v1 => (zgI G 2 t 32).bind fun v3 => if x1 = 12 then (fX2_give_93 t x1 v1 v3 G) else ((zgR G 2 t 25).bind fun r6 => (zgI G 2 t 32).bind fun v8 => r6.bind fun a10 => (zsI G 50 a10 v8 x1).bind fun G12 => (zgI G12 2 t 32).bind fun v14 => (zpI G12 2 t 32 (v14 + 1)).bind fun G16 => fX2_give_93 t x1 v1 v3 G16)
theorem wfX2_give_57 {F : zF} (hd : 9 ≤ F.2.2.2) (t : Nat) (x1 : Int32)  (G : GS) {a : (Int32) × GS} (h : fX2_give_57 t x1  G = some a) (hk : zKI F a) : J mX2_give F G 57 [(0, vR (some t)), (1, vI x1)] [] := by
  unfold fX2_give_57 at h
  refine j_aload_n (j := 0) dX2_give_57 rfl rfl ?_
  replace h := zbE h
  obtain ⟨v1, e2, h⟩ := h
  refine j_getI fgX2_146 (fun _ _ _ => rfl) dX2_give_58 e2 ?_
  refine j_istore_n (lv' := [(2, vI v1), (0, vR (some t)), (1, vI x1)]) dX2_give_61 rfl (Nat.le_of_ble_eq_true rfl) rfl ?_
  refine j_aload_n (j := 1) dX2_give_62 rfl rfl ?_
  replace h := zbE h
  obtain ⟨v3, e4, h⟩ := h
  refine j_getI fgX2_137 (fun _ _ _ => rfl) dX2_give_63 e4 ?_
  refine j_istore_n (lv' := [(3, vI v3), (2, vI v1), (0, vR (some t)), (1, vI x1)]) dX2_give_66 rfl (Nat.le_of_ble_eq_true rfl) rfl ?_
  refine j_iload_n (j := 3) dX2_give_67 rfl rfl ?_
  refine j_bipush (v := 12) dX2_give_68 (by decide) ?_
  refine j_icmp_eq (tgt := 93) dX2_give_70 (by decide) (fun c5 => ?_) (fun c5 => ?_)
  · rw [if_pos c5] at h
    exact J.sub (zall [2, 3, 1, 0] rfl) (wfX2_give_93 hd t x1 v1 v3  G h hk)
  · rw [if_neg c5] at h
    refine j_aload_n (j := 2) dX2_give_73 rfl rfl ?_
    replace h := zbE h
    obtain ⟨r6, e7, h⟩ := h
    refine j_getR fgX2_65 (fun _ _ _ => rfl) dX2_give_74 e7 ?_
    refine j_aload_n (j := 2) dX2_give_77 rfl rfl ?_
    replace h := zbE h
    obtain ⟨v8, e9, h⟩ := h
    refine j_getI fgX2_137 (fun _ _ _ => rfl) dX2_give_78 e9 ?_
    refine j_iload_n (j := 3) dX2_give_81 rfl rfl ?_
    replace h := zbE h
    obtain ⟨a10, e11, h⟩ := h
    subst e11
    replace h := zbE h
    obtain ⟨G12, e13, h⟩ := h
    refine j_iast e13 dX2_give_82 ?_
    refine j_aload_n (j := 2) dX2_give_83 rfl rfl ?_
    refine j_dup dX2_give_84 rfl ?_
    replace h := zbE h
    obtain ⟨v14, e15, h⟩ := h
    refine j_getI fgX2_137 (fun _ _ _ => rfl) dX2_give_85 e15 ?_
    refine j_iconst (v := 1) dX2_give_88 (by decide) ?_
    refine j_iadd dX2_give_89 ?_
    replace h := zbE h
    obtain ⟨G16, e17, h⟩ := h
    refine j_putI fpX2_137_X2 (Or.inl rfl) rfl dX2_give_90 e17 ?_
    exact J.sub (zall [2, 3, 1, 0] rfl) (wfX2_give_93 hd t x1 v1 v3  G16 h hk)
def fX2_give_33 (t : Nat) (x1 : Int32) (s0 : Option Nat) (s1 : Int32) (s2 : Int32) (G : GS) : Option ((Int32) × GS) :=
  s0.bind fun a1 => zk [2] G a1 <| zb2 (fX2_goesBoth_0 a1 s1 s2 G) fun v5 G6 => if v5 = 0 then (some (0, G6)) else (zk [2] G6 t <| (fX2_knows_0 t G6).bind fun G10 => (zgI G10 2 t 31).bind fun v11 => if v11 = 2 then (zk [2] G10 t <| (fX2_knowsPairs_0 t G10).bind fun G16 => fX2_give_57 t x1 G16) else (fX2_give_57 t x1 G10))
theorem wfX2_give_33 {F : zF} (hd : 9 ≤ F.2.2.2) (t : Nat) (x1 : Int32) (s0 : Option Nat) (s1 : Int32) (s2 : Int32) (G : GS) {a : (Int32) × GS} (h : fX2_give_33 t x1 s0 s1 s2 G = some a) (hk : zKI F a) : J mX2_give F G 33 [(0, vR (some t)), (1, vI x1)] [vI s2, vI s1, vR s0] := by
  unfold fX2_give_33 at h
  replace h := zbE h
  obtain ⟨a1, e2, h⟩ := h
  subst e2
  replace h := zkE h
  obtain ⟨e3, h⟩ := h
  replace h := zb2E h
  obtain ⟨v5, G6, e4, h⟩ := h
  refine j_cont (zrV (As := [vI s1, vI s2]) msX2_153 (yX2_goesBoth_ok e4) (Nat.le_trans (Nat.le_of_ble_eq_true rfl) hd) (zk_2 _ e3) rfl rfl (Nat.le_of_ble_eq_true rfl) dX2_give_33) ?_
  refine j_if_ne (tgt := 41) dX2_give_36 (by decide) (fun c7 => ?_) (fun c7 => ?_)
  · rw [if_pos c7] at h
    refine j_iconst (v := 0) dX2_give_39 (by decide) ?_
    obtain rfl := Option.some.inj h
    exact j_iret hk.1 hk.2 rfl dX2_give_40
  · rw [if_neg c7] at h
    refine j_aload_n (j := 0) dX2_give_41 rfl rfl ?_
    replace h := zkE h
    obtain ⟨e8, h⟩ := h
    replace h := zbE h
    obtain ⟨G10, e9, h⟩ := h
    refine j_cont (zrV (As := []) msX2_227 (yX2_knows_ok e9) (Nat.le_trans (Nat.le_of_ble_eq_true rfl) hd) (zk_2 _ e8) rfl rfl (Nat.le_of_ble_eq_true rfl) dX2_give_42) ?_
    refine j_aload_n (j := 0) dX2_give_45 rfl rfl ?_
    replace h := zbE h
    obtain ⟨v11, e12, h⟩ := h
    refine j_getI fgX2_341 (fun _ _ _ => rfl) dX2_give_46 e12 ?_
    refine j_iconst (v := 2) dX2_give_49 (by decide) ?_
    refine j_icmp_ne (tgt := 57) dX2_give_50 (by decide) (fun c13 => ?_) (fun c13 => ?_)
    · rw [if_pos c13] at h
      refine j_aload_n (j := 0) dX2_give_53 rfl rfl ?_
      replace h := zkE h
      obtain ⟨e14, h⟩ := h
      replace h := zbE h
      obtain ⟨G16, e15, h⟩ := h
      refine j_cont (zrV (As := []) msX2_275 (yX2_knowsPairs_ok e15) (Nat.le_trans (Nat.le_of_ble_eq_true rfl) hd) (zk_2 _ e14) rfl rfl (Nat.le_of_ble_eq_true rfl) dX2_give_54) ?_
      exact J.sub (zall [0, 1] rfl) (wfX2_give_57 hd t x1  G16 h hk)
    · rw [if_neg c13] at h
      exact J.sub (zall [0, 1] rfl) (wfX2_give_57 hd t x1  G10 h hk)
def fX2_give_28 (t : Nat) (x1 : Int32) (s0 : Option Nat) (s1 : Int32) (G : GS) : Option ((Int32) × GS) :=
  fX2_give_33 t x1 s0 s1 1 G
theorem wfX2_give_28 {F : zF} (hd : 9 ≤ F.2.2.2) (t : Nat) (x1 : Int32) (s0 : Option Nat) (s1 : Int32) (G : GS) {a : (Int32) × GS} (h : fX2_give_28 t x1 s0 s1 G = some a) (hk : zKI F a) : J mX2_give F G 28 [(0, vR (some t)), (1, vI x1)] [vI s1, vR s0] := by
  unfold fX2_give_28 at h
  refine j_iconst (v := 1) dX2_give_28 (by decide) ?_
  refine j_goto (tgt := 33) dX2_give_29 (by decide) ?_
  exact J.sub (zall [0, 1] rfl) (wfX2_give_33 hd t x1 s0 s1 1 G h hk)
def fX2_give_32 (t : Nat) (x1 : Int32) (s0 : Option Nat) (s1 : Int32) (G : GS) : Option ((Int32) × GS) :=
  fX2_give_33 t x1 s0 s1 0 G
theorem wfX2_give_32 {F : zF} (hd : 9 ≤ F.2.2.2) (t : Nat) (x1 : Int32) (s0 : Option Nat) (s1 : Int32) (G : GS) {a : (Int32) × GS} (h : fX2_give_32 t x1 s0 s1 G = some a) (hk : zKI F a) : J mX2_give F G 32 [(0, vR (some t)), (1, vI x1)] [vI s1, vR s0] := by
  unfold fX2_give_32 at h
  refine j_iconst (v := 0) dX2_give_32 (by decide) ?_
  exact J.sub (zall [0, 1] rfl) (wfX2_give_33 hd t x1 s0 s1 0 G h hk)
def fX2_give_0 (t : Nat) (x1 : Int32)  (G : GS) : Option ((Int32) × GS) :=
  (fX2_isToken_0 x1 G).bind fun v2 => (zgI G 2 t 30).bind fun v3 => if v3 = 1 then (if x1 = 12 then (fX2_give_28 t x1 (some t) v2 G) else ((zgI G 2 t 32).bind fun v7 => if 40 ≤ v7 then (fX2_give_32 t x1 (some t) v2 G) else (fX2_give_28 t x1 (some t) v2 G))) else (fX2_give_32 t x1 (some t) v2 G)
theorem wfX2_give_0 {F : zF} (hd : 9 ≤ F.2.2.2) (t : Nat) (x1 : Int32)  (G : GS) {a : (Int32) × GS} (h : fX2_give_0 t x1  G = some a) (hk : zKI F a) : J mX2_give F G 0 [(0, vR (some t)), (1, vI x1)] [] := by
  unfold fX2_give_0 at h
  refine j_aload_n (j := 0) dX2_give_0 rfl rfl ?_
  refine j_iload_n (j := 1) dX2_give_1 rfl rfl ?_
  replace h := zbE h
  obtain ⟨v2, e1, h⟩ := h
  refine j_cont (zrS (As := [vI x1]) msX2_237 (yX2_isToken_ok e1) (Nat.le_trans (Nat.le_of_ble_eq_true rfl) hd) rfl rfl (Nat.le_of_ble_eq_true rfl) dX2_give_2) ?_
  refine j_aload_n (j := 0) dX2_give_5 rfl rfl ?_
  replace h := zbE h
  obtain ⟨v3, e4, h⟩ := h
  refine j_getI fgX2_134 (fun _ _ _ => rfl) dX2_give_6 e4 ?_
  refine j_iconst (v := 1) dX2_give_9 (by decide) ?_
  refine j_icmp_ne (tgt := 32) dX2_give_10 (by decide) (fun c5 => ?_) (fun c5 => ?_)
  · rw [if_pos c5] at h
    refine j_iload_n (j := 1) dX2_give_13 rfl rfl ?_
    refine j_bipush (v := 12) dX2_give_14 (by decide) ?_
    refine j_icmp_eq (tgt := 28) dX2_give_16 (by decide) (fun c6 => ?_) (fun c6 => ?_)
    · rw [if_pos c6] at h
      exact J.sub (zall [0, 1] rfl) (wfX2_give_28 hd t x1 (some t) v2 G h hk)
    · rw [if_neg c6] at h
      refine j_aload_n (j := 0) dX2_give_19 rfl rfl ?_
      replace h := zbE h
      obtain ⟨v7, e8, h⟩ := h
      refine j_getI fgX2_137 (fun _ _ _ => rfl) dX2_give_20 e8 ?_
      refine j_bipush (v := 40) dX2_give_23 (by decide) ?_
      refine j_icmp_ge (tgt := 32) dX2_give_25 (by decide) (fun c9 => ?_) (fun c9 => ?_)
      · rw [if_pos c9] at h
        exact J.sub (zall [0, 1] rfl) (wfX2_give_32 hd t x1 (some t) v2 G h hk)
      · rw [if_neg c9] at h
        exact J.sub (zall [0, 1] rfl) (wfX2_give_28 hd t x1 (some t) v2 G h hk)
  · rw [if_neg c5] at h
    exact J.sub (zall [0, 1] rfl) (wfX2_give_32 hd t x1 (some t) v2 G h hk)
theorem yX2_give_ok {t : Nat} {x1 : Int32} {G : GS} {r : Int32} {G1 : GS} (h : fX2_give_0 t x1 G = some (r, G1)) : zRuns yX2_give (ws_ yX2_give cX2_give 4 (some Jvm.ClassFile.FieldType.int)) [vR (some t), vI x1] (.inl (some (vI r)), G, G1, 9) :=
  zentry (M := mX2_give) (plainFor_of_name (by decide +kernel)) ⟨rfl, rfl, rfl, rfl⟩ (Nat.le_of_ble_eq_true rfl) (wfX2_give_0 (Nat.le_refl _) t x1 G h ⟨rfl, rfl⟩)
theorem msX2_291 : zSV RX2 291 RX2 yX2_beginsWithItself cX2_beginsWithItself 2 (some Jvm.ClassFile.FieldType.boolean) 1 := ⟨lw_V q3097 q3099 qs101 q131 q3100, (by decide +kernel), (by decide)⟩
abbrev mX2_isDirect : zM := (cX2_isDirect, RX2, 3, (some Jvm.ClassFile.FieldType.boolean), "isDirect", [], "(I)Z")
def fX2_isDirect_30 (t : Nat) (x1 : Int32) (x2 : Int32)  (G : GS) : Option ((Int32) ⊕ (Int32)) :=
  some (.inl ((x2 + 1)))
theorem wfX2_isDirect_30 {F : zF} (hd : 3 ≤ F.2.2.2) (t : Nat) (x1 : Int32) (x2 : Int32)  (G : GS) {a : (Int32) ⊕ (Int32)} (h : fX2_isDirect_30 t x1 x2  G = some a) (hk : (zcase (fun s : Int32 => J mX2_isDirect F G 2 [(0, vR (some t)), (1, vI x1), (2, vI s)] []) (zKPI F G)) a) : J mX2_isDirect F G 30 [(0, vR (some t)), (1, vI x1), (2, vI x2)] [] := by
  unfold fX2_isDirect_30 at h
  refine j_iinc (j := 2) (v := (x2 + 1)) (lv' := [(2, vI (x2 + 1)), (0, vR (some t)), (1, vI x1)]) dX2_isDirect_30 rfl rfl (Nat.le_of_ble_eq_true rfl) rfl ?_
  refine j_goto (tgt := 2) dX2_isDirect_33 (by decide) ?_
  obtain rfl := Option.some.inj h
  exact J.sub (zall [1, 2, 0] rfl) hk
def fbX2_isDirect_2 (t : Nat) (x1 : Int32) (x2 : Int32)  (G : GS) : Option ((Int32) ⊕ (Int32)) :=
  (zgI G 2 t 6).bind fun v1 => if v1 ≤ x2 then (zo (zcond (zbb 0) (some 0))) else ((zgR G 2 t 0).bind fun r5 => r5.bind fun a7 => (zaI G 50 a7 x2).bind fun v9 => if v9 = x1 then (zk [2] G t <| (fX2_beginsWithItself_0 t x2 G).bind fun v14 => if v14 = 0 then (fX2_isDirect_30 t x1 x2 G) else (zo (zcond (zbb 1) (some 1)))) else (fX2_isDirect_30 t x1 x2 G))
def flX2_isDirect_2 (t : Nat) (x1 : Int32) (x2 : Int32) (G : GS) : Option (Int32) := zloop (fun s : Int32 => fbX2_isDirect_2 t x1 s G) (x2)
theorem wfbX2_isDirect_2 {F : zF} (hd : 3 ≤ F.2.2.2) (t : Nat) (x1 : Int32) (x2 : Int32) (G : GS) {a : (Int32) ⊕ (Int32)} (h : fbX2_isDirect_2 t x1 x2 G = some a) (hk : (zcase (fun s : Int32 => J mX2_isDirect F G 2 [(0, vR (some t)), (1, vI x1), (2, vI s)] []) (zKPI F G)) a) : J mX2_isDirect F G 2 [(0, vR (some t)), (1, vI x1), (2, vI x2)] [] := by
  unfold fbX2_isDirect_2 at h
  refine j_iload_n (j := 2) dX2_isDirect_2 rfl rfl ?_
  refine j_aload_n (j := 0) dX2_isDirect_3 rfl rfl ?_
  replace h := zbE h
  obtain ⟨v1, e2, h⟩ := h
  refine j_getI fgX2_113 (fun _ _ _ => rfl) dX2_isDirect_4 e2 ?_
  refine j_icmp_ge (tgt := 36) dX2_isDirect_7 (by decide) (fun c3 => ?_) (fun c3 => ?_)
  · rw [if_pos c3] at h
    replace h := zoE h
    obtain ⟨a, h, rfl⟩ := h
    replace hk := hk
    refine j_iconst (v := 0) dX2_isDirect_36 (by decide) ?_
    replace h := zcondE h
    obtain ⟨e4, h⟩ := h
    obtain rfl := Option.some.inj h
    exact j_zret hk.1 hk.2 rfl (zbb_n e4) dX2_isDirect_37
  · rw [if_neg c3] at h
    refine j_aload_n (j := 0) dX2_isDirect_10 rfl rfl ?_
    replace h := zbE h
    obtain ⟨r5, e6, h⟩ := h
    refine j_getR fgX2_7 (fun _ _ _ => rfl) dX2_isDirect_11 e6 ?_
    refine j_iload_n (j := 2) dX2_isDirect_14 rfl rfl ?_
    replace h := zbE h
    obtain ⟨a7, e8, h⟩ := h
    subst e8
    replace h := zbE h
    obtain ⟨v9, e10, h⟩ := h
    refine j_iald (Or.inl rfl) e10 dX2_isDirect_15 ?_
    refine j_iload_n (j := 1) dX2_isDirect_16 rfl rfl ?_
    refine j_icmp_ne (tgt := 30) dX2_isDirect_17 (by decide) (fun c11 => ?_) (fun c11 => ?_)
    · rw [if_pos c11] at h
      refine j_aload_n (j := 0) dX2_isDirect_20 rfl rfl ?_
      refine j_iload_n (j := 2) dX2_isDirect_21 rfl rfl ?_
      replace h := zkE h
      obtain ⟨e12, h⟩ := h
      replace h := zbE h
      obtain ⟨v14, e13, h⟩ := h
      refine j_cont (zrV (As := [vI x2]) msX2_291 (yX2_beginsWithItself_ok e13) (Nat.le_trans (Nat.le_of_ble_eq_true rfl) hd) (zk_2 _ e12) rfl rfl (Nat.le_of_ble_eq_true rfl) dX2_isDirect_22) ?_
      refine j_if_eq (tgt := 30) dX2_isDirect_25 (by decide) (fun c15 => ?_) (fun c15 => ?_)
      · rw [if_pos c15] at h
        exact J.sub (zall [0, 1, 2] rfl) (wfX2_isDirect_30 hd t x1 x2  G h hk)
      · rw [if_neg c15] at h
        replace h := zoE h
        obtain ⟨a, h, rfl⟩ := h
        replace hk := hk
        refine j_iconst (v := 1) dX2_isDirect_28 (by decide) ?_
        replace h := zcondE h
        obtain ⟨e16, h⟩ := h
        obtain rfl := Option.some.inj h
        exact j_zret hk.1 hk.2 rfl (zbb_n e16) dX2_isDirect_29
    · rw [if_neg c11] at h
      exact J.sub (zall [0, 1, 2] rfl) (wfX2_isDirect_30 hd t x1 x2  G h hk)
theorem wflX2_isDirect_2 {F : zF} (hd : 3 ≤ F.2.2.2) (t : Nat) (x1 : Int32) (x2 : Int32) (G : GS) {a : Int32} (h : flX2_isDirect_2 t x1 x2 G = some a) (hk : zKPI F G a) : J mX2_isDirect F G 2 [(0, vR (some t)), (1, vI x1), (2, vI x2)] [] := by
  unfold flX2_isDirect_2 at h
  exact zloop_walk (P := (fun s : Int32 => J mX2_isDirect F G 2 [(0, vR (some t)), (1, vI x1), (2, vI s)] [])) (fun s b e hk => wfbX2_isDirect_2 hd t x1 s G e hk) (x2) _ h hk
def fX2_isDirect_0 (t : Nat) (x1 : Int32)  (G : GS) : Option (Int32) :=
  flX2_isDirect_2 t x1 0 G
theorem wfX2_isDirect_0 {F : zF} (hd : 3 ≤ F.2.2.2) (t : Nat) (x1 : Int32)  (G : GS) {a : Int32} (h : fX2_isDirect_0 t x1  G = some a) (hk : zKPI F G a) : J mX2_isDirect F G 0 [(0, vR (some t)), (1, vI x1)] [] := by
  unfold fX2_isDirect_0 at h
  refine j_iconst (v := 0) dX2_isDirect_0 (by decide) ?_
  refine j_istore_n (lv' := [(2, vI 0), (0, vR (some t)), (1, vI x1)]) dX2_isDirect_1 rfl (Nat.le_of_ble_eq_true rfl) rfl ?_
  exact J.sub (zall [1, 2, 0] rfl) (wflX2_isDirect_2 hd t x1 0  G h hk)
theorem yX2_isDirect_ok {t : Nat} {x1 : Int32} {G : GS} {r : Int32} (h : fX2_isDirect_0 t x1 G = some r) : zRuns yX2_isDirect (ws_ yX2_isDirect cX2_isDirect 3 (some Jvm.ClassFile.FieldType.boolean)) [vR (some t), vI x1] (.inl (some (vI r)), G, G, 3) :=
  zentry (M := mX2_isDirect) (plainFor_of_name (by decide +kernel)) ⟨rfl, rfl, rfl, rfl⟩ (Nat.le_of_ble_eq_true rfl) (wfX2_isDirect_0 (Nat.le_refl _) t x1 G h ⟨rfl, rfl⟩)
abbrev mX2_isLL1 : zM := (cX2_isLL1, RX2, 1, (some Jvm.ClassFile.FieldType.boolean), "isLL1", [], "()Z")
def fX2_isLL1_0 (t : Nat)  (G : GS) : Option ((Int32) × GS) :=
  zk [2] G t <| zb2 (fX2_cells_0 t 1 G) fun v3 G4 => zk [2] G4 t <| zb2 (fX2_tellsOf_0 t v3 G4) fun v7 G8 => if v7 = 0 then (zcond (zbb 1) (some (1, G8))) else (zcond (zbb 0) (some (0, G8)))
theorem wfX2_isLL1_0 {F : zF} (hd : 9 ≤ F.2.2.2) (t : Nat)  (G : GS) {a : (Int32) × GS} (h : fX2_isLL1_0 t  G = some a) (hk : zKI F a) : J mX2_isLL1 F G 0 [(0, vR (some t))] [] := by
  unfold fX2_isLL1_0 at h
  refine j_aload_n (j := 0) dX2_isLL1_0 rfl rfl ?_
  refine j_aload_n (j := 0) dX2_isLL1_1 rfl rfl ?_
  refine j_iconst (v := 1) dX2_isLL1_2 (by decide) ?_
  replace h := zkE h
  obtain ⟨e1, h⟩ := h
  replace h := zb2E h
  obtain ⟨v3, G4, e2, h⟩ := h
  refine j_cont (zrV (As := [vI 1]) msX2_243 (yX2_cells_ok e2) (Nat.le_trans (Nat.le_of_ble_eq_true rfl) hd) (zk_2 _ e1) rfl rfl (Nat.le_of_ble_eq_true rfl) dX2_isLL1_3) ?_
  replace h := zkE h
  obtain ⟨e5, h⟩ := h
  replace h := zb2E h
  obtain ⟨v7, G8, e6, h⟩ := h
  refine j_cont (zrV (As := [vI v3]) msX2_184 (yX2_tellsOf_ok e6) (Nat.le_trans (Nat.le_of_ble_eq_true rfl) hd) (zk_2 _ e5) rfl rfl (Nat.le_of_ble_eq_true rfl) dX2_isLL1_6) ?_
  refine j_if_ne (tgt := 16) dX2_isLL1_9 (by decide) (fun c9 => ?_) (fun c9 => ?_)
  · rw [if_pos c9] at h
    refine j_iconst (v := 1) dX2_isLL1_12 (by decide) ?_
    refine j_goto (tgt := 17) dX2_isLL1_13 (by decide) ?_
    replace h := zcondE h
    obtain ⟨e10, h⟩ := h
    obtain rfl := Option.some.inj h
    exact j_zret hk.1 hk.2 rfl (zbb_n e10) dX2_isLL1_17
  · rw [if_neg c9] at h
    refine j_iconst (v := 0) dX2_isLL1_16 (by decide) ?_
    replace h := zcondE h
    obtain ⟨e11, h⟩ := h
    obtain rfl := Option.some.inj h
    exact j_zret hk.1 hk.2 rfl (zbb_n e11) dX2_isLL1_17
theorem yX2_isLL1_ok {t : Nat} {G : GS} {r : Int32} {G1 : GS} (h : fX2_isLL1_0 t G = some (r, G1)) : zRuns yX2_isLL1 (ws_ yX2_isLL1 cX2_isLL1 1 (some Jvm.ClassFile.FieldType.boolean)) [vR (some t)] (.inl (some (vI r)), G, G1, 9) :=
  zentry (M := mX2_isLL1) (plainFor_of_name (by decide +kernel)) ⟨rfl, rfl, rfl, rfl⟩ (Nat.le_of_ble_eq_true rfl) (wfX2_isLL1_0 (Nat.le_refl _) t G h ⟨rfl, rfl⟩)
abbrev mX2_isLeftRecursive : zM := (cX2_isLeftRecursive, RX2, 2, (some Jvm.ClassFile.FieldType.boolean), "isLeftRecursive", [], "(I)Z")
def fX2_isLeftRecursive_0 (t : Nat) (x1 : Int32)  (G : GS) : Option ((Int32) × GS) :=
  (fX2_isNonterminal_0 x1 G).bind fun v2 => zk [2] G t <| zb2 (fX2_goes_0 t v2 G) fun v5 G6 => if v5 = 0 then (zcond (zbb 0) (some (0, G6))) else (zk [2] G6 t <| (fX2_reaches_0 t G6).bind fun G11 => (zgR G11 2 t 21).bind fun r12 => r12.bind fun a14 => (zaI G11 50 a14 (x1 - 20)).bind fun v16 => (fX2_has_0 v16 (x1 - 20) G11).bind fun v19 => zcond (zbb v19) (some (v19, G11)))
theorem wfX2_isLeftRecursive_0 {F : zF} (hd : 9 ≤ F.2.2.2) (t : Nat) (x1 : Int32)  (G : GS) {a : (Int32) × GS} (h : fX2_isLeftRecursive_0 t x1  G = some a) (hk : zKI F a) : J mX2_isLeftRecursive F G 0 [(0, vR (some t)), (1, vI x1)] [] := by
  unfold fX2_isLeftRecursive_0 at h
  refine j_aload_n (j := 0) dX2_isLeftRecursive_0 rfl rfl ?_
  refine j_iload_n (j := 1) dX2_isLeftRecursive_1 rfl rfl ?_
  replace h := zbE h
  obtain ⟨v2, e1, h⟩ := h
  refine j_cont (zrS (As := [vI x1]) msX2_149 (yX2_isNonterminal_ok e1) (Nat.le_trans (Nat.le_of_ble_eq_true rfl) hd) rfl rfl (Nat.le_of_ble_eq_true rfl) dX2_isLeftRecursive_2) ?_
  replace h := zkE h
  obtain ⟨e3, h⟩ := h
  replace h := zb2E h
  obtain ⟨v5, G6, e4, h⟩ := h
  refine j_cont (zrV (As := [vI v2]) msX2_177 (yX2_goes_ok e4) (Nat.le_trans (Nat.le_of_ble_eq_true rfl) hd) (zk_2 _ e3) rfl rfl (Nat.le_of_ble_eq_true rfl) dX2_isLeftRecursive_5) ?_
  refine j_if_ne (tgt := 13) dX2_isLeftRecursive_8 (by decide) (fun c7 => ?_) (fun c7 => ?_)
  · rw [if_pos c7] at h
    refine j_iconst (v := 0) dX2_isLeftRecursive_11 (by decide) ?_
    replace h := zcondE h
    obtain ⟨e8, h⟩ := h
    obtain rfl := Option.some.inj h
    exact j_zret hk.1 hk.2 rfl (zbb_n e8) dX2_isLeftRecursive_12
  · rw [if_neg c7] at h
    refine j_aload_n (j := 0) dX2_isLeftRecursive_13 rfl rfl ?_
    replace h := zkE h
    obtain ⟨e9, h⟩ := h
    replace h := zbE h
    obtain ⟨G11, e10, h⟩ := h
    refine j_cont (zrV (As := []) msX2_288 (yX2_reaches_ok e10) (Nat.le_trans (Nat.le_of_ble_eq_true rfl) hd) (zk_2 _ e9) rfl rfl (Nat.le_of_ble_eq_true rfl) dX2_isLeftRecursive_14) ?_
    refine j_aload_n (j := 0) dX2_isLeftRecursive_17 rfl rfl ?_
    replace h := zbE h
    obtain ⟨r12, e13, h⟩ := h
    refine j_getR fgX2_53 (fun _ _ _ => rfl) dX2_isLeftRecursive_18 e13 ?_
    refine j_iload_n (j := 1) dX2_isLeftRecursive_21 rfl rfl ?_
    refine j_bipush (v := 20) dX2_isLeftRecursive_22 (by decide) ?_
    refine j_isub dX2_isLeftRecursive_24 ?_
    replace h := zbE h
    obtain ⟨a14, e15, h⟩ := h
    subst e15
    replace h := zbE h
    obtain ⟨v16, e17, h⟩ := h
    refine j_iald (Or.inl rfl) e17 dX2_isLeftRecursive_25 ?_
    refine j_iload_n (j := 1) dX2_isLeftRecursive_26 rfl rfl ?_
    refine j_bipush (v := 20) dX2_isLeftRecursive_27 (by decide) ?_
    refine j_isub dX2_isLeftRecursive_29 ?_
    replace h := zbE h
    obtain ⟨v19, e18, h⟩ := h
    refine j_cont (zrS (As := [vI v16, vI (x1 - 20)]) msX2_198 (yX2_has_ok e18) (Nat.le_trans (Nat.le_of_ble_eq_true rfl) hd) rfl rfl (Nat.le_of_ble_eq_true rfl) dX2_isLeftRecursive_30) ?_
    replace h := zcondE h
    obtain ⟨e20, h⟩ := h
    obtain rfl := Option.some.inj h
    exact j_zret hk.1 hk.2 rfl (zbb_n e20) dX2_isLeftRecursive_33
theorem yX2_isLeftRecursive_ok {t : Nat} {x1 : Int32} {G : GS} {r : Int32} {G1 : GS} (h : fX2_isLeftRecursive_0 t x1 G = some (r, G1)) : zRuns yX2_isLeftRecursive (ws_ yX2_isLeftRecursive cX2_isLeftRecursive 2 (some Jvm.ClassFile.FieldType.boolean)) [vR (some t), vI x1] (.inl (some (vI r)), G, G1, 9) :=
  zentry (M := mX2_isLeftRecursive) (plainFor_of_name (by decide +kernel)) ⟨rfl, rfl, rfl, rfl⟩ (Nat.le_of_ble_eq_true rfl) (wfX2_isLeftRecursive_0 (Nat.le_refl _) t x1 G h ⟨rfl, rfl⟩)
abbrev mX2_isNullable : zM := (cX2_isNullable, RX2, 2, (some Jvm.ClassFile.FieldType.boolean), "isNullable", [], "(I)Z")
def fX2_isNullable_0 (t : Nat) (x1 : Int32)  (G : GS) : Option ((Int32) × GS) :=
  (fX2_isNonterminal_0 x1 G).bind fun v2 => zk [2] G t <| zb2 (fX2_goes_0 t v2 G) fun v5 G6 => if v5 = 0 then (zcond (zbb 0) (some (0, G6))) else (zk [2] G6 t <| (fX2_knows_0 t G6).bind fun G11 => zk [2] G11 t <| (fX2_isEmptyable_0 t x1 G11).bind fun v14 => zcond (zbb v14) (some (v14, G11)))
theorem wfX2_isNullable_0 {F : zF} (hd : 8 ≤ F.2.2.2) (t : Nat) (x1 : Int32)  (G : GS) {a : (Int32) × GS} (h : fX2_isNullable_0 t x1  G = some a) (hk : zKI F a) : J mX2_isNullable F G 0 [(0, vR (some t)), (1, vI x1)] [] := by
  unfold fX2_isNullable_0 at h
  refine j_aload_n (j := 0) dX2_isNullable_0 rfl rfl ?_
  refine j_iload_n (j := 1) dX2_isNullable_1 rfl rfl ?_
  replace h := zbE h
  obtain ⟨v2, e1, h⟩ := h
  refine j_cont (zrS (As := [vI x1]) msX2_149 (yX2_isNonterminal_ok e1) (Nat.le_trans (Nat.le_of_ble_eq_true rfl) hd) rfl rfl (Nat.le_of_ble_eq_true rfl) dX2_isNullable_2) ?_
  replace h := zkE h
  obtain ⟨e3, h⟩ := h
  replace h := zb2E h
  obtain ⟨v5, G6, e4, h⟩ := h
  refine j_cont (zrV (As := [vI v2]) msX2_177 (yX2_goes_ok e4) (Nat.le_trans (Nat.le_of_ble_eq_true rfl) hd) (zk_2 _ e3) rfl rfl (Nat.le_of_ble_eq_true rfl) dX2_isNullable_5) ?_
  refine j_if_ne (tgt := 13) dX2_isNullable_8 (by decide) (fun c7 => ?_) (fun c7 => ?_)
  · rw [if_pos c7] at h
    refine j_iconst (v := 0) dX2_isNullable_11 (by decide) ?_
    replace h := zcondE h
    obtain ⟨e8, h⟩ := h
    obtain rfl := Option.some.inj h
    exact j_zret hk.1 hk.2 rfl (zbb_n e8) dX2_isNullable_12
  · rw [if_neg c7] at h
    refine j_aload_n (j := 0) dX2_isNullable_13 rfl rfl ?_
    replace h := zkE h
    obtain ⟨e9, h⟩ := h
    replace h := zbE h
    obtain ⟨G11, e10, h⟩ := h
    refine j_cont (zrV (As := []) msX2_227 (yX2_knows_ok e10) (Nat.le_trans (Nat.le_of_ble_eq_true rfl) hd) (zk_2 _ e9) rfl rfl (Nat.le_of_ble_eq_true rfl) dX2_isNullable_14) ?_
    refine j_aload_n (j := 0) dX2_isNullable_17 rfl rfl ?_
    refine j_iload_n (j := 1) dX2_isNullable_18 rfl rfl ?_
    replace h := zkE h
    obtain ⟨e12, h⟩ := h
    replace h := zbE h
    obtain ⟨v14, e13, h⟩ := h
    refine j_cont (zrV (As := [vI x1]) msX2_202 (yX2_isEmptyable_ok e13) (Nat.le_trans (Nat.le_of_ble_eq_true rfl) hd) (zk_2 _ e12) rfl rfl (Nat.le_of_ble_eq_true rfl) dX2_isNullable_19) ?_
    replace h := zcondE h
    obtain ⟨e15, h⟩ := h
    obtain rfl := Option.some.inj h
    exact j_zret hk.1 hk.2 rfl (zbb_n e15) dX2_isNullable_22
theorem yX2_isNullable_ok {t : Nat} {x1 : Int32} {G : GS} {r : Int32} {G1 : GS} (h : fX2_isNullable_0 t x1 G = some (r, G1)) : zRuns yX2_isNullable (ws_ yX2_isNullable cX2_isNullable 2 (some Jvm.ClassFile.FieldType.boolean)) [vR (some t), vI x1] (.inl (some (vI r)), G, G1, 8) :=
  zentry (M := mX2_isNullable) (plainFor_of_name (by decide +kernel)) ⟨rfl, rfl, rfl, rfl⟩ (Nat.le_of_ble_eq_true rfl) (wfX2_isNullable_0 (Nat.le_refl _) t x1 G h ⟨rfl, rfl⟩)
theorem msX2_282 : zSV RX2 282 RX2 yX2_areInConflict cX2_areInConflict 4 (some Jvm.ClassFile.FieldType.boolean) 2 := ⟨lw_V q3053 q3055 qs93 q131 q3056, (by decide +kernel), (by decide)⟩
abbrev mX2_pairsInConflict : zM := (cX2_pairsInConflict, RX2, 4, (some Jvm.ClassFile.FieldType.int), "pairsInConflict", [], "()I")
def fX2_pairsInConflict_41 (t : Nat) (x1 : Int32) (x2 : Int32)  (G : GS) : Option ((Int32 × Int32) ⊕ ((Int32) × GS)) :=
  some (.inl (x1, (x2 + 1)))
theorem wfX2_pairsInConflict_41 {F : zF} (hd : 8 ≤ F.2.2.2) (t : Nat) (x1 : Int32) (x2 : Int32)  (G : GS) {a : (Int32 × Int32) ⊕ ((Int32) × GS)} (h : fX2_pairsInConflict_41 t x1 x2  G = some a) (hk : (zcase (fun s : Int32 × Int32 => J mX2_pairsInConflict F G 8 [(0, vR (some t)), (1, vI s.1), (2, vI s.2)] []) (zKI F)) a) : J mX2_pairsInConflict F G 41 [(0, vR (some t)), (1, vI x1), (2, vI x2)] [] := by
  unfold fX2_pairsInConflict_41 at h
  refine j_iinc (j := 2) (v := (x2 + 1)) (lv' := [(2, vI (x2 + 1)), (0, vR (some t)), (1, vI x1)]) dX2_pairsInConflict_41 rfl rfl (Nat.le_of_ble_eq_true rfl) rfl ?_
  refine j_goto (tgt := 8) dX2_pairsInConflict_44 (by decide) ?_
  obtain rfl := Option.some.inj h
  exact J.sub (zall [1, 2, 0] rfl) hk
def fbX2_pairsInConflict_18 (t : Nat) (x1 : Int32) (x2 : Int32) (x3 : Int32)  (G : GS) : Option ((Int32 × Int32) ⊕ ((Int32 × Int32) ⊕ ((Int32) × GS))) :=
  if x2 ≤ x3 then (zo (fX2_pairsInConflict_41 t x1 x2 G)) else (zk [2] G t <| (fX2_areInConflict_0 t x2 x3 G).bind fun v4 => (fX2_truth_0 v4 G).bind fun v6 => some (.inl ((x1 + v6), (x3 + 1))))
def flX2_pairsInConflict_18 (t : Nat) (x1 : Int32) (x2 : Int32) (x3 : Int32) (G : GS) : Option ((Int32 × Int32) ⊕ ((Int32) × GS)) := zloop (fun s : Int32 × Int32 => fbX2_pairsInConflict_18 t s.1 x2 s.2 G) (x1, x3)
theorem wfbX2_pairsInConflict_18 {F : zF} (hd : 8 ≤ F.2.2.2) (t : Nat) (x1 : Int32) (x2 : Int32) (x3 : Int32) (G : GS) {a : (Int32 × Int32) ⊕ ((Int32 × Int32) ⊕ ((Int32) × GS))} (h : fbX2_pairsInConflict_18 t x1 x2 x3 G = some a) (hk : (zcase (fun s : Int32 × Int32 => J mX2_pairsInConflict F G 18 [(0, vR (some t)), (1, vI s.1), (2, vI x2), (3, vI s.2)] []) ((zcase (fun s : Int32 × Int32 => J mX2_pairsInConflict F G 8 [(0, vR (some t)), (1, vI s.1), (2, vI s.2)] []) (zKI F)))) a) : J mX2_pairsInConflict F G 18 [(0, vR (some t)), (1, vI x1), (2, vI x2), (3, vI x3)] [] := by
  unfold fbX2_pairsInConflict_18 at h
  refine j_iload_n (j := 3) dX2_pairsInConflict_18 rfl rfl ?_
  refine j_iload_n (j := 2) dX2_pairsInConflict_19 rfl rfl ?_
  refine j_icmp_ge (tgt := 41) dX2_pairsInConflict_20 (by decide) (fun c1 => ?_) (fun c1 => ?_)
  · rw [if_pos c1] at h
    replace h := zoE h
    obtain ⟨a, h, rfl⟩ := h
    replace hk := hk
    exact J.sub (zall [0, 1, 2] rfl) (wfX2_pairsInConflict_41 hd t x1 x2  G h hk)
  · rw [if_neg c1] at h
    refine j_iload_n (j := 1) dX2_pairsInConflict_23 rfl rfl ?_
    refine j_aload_n (j := 0) dX2_pairsInConflict_24 rfl rfl ?_
    refine j_iload_n (j := 2) dX2_pairsInConflict_25 rfl rfl ?_
    refine j_iload_n (j := 3) dX2_pairsInConflict_26 rfl rfl ?_
    replace h := zkE h
    obtain ⟨e2, h⟩ := h
    replace h := zbE h
    obtain ⟨v4, e3, h⟩ := h
    refine j_cont (zrV (As := [vI x2, vI x3]) msX2_282 (yX2_areInConflict_ok e3) (Nat.le_trans (Nat.le_of_ble_eq_true rfl) hd) (zk_2 _ e2) rfl rfl (Nat.le_of_ble_eq_true rfl) dX2_pairsInConflict_27) ?_
    replace h := zbE h
    obtain ⟨v6, e5, h⟩ := h
    refine j_cont (zrS (As := [vI v4]) msX2_97 (yX2_truth_ok e5) (Nat.le_trans (Nat.le_of_ble_eq_true rfl) hd) rfl rfl (Nat.le_of_ble_eq_true rfl) dX2_pairsInConflict_30) ?_
    refine j_iadd dX2_pairsInConflict_33 ?_
    refine j_istore_n (lv' := [(1, vI (x1 + v6)), (0, vR (some t)), (2, vI x2), (3, vI x3)]) dX2_pairsInConflict_34 rfl (Nat.le_of_ble_eq_true rfl) rfl ?_
    refine j_iinc (j := 3) (v := (x3 + 1)) (lv' := [(3, vI (x3 + 1)), (1, vI (x1 + v6)), (0, vR (some t)), (2, vI x2)]) dX2_pairsInConflict_35 rfl rfl (Nat.le_of_ble_eq_true rfl) rfl ?_
    refine j_goto (tgt := 18) dX2_pairsInConflict_38 (by decide) ?_
    obtain rfl := Option.some.inj h
    exact J.sub (zall [2, 1, 3, 0] rfl) hk
theorem wflX2_pairsInConflict_18 {F : zF} (hd : 8 ≤ F.2.2.2) (t : Nat) (x1 : Int32) (x2 : Int32) (x3 : Int32) (G : GS) {a : (Int32 × Int32) ⊕ ((Int32) × GS)} (h : flX2_pairsInConflict_18 t x1 x2 x3 G = some a) (hk : (zcase (fun s : Int32 × Int32 => J mX2_pairsInConflict F G 8 [(0, vR (some t)), (1, vI s.1), (2, vI s.2)] []) (zKI F)) a) : J mX2_pairsInConflict F G 18 [(0, vR (some t)), (1, vI x1), (2, vI x2), (3, vI x3)] [] := by
  unfold flX2_pairsInConflict_18 at h
  exact zloop_walk (P := (fun s : Int32 × Int32 => J mX2_pairsInConflict F G 18 [(0, vR (some t)), (1, vI s.1), (2, vI x2), (3, vI s.2)] [])) (fun s b e hk => wfbX2_pairsInConflict_18 hd t s.1 x2 s.2 G e hk) (x1, x3) _ h hk
def fbX2_pairsInConflict_8 (t : Nat) (x1 : Int32) (x2 : Int32)  (G : GS) : Option ((Int32 × Int32) ⊕ ((Int32) × GS)) :=
  (zgI G 2 t 6).bind fun v1 => if v1 ≤ x2 then (zo (some (x1, G))) else (flX2_pairsInConflict_18 t x1 x2 0 G)
def flX2_pairsInConflict_8 (t : Nat) (x1 : Int32) (x2 : Int32) (G : GS) : Option ((Int32) × GS) := zloop (fun s : Int32 × Int32 => fbX2_pairsInConflict_8 t s.1 s.2 G) (x1, x2)
theorem wfbX2_pairsInConflict_8 {F : zF} (hd : 8 ≤ F.2.2.2) (t : Nat) (x1 : Int32) (x2 : Int32) (G : GS) {a : (Int32 × Int32) ⊕ ((Int32) × GS)} (h : fbX2_pairsInConflict_8 t x1 x2 G = some a) (hk : (zcase (fun s : Int32 × Int32 => J mX2_pairsInConflict F G 8 [(0, vR (some t)), (1, vI s.1), (2, vI s.2)] []) (zKI F)) a) : J mX2_pairsInConflict F G 8 [(0, vR (some t)), (1, vI x1), (2, vI x2)] [] := by
  unfold fbX2_pairsInConflict_8 at h
  refine j_iload_n (j := 2) dX2_pairsInConflict_8 rfl rfl ?_
  refine j_aload_n (j := 0) dX2_pairsInConflict_9 rfl rfl ?_
  replace h := zbE h
  obtain ⟨v1, e2, h⟩ := h
  refine j_getI fgX2_113 (fun _ _ _ => rfl) dX2_pairsInConflict_10 e2 ?_
  refine j_icmp_ge (tgt := 47) dX2_pairsInConflict_13 (by decide) (fun c3 => ?_) (fun c3 => ?_)
  · rw [if_pos c3] at h
    replace h := zoE h
    obtain ⟨a, h, rfl⟩ := h
    replace hk := hk
    refine j_iload_n (j := 1) dX2_pairsInConflict_47 rfl rfl ?_
    obtain rfl := Option.some.inj h
    exact j_iret hk.1 hk.2 rfl dX2_pairsInConflict_48
  · rw [if_neg c3] at h
    refine j_iconst (v := 0) dX2_pairsInConflict_16 (by decide) ?_
    refine j_istore_n (lv' := [(3, vI 0), (0, vR (some t)), (1, vI x1), (2, vI x2)]) dX2_pairsInConflict_17 rfl (Nat.le_of_ble_eq_true rfl) rfl ?_
    exact J.sub (zall [1, 2, 3, 0] rfl) (wflX2_pairsInConflict_18 hd t x1 x2 0  G h hk)
theorem wflX2_pairsInConflict_8 {F : zF} (hd : 8 ≤ F.2.2.2) (t : Nat) (x1 : Int32) (x2 : Int32) (G : GS) {a : (Int32) × GS} (h : flX2_pairsInConflict_8 t x1 x2 G = some a) (hk : zKI F a) : J mX2_pairsInConflict F G 8 [(0, vR (some t)), (1, vI x1), (2, vI x2)] [] := by
  unfold flX2_pairsInConflict_8 at h
  exact zloop_walk (P := (fun s : Int32 × Int32 => J mX2_pairsInConflict F G 8 [(0, vR (some t)), (1, vI s.1), (2, vI s.2)] [])) (fun s b e hk => wfbX2_pairsInConflict_8 hd t s.1 s.2 G e hk) (x1, x2) _ h hk
def fX2_pairsInConflict_0 (t : Nat)  (G : GS) : Option ((Int32) × GS) :=
  zk [2] G t <| (fX2_knowsPairs_0 t G).bind fun G3 => flX2_pairsInConflict_8 t 0 0 G3
theorem wfX2_pairsInConflict_0 {F : zF} (hd : 8 ≤ F.2.2.2) (t : Nat)  (G : GS) {a : (Int32) × GS} (h : fX2_pairsInConflict_0 t  G = some a) (hk : zKI F a) : J mX2_pairsInConflict F G 0 [(0, vR (some t))] [] := by
  unfold fX2_pairsInConflict_0 at h
  refine j_aload_n (j := 0) dX2_pairsInConflict_0 rfl rfl ?_
  replace h := zkE h
  obtain ⟨e1, h⟩ := h
  replace h := zbE h
  obtain ⟨G3, e2, h⟩ := h
  refine j_cont (zrV (As := []) msX2_275 (yX2_knowsPairs_ok e2) (Nat.le_trans (Nat.le_of_ble_eq_true rfl) hd) (zk_2 _ e1) rfl rfl (Nat.le_of_ble_eq_true rfl) dX2_pairsInConflict_1) ?_
  refine j_iconst (v := 0) dX2_pairsInConflict_4 (by decide) ?_
  refine j_istore_n (lv' := [(1, vI 0), (0, vR (some t))]) dX2_pairsInConflict_5 rfl (Nat.le_of_ble_eq_true rfl) rfl ?_
  refine j_iconst (v := 0) dX2_pairsInConflict_6 (by decide) ?_
  refine j_istore_n (lv' := [(2, vI 0), (1, vI 0), (0, vR (some t))]) dX2_pairsInConflict_7 rfl (Nat.le_of_ble_eq_true rfl) rfl ?_
  exact J.sub (zall [2, 1, 0] rfl) (wflX2_pairsInConflict_8 hd t 0 0  G3 h hk)
theorem yX2_pairsInConflict_ok {t : Nat} {G : GS} {r : Int32} {G1 : GS} (h : fX2_pairsInConflict_0 t G = some (r, G1)) : zRuns yX2_pairsInConflict (ws_ yX2_pairsInConflict cX2_pairsInConflict 4 (some Jvm.ClassFile.FieldType.int)) [vR (some t)] (.inl (some (vI r)), G, G1, 8) :=
  zentry (M := mX2_pairsInConflict) (plainFor_of_name (by decide +kernel)) ⟨rfl, rfl, rfl, rfl⟩ (Nat.le_of_ble_eq_true rfl) (wfX2_pairsInConflict_0 (Nat.le_refl _) t G h ⟨rfl, rfl⟩)
theorem msX2_285 : zSV RX2 285 RX2 yX2_pairsInConflict cX2_pairsInConflict 4 (some Jvm.ClassFile.FieldType.int) 0 := ⟨lw_V q3049 q3051 qs92 q131 q3052, (by decide +kernel), (by decide)⟩
abbrev mX2_isStrongLL2 : zM := (cX2_isStrongLL2, RX2, 1, (some Jvm.ClassFile.FieldType.boolean), "isStrongLL2", [], "()Z")
def fX2_isStrongLL2_0 (t : Nat)  (G : GS) : Option ((Int32) × GS) :=
  zk [2] G t <| zb2 (fX2_pairsInConflict_0 t G) fun v3 G4 => zk [2] G4 t <| zb2 (fX2_tellsOf_0 t v3 G4) fun v7 G8 => if v7 = 0 then (zcond (zbb 1) (some (1, G8))) else (zcond (zbb 0) (some (0, G8)))
theorem wfX2_isStrongLL2_0 {F : zF} (hd : 9 ≤ F.2.2.2) (t : Nat)  (G : GS) {a : (Int32) × GS} (h : fX2_isStrongLL2_0 t  G = some a) (hk : zKI F a) : J mX2_isStrongLL2 F G 0 [(0, vR (some t))] [] := by
  unfold fX2_isStrongLL2_0 at h
  refine j_aload_n (j := 0) dX2_isStrongLL2_0 rfl rfl ?_
  refine j_aload_n (j := 0) dX2_isStrongLL2_1 rfl rfl ?_
  replace h := zkE h
  obtain ⟨e1, h⟩ := h
  replace h := zb2E h
  obtain ⟨v3, G4, e2, h⟩ := h
  refine j_cont (zrV (As := []) msX2_285 (yX2_pairsInConflict_ok e2) (Nat.le_trans (Nat.le_of_ble_eq_true rfl) hd) (zk_2 _ e1) rfl rfl (Nat.le_of_ble_eq_true rfl) dX2_isStrongLL2_2) ?_
  replace h := zkE h
  obtain ⟨e5, h⟩ := h
  replace h := zb2E h
  obtain ⟨v7, G8, e6, h⟩ := h
  refine j_cont (zrV (As := [vI v3]) msX2_184 (yX2_tellsOf_ok e6) (Nat.le_trans (Nat.le_of_ble_eq_true rfl) hd) (zk_2 _ e5) rfl rfl (Nat.le_of_ble_eq_true rfl) dX2_isStrongLL2_5) ?_
  refine j_if_ne (tgt := 15) dX2_isStrongLL2_8 (by decide) (fun c9 => ?_) (fun c9 => ?_)
  · rw [if_pos c9] at h
    refine j_iconst (v := 1) dX2_isStrongLL2_11 (by decide) ?_
    refine j_goto (tgt := 16) dX2_isStrongLL2_12 (by decide) ?_
    replace h := zcondE h
    obtain ⟨e10, h⟩ := h
    obtain rfl := Option.some.inj h
    exact j_zret hk.1 hk.2 rfl (zbb_n e10) dX2_isStrongLL2_16
  · rw [if_neg c9] at h
    refine j_iconst (v := 0) dX2_isStrongLL2_15 (by decide) ?_
    replace h := zcondE h
    obtain ⟨e11, h⟩ := h
    obtain rfl := Option.some.inj h
    exact j_zret hk.1 hk.2 rfl (zbb_n e11) dX2_isStrongLL2_16
theorem yX2_isStrongLL2_ok {t : Nat} {G : GS} {r : Int32} {G1 : GS} (h : fX2_isStrongLL2_0 t G = some (r, G1)) : zRuns yX2_isStrongLL2 (ws_ yX2_isStrongLL2 cX2_isStrongLL2 1 (some Jvm.ClassFile.FieldType.boolean)) [vR (some t)] (.inl (some (vI r)), G, G1, 9) :=
  zentry (M := mX2_isStrongLL2) (plainFor_of_name (by decide +kernel)) ⟨rfl, rfl, rfl, rfl⟩ (Nat.le_of_ble_eq_true rfl) (wfX2_isStrongLL2_0 (Nat.le_refl _) t G h ⟨rfl, rfl⟩)
abbrev mX2_leftOf : zM := (cX2_leftOf, RX2, 2, (some Jvm.ClassFile.FieldType.int), "leftOf", [], "(I)I")
def fX2_leftOf_0 (t : Nat) (x1 : Int32)  (G : GS) : Option ((Int32) × GS) :=
  zk [2] G t <| (fX2_isRule_0 t x1 G).bind fun v3 => zk [2] G t <| zb2 (fX2_goes_0 t v3 G) fun v6 G7 => if v6 = 0 then (some (0, G7)) else ((zgR G7 2 t 0).bind fun r9 => r9.bind fun a11 => (zaI G7 50 a11 x1).bind fun v13 => some (v13, G7))
theorem wfX2_leftOf_0 {F : zF} (hd : 3 ≤ F.2.2.2) (t : Nat) (x1 : Int32)  (G : GS) {a : (Int32) × GS} (h : fX2_leftOf_0 t x1  G = some a) (hk : zKI F a) : J mX2_leftOf F G 0 [(0, vR (some t)), (1, vI x1)] [] := by
  unfold fX2_leftOf_0 at h
  refine j_aload_n (j := 0) dX2_leftOf_0 rfl rfl ?_
  refine j_aload_n (j := 0) dX2_leftOf_1 rfl rfl ?_
  refine j_iload_n (j := 1) dX2_leftOf_2 rfl rfl ?_
  replace h := zkE h
  obtain ⟨e1, h⟩ := h
  replace h := zbE h
  obtain ⟨v3, e2, h⟩ := h
  refine j_cont (zrV (As := [vI x1]) msX2_164 (yX2_isRule_ok e2) (Nat.le_trans (Nat.le_of_ble_eq_true rfl) hd) (zk_2 _ e1) rfl rfl (Nat.le_of_ble_eq_true rfl) dX2_leftOf_3) ?_
  replace h := zkE h
  obtain ⟨e4, h⟩ := h
  replace h := zb2E h
  obtain ⟨v6, G7, e5, h⟩ := h
  refine j_cont (zrV (As := [vI v3]) msX2_177 (yX2_goes_ok e5) (Nat.le_trans (Nat.le_of_ble_eq_true rfl) hd) (zk_2 _ e4) rfl rfl (Nat.le_of_ble_eq_true rfl) dX2_leftOf_6) ?_
  refine j_if_eq (tgt := 21) dX2_leftOf_9 (by decide) (fun c8 => ?_) (fun c8 => ?_)
  · rw [if_pos c8] at h
    refine j_iconst (v := 0) dX2_leftOf_21 (by decide) ?_
    obtain rfl := Option.some.inj h
    exact j_iret hk.1 hk.2 rfl dX2_leftOf_22
  · rw [if_neg c8] at h
    refine j_aload_n (j := 0) dX2_leftOf_12 rfl rfl ?_
    replace h := zbE h
    obtain ⟨r9, e10, h⟩ := h
    refine j_getR fgX2_7 (fun _ _ _ => rfl) dX2_leftOf_13 e10 ?_
    refine j_iload_n (j := 1) dX2_leftOf_16 rfl rfl ?_
    replace h := zbE h
    obtain ⟨a11, e12, h⟩ := h
    subst e12
    replace h := zbE h
    obtain ⟨v13, e14, h⟩ := h
    refine j_iald (Or.inl rfl) e14 dX2_leftOf_17 ?_
    refine j_goto (tgt := 22) dX2_leftOf_18 (by decide) ?_
    obtain rfl := Option.some.inj h
    exact j_iret hk.1 hk.2 rfl dX2_leftOf_22
theorem yX2_leftOf_ok {t : Nat} {x1 : Int32} {G : GS} {r : Int32} {G1 : GS} (h : fX2_leftOf_0 t x1 G = some (r, G1)) : zRuns yX2_leftOf (ws_ yX2_leftOf cX2_leftOf 2 (some Jvm.ClassFile.FieldType.int)) [vR (some t), vI x1] (.inl (some (vI r)), G, G1, 3) :=
  zentry (M := mX2_leftOf) (plainFor_of_name (by decide +kernel)) ⟨rfl, rfl, rfl, rfl⟩ (Nat.le_of_ble_eq_true rfl) (wfX2_leftOf_0 (Nat.le_refl _) t x1 G h ⟨rfl, rfl⟩)
abbrev mX2_lengthOf : zM := (cX2_lengthOf, RX2, 2, (some Jvm.ClassFile.FieldType.int), "lengthOf", [], "(I)I")
def fX2_lengthOf_0 (t : Nat) (x1 : Int32)  (G : GS) : Option ((Int32) × GS) :=
  zk [2] G t <| (fX2_isRule_0 t x1 G).bind fun v3 => zk [2] G t <| zb2 (fX2_goes_0 t v3 G) fun v6 G7 => if v6 = 0 then (some (0, G7)) else ((zgR G7 2 t 1).bind fun r9 => r9.bind fun a11 => (zaI G7 50 a11 x1).bind fun v13 => some (v13, G7))
theorem wfX2_lengthOf_0 {F : zF} (hd : 3 ≤ F.2.2.2) (t : Nat) (x1 : Int32)  (G : GS) {a : (Int32) × GS} (h : fX2_lengthOf_0 t x1  G = some a) (hk : zKI F a) : J mX2_lengthOf F G 0 [(0, vR (some t)), (1, vI x1)] [] := by
  unfold fX2_lengthOf_0 at h
  refine j_aload_n (j := 0) dX2_lengthOf_0 rfl rfl ?_
  refine j_aload_n (j := 0) dX2_lengthOf_1 rfl rfl ?_
  refine j_iload_n (j := 1) dX2_lengthOf_2 rfl rfl ?_
  replace h := zkE h
  obtain ⟨e1, h⟩ := h
  replace h := zbE h
  obtain ⟨v3, e2, h⟩ := h
  refine j_cont (zrV (As := [vI x1]) msX2_164 (yX2_isRule_ok e2) (Nat.le_trans (Nat.le_of_ble_eq_true rfl) hd) (zk_2 _ e1) rfl rfl (Nat.le_of_ble_eq_true rfl) dX2_lengthOf_3) ?_
  replace h := zkE h
  obtain ⟨e4, h⟩ := h
  replace h := zb2E h
  obtain ⟨v6, G7, e5, h⟩ := h
  refine j_cont (zrV (As := [vI v3]) msX2_177 (yX2_goes_ok e5) (Nat.le_trans (Nat.le_of_ble_eq_true rfl) hd) (zk_2 _ e4) rfl rfl (Nat.le_of_ble_eq_true rfl) dX2_lengthOf_6) ?_
  refine j_if_eq (tgt := 21) dX2_lengthOf_9 (by decide) (fun c8 => ?_) (fun c8 => ?_)
  · rw [if_pos c8] at h
    refine j_iconst (v := 0) dX2_lengthOf_21 (by decide) ?_
    obtain rfl := Option.some.inj h
    exact j_iret hk.1 hk.2 rfl dX2_lengthOf_22
  · rw [if_neg c8] at h
    refine j_aload_n (j := 0) dX2_lengthOf_12 rfl rfl ?_
    replace h := zbE h
    obtain ⟨r9, e10, h⟩ := h
    refine j_getR fgX2_13 (fun _ _ _ => rfl) dX2_lengthOf_13 e10 ?_
    refine j_iload_n (j := 1) dX2_lengthOf_16 rfl rfl ?_
    replace h := zbE h
    obtain ⟨a11, e12, h⟩ := h
    subst e12
    replace h := zbE h
    obtain ⟨v13, e14, h⟩ := h
    refine j_iald (Or.inl rfl) e14 dX2_lengthOf_17 ?_
    refine j_goto (tgt := 22) dX2_lengthOf_18 (by decide) ?_
    obtain rfl := Option.some.inj h
    exact j_iret hk.1 hk.2 rfl dX2_lengthOf_22
theorem yX2_lengthOf_ok {t : Nat} {x1 : Int32} {G : GS} {r : Int32} {G1 : GS} (h : fX2_lengthOf_0 t x1 G = some (r, G1)) : zRuns yX2_lengthOf (ws_ yX2_lengthOf cX2_lengthOf 2 (some Jvm.ClassFile.FieldType.int)) [vR (some t), vI x1] (.inl (some (vI r)), G, G1, 3) :=
  zentry (M := mX2_lengthOf) (plainFor_of_name (by decide +kernel)) ⟨rfl, rfl, rfl, rfl⟩ (Nat.le_of_ble_eq_true rfl) (wfX2_lengthOf_0 (Nat.le_refl _) t x1 G h ⟨rfl, rfl⟩)
abbrev mX2_meanLength : zM := (cX2_meanLength, RX2, 3, (some Jvm.ClassFile.FieldType.double), "meanLength", [], "()D")
def fX2_meanLength_32 (t : Nat) (x1 : Int32)  (G : GS) : Option ((UInt64) × GS) :=
  (zgI G 2 t 6).bind fun v1 => if v1 = 0 then (some (FP.dconst0, G)) else ((zgI G 2 t 6).bind fun v4 => zcond (zn64 (FP.ddiv (FP.i2d x1) (FP.i2d v4))) (some ((FP.ddiv (FP.i2d x1) (FP.i2d v4)), G)))
theorem wfX2_meanLength_32 {F : zF} (hd : 1 ≤ F.2.2.2) (t : Nat) (x1 : Int32)  (G : GS) {a : (UInt64) × GS} (h : fX2_meanLength_32 t x1  G = some a) (hk : zKD F a) : J mX2_meanLength F G 32 [(0, vR (some t)), (1, vI x1)] [] := by
  unfold fX2_meanLength_32 at h
  refine j_aload_n (j := 0) dX2_meanLength_32 rfl rfl ?_
  replace h := zbE h
  obtain ⟨v1, e2, h⟩ := h
  refine j_getI fgX2_113 (fun _ _ _ => rfl) dX2_meanLength_33 e2 ?_
  refine j_if_ne (tgt := 43) dX2_meanLength_36 (by decide) (fun c3 => ?_) (fun c3 => ?_)
  · rw [if_pos c3] at h
    refine j_dconst0 dX2_meanLength_39 ?_
    refine j_goto (tgt := 51) dX2_meanLength_40 (by decide) ?_
    obtain rfl := Option.some.inj h
    exact j_dret hk.1 hk.2 rfl dX2_meanLength_51
  · rw [if_neg c3] at h
    refine j_iload_n (j := 1) dX2_meanLength_43 rfl rfl ?_
    refine j_i2d dX2_meanLength_44 ?_
    refine j_aload_n (j := 0) dX2_meanLength_45 rfl rfl ?_
    replace h := zbE h
    obtain ⟨v4, e5, h⟩ := h
    refine j_getI fgX2_113 (fun _ _ _ => rfl) dX2_meanLength_46 e5 ?_
    refine j_i2d dX2_meanLength_49 ?_
    replace h := zcondE h
    obtain ⟨e6, h⟩ := h
    refine j_ddiv dX2_meanLength_50 e6 ?_
    obtain rfl := Option.some.inj h
    exact j_dret hk.1 hk.2 rfl dX2_meanLength_51
def fbX2_meanLength_9 (t : Nat) (x1 : Int32) (x2 : Int32)  (G : GS) : Option ((Int32 × Int32) ⊕ ((UInt64) × GS)) :=
  (zgI G 2 t 6).bind fun v1 => if v1 ≤ x2 then (zo (fX2_meanLength_32 t x1 G)) else ((zgR G 2 t 1).bind fun r4 => r4.bind fun a6 => (zaI G 50 a6 x2).bind fun v8 => some (.inl ((x1 + v8), (x2 + 1))))
def flX2_meanLength_9 (t : Nat) (x1 : Int32) (x2 : Int32) (G : GS) : Option ((UInt64) × GS) := zloop (fun s : Int32 × Int32 => fbX2_meanLength_9 t s.1 s.2 G) (x1, x2)
theorem wfbX2_meanLength_9 {F : zF} (hd : 1 ≤ F.2.2.2) (t : Nat) (x1 : Int32) (x2 : Int32) (G : GS) {a : (Int32 × Int32) ⊕ ((UInt64) × GS)} (h : fbX2_meanLength_9 t x1 x2 G = some a) (hk : (zcase (fun s : Int32 × Int32 => J mX2_meanLength F G 9 [(0, vR (some t)), (1, vI s.1), (2, vI s.2)] []) (zKD F)) a) : J mX2_meanLength F G 9 [(0, vR (some t)), (1, vI x1), (2, vI x2)] [] := by
  unfold fbX2_meanLength_9 at h
  refine j_iload_n (j := 2) dX2_meanLength_9 rfl rfl ?_
  refine j_aload_n (j := 0) dX2_meanLength_10 rfl rfl ?_
  replace h := zbE h
  obtain ⟨v1, e2, h⟩ := h
  refine j_getI fgX2_113 (fun _ _ _ => rfl) dX2_meanLength_11 e2 ?_
  refine j_icmp_ge (tgt := 32) dX2_meanLength_14 (by decide) (fun c3 => ?_) (fun c3 => ?_)
  · rw [if_pos c3] at h
    replace h := zoE h
    obtain ⟨a, h, rfl⟩ := h
    replace hk := hk
    exact J.sub (zall [0, 1] rfl) (wfX2_meanLength_32 hd t x1  G h hk)
  · rw [if_neg c3] at h
    refine j_iload_n (j := 1) dX2_meanLength_17 rfl rfl ?_
    refine j_aload_n (j := 0) dX2_meanLength_18 rfl rfl ?_
    replace h := zbE h
    obtain ⟨r4, e5, h⟩ := h
    refine j_getR fgX2_13 (fun _ _ _ => rfl) dX2_meanLength_19 e5 ?_
    refine j_iload_n (j := 2) dX2_meanLength_22 rfl rfl ?_
    replace h := zbE h
    obtain ⟨a6, e7, h⟩ := h
    subst e7
    replace h := zbE h
    obtain ⟨v8, e9, h⟩ := h
    refine j_iald (Or.inl rfl) e9 dX2_meanLength_23 ?_
    refine j_iadd dX2_meanLength_24 ?_
    refine j_istore_n (lv' := [(1, vI (x1 + v8)), (0, vR (some t)), (2, vI x2)]) dX2_meanLength_25 rfl (Nat.le_of_ble_eq_true rfl) rfl ?_
    refine j_iinc (j := 2) (v := (x2 + 1)) (lv' := [(2, vI (x2 + 1)), (1, vI (x1 + v8)), (0, vR (some t))]) dX2_meanLength_26 rfl rfl (Nat.le_of_ble_eq_true rfl) rfl ?_
    refine j_goto (tgt := 9) dX2_meanLength_29 (by decide) ?_
    obtain rfl := Option.some.inj h
    exact J.sub (zall [2, 1, 0] rfl) hk
theorem wflX2_meanLength_9 {F : zF} (hd : 1 ≤ F.2.2.2) (t : Nat) (x1 : Int32) (x2 : Int32) (G : GS) {a : (UInt64) × GS} (h : flX2_meanLength_9 t x1 x2 G = some a) (hk : zKD F a) : J mX2_meanLength F G 9 [(0, vR (some t)), (1, vI x1), (2, vI x2)] [] := by
  unfold flX2_meanLength_9 at h
  exact zloop_walk (P := (fun s : Int32 × Int32 => J mX2_meanLength F G 9 [(0, vR (some t)), (1, vI s.1), (2, vI s.2)] [])) (fun s b e hk => wfbX2_meanLength_9 hd t s.1 s.2 G e hk) (x1, x2) _ h hk
def fX2_meanLength_0 (t : Nat)  (G : GS) : Option ((UInt64) × GS) :=
  (zpI G 2 t 8 0).bind fun G1 => flX2_meanLength_9 t 0 0 G1
theorem wfX2_meanLength_0 {F : zF} (hd : 1 ≤ F.2.2.2) (t : Nat)  (G : GS) {a : (UInt64) × GS} (h : fX2_meanLength_0 t  G = some a) (hk : zKD F a) : J mX2_meanLength F G 0 [(0, vR (some t))] [] := by
  unfold fX2_meanLength_0 at h
  refine j_aload_n (j := 0) dX2_meanLength_0 rfl rfl ?_
  refine j_iconst (v := 0) dX2_meanLength_1 (by decide) ?_
  replace h := zbE h
  obtain ⟨G1, e2, h⟩ := h
  refine j_putI fpX2_93_X2 (Or.inl rfl) rfl dX2_meanLength_2 e2 ?_
  refine j_iconst (v := 0) dX2_meanLength_5 (by decide) ?_
  refine j_istore_n (lv' := [(1, vI 0), (0, vR (some t))]) dX2_meanLength_6 rfl (Nat.le_of_ble_eq_true rfl) rfl ?_
  refine j_iconst (v := 0) dX2_meanLength_7 (by decide) ?_
  refine j_istore_n (lv' := [(2, vI 0), (1, vI 0), (0, vR (some t))]) dX2_meanLength_8 rfl (Nat.le_of_ble_eq_true rfl) rfl ?_
  exact J.sub (zall [2, 1, 0] rfl) (wflX2_meanLength_9 hd t 0 0  G1 h hk)
theorem yX2_meanLength_ok {t : Nat} {G : GS} {r : UInt64} {G1 : GS} (h : fX2_meanLength_0 t G = some (r, G1)) : zRuns yX2_meanLength (ws_ yX2_meanLength cX2_meanLength 3 (some Jvm.ClassFile.FieldType.double)) [vR (some t)] (.inl (some (vD r)), G, G1, 1) :=
  zentry (M := mX2_meanLength) (plainFor_of_name (by decide +kernel)) ⟨rfl, rfl, rfl, rfl⟩ (Nat.le_of_ble_eq_true rfl) (wfX2_meanLength_0 (Nat.le_refl _) t G h ⟨rfl, rfl⟩)
theorem fgX2_396 : zFG RX2 396 1 41 (.int) := ⟨(RX2, TX2, 42, tyX2), rfl, by decide, in_X2, rfl, "SelahGeneratorModel", Or.inl rfl, Or.inl q2713⟩
theorem fgX2_90 : zFG RX2 90 1 40 (.array (.int)) := ⟨(RX2, TX2, 42, tyX2), rfl, by decide, in_X2, rfl, "SelahGeneratorModel", Or.inl rfl, Or.inl q2712⟩
abbrev mX2_outputByte : zM := (cX2_outputByte, RX2, 2, (some Jvm.ClassFile.FieldType.int), "outputByte", [], "(I)I")
def fX2_outputByte_0 (t : Nat) (x1 : Int32)  (G : GS) : Option ((Int32) × GS) :=
  (zgI G 2 t 41).bind fun v1 => (fX2_isIn_0 x1.toInt64 0 ((v1 - 1).toInt64) G).bind fun v4 => if v4 = 0 then (zk [2] G t <| zb2 (fX2_tellsOf_0 t (-1) G) fun v8 G9 => some (v8, G9)) else ((zgR G 2 t 40).bind fun r10 => r10.bind fun a12 => (zaI G 50 a12 x1).bind fun v14 => zk [2] G t <| zb2 (fX2_tellsOf_0 t v14 G) fun v18 G19 => some (v18, G19))
theorem wfX2_outputByte_0 {F : zF} (hd : 2 ≤ F.2.2.2) (t : Nat) (x1 : Int32)  (G : GS) {a : (Int32) × GS} (h : fX2_outputByte_0 t x1  G = some a) (hk : zKI F a) : J mX2_outputByte F G 0 [(0, vR (some t)), (1, vI x1)] [] := by
  unfold fX2_outputByte_0 at h
  refine j_aload_n (j := 0) dX2_outputByte_0 rfl rfl ?_
  refine j_iload_n (j := 1) dX2_outputByte_1 rfl rfl ?_
  refine j_i2l dX2_outputByte_2 ?_
  refine j_lconst (v := 0) dX2_outputByte_3 rfl ?_
  refine j_aload_n (j := 0) dX2_outputByte_4 rfl rfl ?_
  replace h := zbE h
  obtain ⟨v1, e2, h⟩ := h
  refine j_getI fgX2_396 (fun _ _ _ => rfl) dX2_outputByte_5 e2 ?_
  refine j_iconst (v := 1) dX2_outputByte_8 (by decide) ?_
  refine j_isub dX2_outputByte_9 ?_
  refine j_i2l dX2_outputByte_10 ?_
  replace h := zbE h
  obtain ⟨v4, e3, h⟩ := h
  refine j_cont (zrS (As := [vL x1.toInt64, vL 0, vL ((v1 - 1).toInt64)]) msX2_103 (yX2_isIn_ok e3) (Nat.le_trans (Nat.le_of_ble_eq_true rfl) hd) rfl rfl (Nat.le_of_ble_eq_true rfl) dX2_outputByte_11) ?_
  refine j_if_eq (tgt := 26) dX2_outputByte_14 (by decide) (fun c5 => ?_) (fun c5 => ?_)
  · rw [if_pos c5] at h
    refine j_iconst (v := (-1)) dX2_outputByte_26 (by decide) ?_
    replace h := zkE h
    obtain ⟨e6, h⟩ := h
    replace h := zb2E h
    obtain ⟨v8, G9, e7, h⟩ := h
    refine j_cont (zrV (As := [vI (-1)]) msX2_184 (yX2_tellsOf_ok e7) (Nat.le_trans (Nat.le_of_ble_eq_true rfl) hd) (zk_2 _ e6) rfl rfl (Nat.le_of_ble_eq_true rfl) dX2_outputByte_27) ?_
    obtain rfl := Option.some.inj h
    exact j_iret hk.1 hk.2 rfl dX2_outputByte_30
  · rw [if_neg c5] at h
    refine j_aload_n (j := 0) dX2_outputByte_17 rfl rfl ?_
    replace h := zbE h
    obtain ⟨r10, e11, h⟩ := h
    refine j_getR fgX2_90 (fun _ _ _ => rfl) dX2_outputByte_18 e11 ?_
    refine j_iload_n (j := 1) dX2_outputByte_21 rfl rfl ?_
    replace h := zbE h
    obtain ⟨a12, e13, h⟩ := h
    subst e13
    replace h := zbE h
    obtain ⟨v14, e15, h⟩ := h
    refine j_iald (Or.inl rfl) e15 dX2_outputByte_22 ?_
    refine j_goto (tgt := 27) dX2_outputByte_23 (by decide) ?_
    replace h := zkE h
    obtain ⟨e16, h⟩ := h
    replace h := zb2E h
    obtain ⟨v18, G19, e17, h⟩ := h
    refine j_cont (zrV (As := [vI v14]) msX2_184 (yX2_tellsOf_ok e17) (Nat.le_trans (Nat.le_of_ble_eq_true rfl) hd) (zk_2 _ e16) rfl rfl (Nat.le_of_ble_eq_true rfl) dX2_outputByte_27) ?_
    obtain rfl := Option.some.inj h
    exact j_iret hk.1 hk.2 rfl dX2_outputByte_30
theorem yX2_outputByte_ok {t : Nat} {x1 : Int32} {G : GS} {r : Int32} {G1 : GS} (h : fX2_outputByte_0 t x1 G = some (r, G1)) : zRuns yX2_outputByte (ws_ yX2_outputByte cX2_outputByte 2 (some Jvm.ClassFile.FieldType.int)) [vR (some t), vI x1] (.inl (some (vI r)), G, G1, 2) :=
  zentry (M := mX2_outputByte) (plainFor_of_name (by decide +kernel)) ⟨rfl, rfl, rfl, rfl⟩ (Nat.le_of_ble_eq_true rfl) (wfX2_outputByte_0 (Nat.le_refl _) t x1 G h ⟨rfl, rfl⟩)
abbrev mX2_pairConflicts : zM := (cX2_pairConflicts, RX2, 1, (some Jvm.ClassFile.FieldType.int), "pairConflicts", [], "()I")
def fX2_pairConflicts_0 (t : Nat)  (G : GS) : Option ((Int32) × GS) :=
  zk [2] G t <| zb2 (fX2_pairsInConflict_0 t G) fun v3 G4 => zk [2] G4 t <| zb2 (fX2_tellsOf_0 t v3 G4) fun v7 G8 => some (v7, G8)
theorem wfX2_pairConflicts_0 {F : zF} (hd : 9 ≤ F.2.2.2) (t : Nat)  (G : GS) {a : (Int32) × GS} (h : fX2_pairConflicts_0 t  G = some a) (hk : zKI F a) : J mX2_pairConflicts F G 0 [(0, vR (some t))] [] := by
  unfold fX2_pairConflicts_0 at h
  refine j_aload_n (j := 0) dX2_pairConflicts_0 rfl rfl ?_
  refine j_aload_n (j := 0) dX2_pairConflicts_1 rfl rfl ?_
  replace h := zkE h
  obtain ⟨e1, h⟩ := h
  replace h := zb2E h
  obtain ⟨v3, G4, e2, h⟩ := h
  refine j_cont (zrV (As := []) msX2_285 (yX2_pairsInConflict_ok e2) (Nat.le_trans (Nat.le_of_ble_eq_true rfl) hd) (zk_2 _ e1) rfl rfl (Nat.le_of_ble_eq_true rfl) dX2_pairConflicts_2) ?_
  replace h := zkE h
  obtain ⟨e5, h⟩ := h
  replace h := zb2E h
  obtain ⟨v7, G8, e6, h⟩ := h
  refine j_cont (zrV (As := [vI v3]) msX2_184 (yX2_tellsOf_ok e6) (Nat.le_trans (Nat.le_of_ble_eq_true rfl) hd) (zk_2 _ e5) rfl rfl (Nat.le_of_ble_eq_true rfl) dX2_pairConflicts_5) ?_
  obtain rfl := Option.some.inj h
  exact j_iret hk.1 hk.2 rfl dX2_pairConflicts_8
theorem yX2_pairConflicts_ok {t : Nat} {G : GS} {r : Int32} {G1 : GS} (h : fX2_pairConflicts_0 t G = some (r, G1)) : zRuns yX2_pairConflicts (ws_ yX2_pairConflicts cX2_pairConflicts 1 (some Jvm.ClassFile.FieldType.int)) [vR (some t)] (.inl (some (vI r)), G, G1, 9) :=
  zentry (M := mX2_pairConflicts) (plainFor_of_name (by decide +kernel)) ⟨rfl, rfl, rfl, rfl⟩ (Nat.le_of_ble_eq_true rfl) (wfX2_pairConflicts_0 (Nat.le_refl _) t G h ⟨rfl, rfl⟩)
abbrev mX2_pairCount : zM := (cX2_pairCount, RX2, 4, (some Jvm.ClassFile.FieldType.int), "pairCount", [], "(I)I")
def fbX2_pairCount_23 (t : Nat) (x1 : Int32) (x2 : Int32) (x3 : Int32)  (G : GS) : Option ((Int32 × Int32) ⊕ ((Int32) × GS)) :=
  if 183 ≤ x3 then (zo (some (x2, G))) else ((zgR G 2 t 20).bind fun r2 => r2.bind fun a4 => (zaI G 52 a4 ((183 * x1) + x3)).bind fun v6 => (fX2_truth_0 v6 G).bind fun v9 => some (.inl ((x2 + v9), (x3 + 1))))
def flX2_pairCount_23 (t : Nat) (x1 : Int32) (x2 : Int32) (x3 : Int32) (G : GS) : Option ((Int32) × GS) := zloop (fun s : Int32 × Int32 => fbX2_pairCount_23 t x1 s.1 s.2 G) (x2, x3)
theorem wfbX2_pairCount_23 {F : zF} (hd : 8 ≤ F.2.2.2) (t : Nat) (x1 : Int32) (x2 : Int32) (x3 : Int32) (G : GS) {a : (Int32 × Int32) ⊕ ((Int32) × GS)} (h : fbX2_pairCount_23 t x1 x2 x3 G = some a) (hk : (zcase (fun s : Int32 × Int32 => J mX2_pairCount F G 23 [(0, vR (some t)), (1, vI x1), (2, vI s.1), (3, vI s.2)] []) (zKI F)) a) : J mX2_pairCount F G 23 [(0, vR (some t)), (1, vI x1), (2, vI x2), (3, vI x3)] [] := by
  unfold fbX2_pairCount_23 at h
  refine j_iload_n (j := 3) dX2_pairCount_23 rfl rfl ?_
  refine j_sipush (v := 183) dX2_pairCount_24 (by decide) ?_
  refine j_icmp_ge (tgt := 54) dX2_pairCount_27 (by decide) (fun c1 => ?_) (fun c1 => ?_)
  · rw [if_pos c1] at h
    replace h := zoE h
    obtain ⟨a, h, rfl⟩ := h
    replace hk := hk
    refine j_iload_n (j := 2) dX2_pairCount_54 rfl rfl ?_
    obtain rfl := Option.some.inj h
    exact j_iret hk.1 hk.2 rfl dX2_pairCount_55
  · rw [if_neg c1] at h
    refine j_iload_n (j := 2) dX2_pairCount_30 rfl rfl ?_
    refine j_aload_n (j := 0) dX2_pairCount_31 rfl rfl ?_
    replace h := zbE h
    obtain ⟨r2, e3, h⟩ := h
    refine j_getR fgX2_50 (fun _ _ _ => rfl) dX2_pairCount_32 e3 ?_
    refine j_sipush (v := 183) dX2_pairCount_35 (by decide) ?_
    refine j_iload_n (j := 1) dX2_pairCount_38 rfl rfl ?_
    refine j_imul dX2_pairCount_39 ?_
    refine j_iload_n (j := 3) dX2_pairCount_40 rfl rfl ?_
    refine j_iadd dX2_pairCount_41 ?_
    replace h := zbE h
    obtain ⟨a4, e5, h⟩ := h
    subst e5
    replace h := zbE h
    obtain ⟨v6, e7, h⟩ := h
    refine j_zald rfl e7 dX2_pairCount_42 ?_
    replace h := zbE h
    obtain ⟨v9, e8, h⟩ := h
    refine j_cont (zrS (As := [vI v6]) msX2_97 (yX2_truth_ok e8) (Nat.le_trans (Nat.le_of_ble_eq_true rfl) hd) rfl rfl (Nat.le_of_ble_eq_true rfl) dX2_pairCount_43) ?_
    refine j_iadd dX2_pairCount_46 ?_
    refine j_istore_n (lv' := [(2, vI (x2 + v9)), (0, vR (some t)), (1, vI x1), (3, vI x3)]) dX2_pairCount_47 rfl (Nat.le_of_ble_eq_true rfl) rfl ?_
    refine j_iinc (j := 3) (v := (x3 + 1)) (lv' := [(3, vI (x3 + 1)), (2, vI (x2 + v9)), (0, vR (some t)), (1, vI x1)]) dX2_pairCount_48 rfl rfl (Nat.le_of_ble_eq_true rfl) rfl ?_
    refine j_goto (tgt := 23) dX2_pairCount_51 (by decide) ?_
    obtain rfl := Option.some.inj h
    exact J.sub (zall [2, 3, 1, 0] rfl) hk
theorem wflX2_pairCount_23 {F : zF} (hd : 8 ≤ F.2.2.2) (t : Nat) (x1 : Int32) (x2 : Int32) (x3 : Int32) (G : GS) {a : (Int32) × GS} (h : flX2_pairCount_23 t x1 x2 x3 G = some a) (hk : zKI F a) : J mX2_pairCount F G 23 [(0, vR (some t)), (1, vI x1), (2, vI x2), (3, vI x3)] [] := by
  unfold flX2_pairCount_23 at h
  exact zloop_walk (P := (fun s : Int32 × Int32 => J mX2_pairCount F G 23 [(0, vR (some t)), (1, vI x1), (2, vI s.1), (3, vI s.2)] [])) (fun s b e hk => wfbX2_pairCount_23 hd t x1 s.1 s.2 G e hk) (x2, x3) _ h hk
def fX2_pairCount_0 (t : Nat) (x1 : Int32)  (G : GS) : Option ((Int32) × GS) :=
  zk [2] G t <| (fX2_isRule_0 t x1 G).bind fun v3 => zk [2] G t <| zb2 (fX2_goes_0 t v3 G) fun v6 G7 => if v6 = 0 then (some (0, G7)) else (zk [2] G7 t <| (fX2_knowsPairs_0 t G7).bind fun G11 => flX2_pairCount_23 t x1 0 14 G11)
theorem wfX2_pairCount_0 {F : zF} (hd : 8 ≤ F.2.2.2) (t : Nat) (x1 : Int32)  (G : GS) {a : (Int32) × GS} (h : fX2_pairCount_0 t x1  G = some a) (hk : zKI F a) : J mX2_pairCount F G 0 [(0, vR (some t)), (1, vI x1)] [] := by
  unfold fX2_pairCount_0 at h
  refine j_aload_n (j := 0) dX2_pairCount_0 rfl rfl ?_
  refine j_aload_n (j := 0) dX2_pairCount_1 rfl rfl ?_
  refine j_iload_n (j := 1) dX2_pairCount_2 rfl rfl ?_
  replace h := zkE h
  obtain ⟨e1, h⟩ := h
  replace h := zbE h
  obtain ⟨v3, e2, h⟩ := h
  refine j_cont (zrV (As := [vI x1]) msX2_164 (yX2_isRule_ok e2) (Nat.le_trans (Nat.le_of_ble_eq_true rfl) hd) (zk_2 _ e1) rfl rfl (Nat.le_of_ble_eq_true rfl) dX2_pairCount_3) ?_
  replace h := zkE h
  obtain ⟨e4, h⟩ := h
  replace h := zb2E h
  obtain ⟨v6, G7, e5, h⟩ := h
  refine j_cont (zrV (As := [vI v3]) msX2_177 (yX2_goes_ok e5) (Nat.le_trans (Nat.le_of_ble_eq_true rfl) hd) (zk_2 _ e4) rfl rfl (Nat.le_of_ble_eq_true rfl) dX2_pairCount_6) ?_
  refine j_if_ne (tgt := 14) dX2_pairCount_9 (by decide) (fun c8 => ?_) (fun c8 => ?_)
  · rw [if_pos c8] at h
    refine j_iconst (v := 0) dX2_pairCount_12 (by decide) ?_
    obtain rfl := Option.some.inj h
    exact j_iret hk.1 hk.2 rfl dX2_pairCount_13
  · rw [if_neg c8] at h
    refine j_aload_n (j := 0) dX2_pairCount_14 rfl rfl ?_
    replace h := zkE h
    obtain ⟨e9, h⟩ := h
    replace h := zbE h
    obtain ⟨G11, e10, h⟩ := h
    refine j_cont (zrV (As := []) msX2_275 (yX2_knowsPairs_ok e10) (Nat.le_trans (Nat.le_of_ble_eq_true rfl) hd) (zk_2 _ e9) rfl rfl (Nat.le_of_ble_eq_true rfl) dX2_pairCount_15) ?_
    refine j_iconst (v := 0) dX2_pairCount_18 (by decide) ?_
    refine j_istore_n (lv' := [(2, vI 0), (0, vR (some t)), (1, vI x1)]) dX2_pairCount_19 rfl (Nat.le_of_ble_eq_true rfl) rfl ?_
    refine j_bipush (v := 14) dX2_pairCount_20 (by decide) ?_
    refine j_istore_n (lv' := [(3, vI 14), (2, vI 0), (0, vR (some t)), (1, vI x1)]) dX2_pairCount_22 rfl (Nat.le_of_ble_eq_true rfl) rfl ?_
    exact J.sub (zall [2, 3, 1, 0] rfl) (wflX2_pairCount_23 hd t x1 0 14  G11 h hk)
theorem yX2_pairCount_ok {t : Nat} {x1 : Int32} {G : GS} {r : Int32} {G1 : GS} (h : fX2_pairCount_0 t x1 G = some (r, G1)) : zRuns yX2_pairCount (ws_ yX2_pairCount cX2_pairCount 4 (some Jvm.ClassFile.FieldType.int)) [vR (some t), vI x1] (.inl (some (vI r)), G, G1, 8) :=
  zentry (M := mX2_pairCount) (plainFor_of_name (by decide +kernel)) ⟨rfl, rfl, rfl, rfl⟩ (Nat.le_of_ble_eq_true rfl) (wfX2_pairCount_0 (Nat.le_refl _) t x1 G h ⟨rfl, rfl⟩)
abbrev mX2_parseState : zM := (cX2_parseState, RX2, 1, (some Jvm.ClassFile.FieldType.int), "parseState", [], "()I")
def fX2_parseState_0 (t : Nat)  (G : GS) : Option ((Int32) × GS) :=
  (zgI G 2 t 30).bind fun v1 => zk [2] G t <| zb2 (fX2_tellsOf_0 t v1 G) fun v5 G6 => some (v5, G6)
theorem wfX2_parseState_0 {F : zF} (hd : 2 ≤ F.2.2.2) (t : Nat)  (G : GS) {a : (Int32) × GS} (h : fX2_parseState_0 t  G = some a) (hk : zKI F a) : J mX2_parseState F G 0 [(0, vR (some t))] [] := by
  unfold fX2_parseState_0 at h
  refine j_aload_n (j := 0) dX2_parseState_0 rfl rfl ?_
  refine j_aload_n (j := 0) dX2_parseState_1 rfl rfl ?_
  replace h := zbE h
  obtain ⟨v1, e2, h⟩ := h
  refine j_getI fgX2_134 (fun _ _ _ => rfl) dX2_parseState_2 e2 ?_
  replace h := zkE h
  obtain ⟨e3, h⟩ := h
  replace h := zb2E h
  obtain ⟨v5, G6, e4, h⟩ := h
  refine j_cont (zrV (As := [vI v1]) msX2_184 (yX2_tellsOf_ok e4) (Nat.le_trans (Nat.le_of_ble_eq_true rfl) hd) (zk_2 _ e3) rfl rfl (Nat.le_of_ble_eq_true rfl) dX2_parseState_5) ?_
  obtain rfl := Option.some.inj h
  exact j_iret hk.1 hk.2 rfl dX2_parseState_8
theorem yX2_parseState_ok {t : Nat} {G : GS} {r : Int32} {G1 : GS} (h : fX2_parseState_0 t G = some (r, G1)) : zRuns yX2_parseState (ws_ yX2_parseState cX2_parseState 1 (some Jvm.ClassFile.FieldType.int)) [vR (some t)] (.inl (some (vI r)), G, G1, 2) :=
  zentry (M := mX2_parseState) (plainFor_of_name (by decide +kernel)) ⟨rfl, rfl, rfl, rfl⟩ (Nat.le_of_ble_eq_true rfl) (wfX2_parseState_0 (Nat.le_refl _) t G h ⟨rfl, rfl⟩)
abbrev mX2_predicted : zM := (cX2_predicted, RX2, 3, (some Jvm.ClassFile.FieldType.int), "predicted", [], "(II)I")
def fX2_predicted_20 (t : Nat) (x1 : Int32) (x2 : Int32) (s0 : Option Nat) (s1 : Int32) (G : GS) : Option ((Int32) × GS) :=
  s0.bind fun a1 => zk [2] G a1 <| zb2 (fX2_goes_0 a1 s1 G) fun v5 G6 => if v5 = 0 then (some (0, G6)) else (zk [2] G6 t <| (fX2_knows_0 t G6).bind fun G10 => zk [2] G10 t <| (fX2_predictedRule_0 t x1 x2 G10).bind fun v13 => some (v13, G10))
theorem wfX2_predicted_20 {F : zF} (hd : 8 ≤ F.2.2.2) (t : Nat) (x1 : Int32) (x2 : Int32) (s0 : Option Nat) (s1 : Int32) (G : GS) {a : (Int32) × GS} (h : fX2_predicted_20 t x1 x2 s0 s1 G = some a) (hk : zKI F a) : J mX2_predicted F G 20 [(0, vR (some t)), (1, vI x1), (2, vI x2)] [vI s1, vR s0] := by
  unfold fX2_predicted_20 at h
  replace h := zbE h
  obtain ⟨a1, e2, h⟩ := h
  subst e2
  replace h := zkE h
  obtain ⟨e3, h⟩ := h
  replace h := zb2E h
  obtain ⟨v5, G6, e4, h⟩ := h
  refine j_cont (zrV (As := [vI s1]) msX2_177 (yX2_goes_ok e4) (Nat.le_trans (Nat.le_of_ble_eq_true rfl) hd) (zk_2 _ e3) rfl rfl (Nat.le_of_ble_eq_true rfl) dX2_predicted_20) ?_
  refine j_if_ne (tgt := 28) dX2_predicted_23 (by decide) (fun c7 => ?_) (fun c7 => ?_)
  · rw [if_pos c7] at h
    refine j_iconst (v := 0) dX2_predicted_26 (by decide) ?_
    obtain rfl := Option.some.inj h
    exact j_iret hk.1 hk.2 rfl dX2_predicted_27
  · rw [if_neg c7] at h
    refine j_aload_n (j := 0) dX2_predicted_28 rfl rfl ?_
    replace h := zkE h
    obtain ⟨e8, h⟩ := h
    replace h := zbE h
    obtain ⟨G10, e9, h⟩ := h
    refine j_cont (zrV (As := []) msX2_227 (yX2_knows_ok e9) (Nat.le_trans (Nat.le_of_ble_eq_true rfl) hd) (zk_2 _ e8) rfl rfl (Nat.le_of_ble_eq_true rfl) dX2_predicted_29) ?_
    refine j_aload_n (j := 0) dX2_predicted_32 rfl rfl ?_
    refine j_iload_n (j := 1) dX2_predicted_33 rfl rfl ?_
    refine j_iload_n (j := 2) dX2_predicted_34 rfl rfl ?_
    replace h := zkE h
    obtain ⟨e11, h⟩ := h
    replace h := zbE h
    obtain ⟨v13, e12, h⟩ := h
    refine j_cont (zrV (As := [vI x1, vI x2]) msX2_240 (yX2_predictedRule_ok e12) (Nat.le_trans (Nat.le_of_ble_eq_true rfl) hd) (zk_2 _ e11) rfl rfl (Nat.le_of_ble_eq_true rfl) dX2_predicted_35) ?_
    obtain rfl := Option.some.inj h
    exact j_iret hk.1 hk.2 rfl dX2_predicted_38
def fX2_predicted_19 (t : Nat) (x1 : Int32) (x2 : Int32) (s0 : Option Nat) (G : GS) : Option ((Int32) × GS) :=
  fX2_predicted_20 t x1 x2 s0 0 G
theorem wfX2_predicted_19 {F : zF} (hd : 8 ≤ F.2.2.2) (t : Nat) (x1 : Int32) (x2 : Int32) (s0 : Option Nat) (G : GS) {a : (Int32) × GS} (h : fX2_predicted_19 t x1 x2 s0 G = some a) (hk : zKI F a) : J mX2_predicted F G 19 [(0, vR (some t)), (1, vI x1), (2, vI x2)] [vR s0] := by
  unfold fX2_predicted_19 at h
  refine j_iconst (v := 0) dX2_predicted_19 (by decide) ?_
  exact J.sub (zall [0, 1, 2] rfl) (wfX2_predicted_20 hd t x1 x2 s0 0 G h hk)
def fX2_predicted_0 (t : Nat) (x1 : Int32) (x2 : Int32)  (G : GS) : Option ((Int32) × GS) :=
  (fX2_isNonterminal_0 x1 G).bind fun v2 => if v2 = 0 then (fX2_predicted_19 t x1 x2 (some t) G) else ((fX2_isToken_0 x2 G).bind fun v5 => if v5 = 0 then (fX2_predicted_19 t x1 x2 (some t) G) else (fX2_predicted_20 t x1 x2 (some t) 1 G))
theorem wfX2_predicted_0 {F : zF} (hd : 8 ≤ F.2.2.2) (t : Nat) (x1 : Int32) (x2 : Int32)  (G : GS) {a : (Int32) × GS} (h : fX2_predicted_0 t x1 x2  G = some a) (hk : zKI F a) : J mX2_predicted F G 0 [(0, vR (some t)), (1, vI x1), (2, vI x2)] [] := by
  unfold fX2_predicted_0 at h
  refine j_aload_n (j := 0) dX2_predicted_0 rfl rfl ?_
  refine j_iload_n (j := 1) dX2_predicted_1 rfl rfl ?_
  replace h := zbE h
  obtain ⟨v2, e1, h⟩ := h
  refine j_cont (zrS (As := [vI x1]) msX2_149 (yX2_isNonterminal_ok e1) (Nat.le_trans (Nat.le_of_ble_eq_true rfl) hd) rfl rfl (Nat.le_of_ble_eq_true rfl) dX2_predicted_2) ?_
  refine j_if_eq (tgt := 19) dX2_predicted_5 (by decide) (fun c3 => ?_) (fun c3 => ?_)
  · rw [if_pos c3] at h
    exact J.sub (zall [0, 1, 2] rfl) (wfX2_predicted_19 hd t x1 x2 (some t) G h hk)
  · rw [if_neg c3] at h
    refine j_iload_n (j := 2) dX2_predicted_8 rfl rfl ?_
    replace h := zbE h
    obtain ⟨v5, e4, h⟩ := h
    refine j_cont (zrS (As := [vI x2]) msX2_237 (yX2_isToken_ok e4) (Nat.le_trans (Nat.le_of_ble_eq_true rfl) hd) rfl rfl (Nat.le_of_ble_eq_true rfl) dX2_predicted_9) ?_
    refine j_if_eq (tgt := 19) dX2_predicted_12 (by decide) (fun c6 => ?_) (fun c6 => ?_)
    · rw [if_pos c6] at h
      exact J.sub (zall [0, 1, 2] rfl) (wfX2_predicted_19 hd t x1 x2 (some t) G h hk)
    · rw [if_neg c6] at h
      refine j_iconst (v := 1) dX2_predicted_15 (by decide) ?_
      refine j_goto (tgt := 20) dX2_predicted_16 (by decide) ?_
      exact J.sub (zall [0, 1, 2] rfl) (wfX2_predicted_20 hd t x1 x2 (some t) 1 G h hk)
theorem yX2_predicted_ok {t : Nat} {x1 : Int32} {x2 : Int32} {G : GS} {r : Int32} {G1 : GS} (h : fX2_predicted_0 t x1 x2 G = some (r, G1)) : zRuns yX2_predicted (ws_ yX2_predicted cX2_predicted 3 (some Jvm.ClassFile.FieldType.int)) [vR (some t), vI x1, vI x2] (.inl (some (vI r)), G, G1, 8) :=
  zentry (M := mX2_predicted) (plainFor_of_name (by decide +kernel)) ⟨rfl, rfl, rfl, rfl⟩ (Nat.le_of_ble_eq_true rfl) (wfX2_predicted_0 (Nat.le_refl _) t x1 x2 G h ⟨rfl, rfl⟩)
abbrev mX2_predictedByPair : zM := (cX2_predictedByPair, RX2, 4, (some Jvm.ClassFile.FieldType.int), "predictedByPair", [], "(III)I")
def fX2_predictedByPair_27 (t : Nat) (x1 : Int32) (x2 : Int32) (x3 : Int32) (s0 : Option Nat) (s1 : Int32) (G : GS) : Option ((Int32) × GS) :=
  s0.bind fun a1 => zk [2] G a1 <| zb2 (fX2_goes_0 a1 s1 G) fun v5 G6 => if v5 = 0 then (some (0, G6)) else (zk [2] G6 t <| (fX2_knowsPairs_0 t G6).bind fun G10 => zk [2] G10 t <| (fX2_predictedByTwo_0 t x1 x2 x3 G10).bind fun v13 => some (v13, G10))
theorem wfX2_predictedByPair_27 {F : zF} (hd : 8 ≤ F.2.2.2) (t : Nat) (x1 : Int32) (x2 : Int32) (x3 : Int32) (s0 : Option Nat) (s1 : Int32) (G : GS) {a : (Int32) × GS} (h : fX2_predictedByPair_27 t x1 x2 x3 s0 s1 G = some a) (hk : zKI F a) : J mX2_predictedByPair F G 27 [(0, vR (some t)), (1, vI x1), (2, vI x2), (3, vI x3)] [vI s1, vR s0] := by
  unfold fX2_predictedByPair_27 at h
  replace h := zbE h
  obtain ⟨a1, e2, h⟩ := h
  subst e2
  replace h := zkE h
  obtain ⟨e3, h⟩ := h
  replace h := zb2E h
  obtain ⟨v5, G6, e4, h⟩ := h
  refine j_cont (zrV (As := [vI s1]) msX2_177 (yX2_goes_ok e4) (Nat.le_trans (Nat.le_of_ble_eq_true rfl) hd) (zk_2 _ e3) rfl rfl (Nat.le_of_ble_eq_true rfl) dX2_predictedByPair_27) ?_
  refine j_if_ne (tgt := 35) dX2_predictedByPair_30 (by decide) (fun c7 => ?_) (fun c7 => ?_)
  · rw [if_pos c7] at h
    refine j_iconst (v := 0) dX2_predictedByPair_33 (by decide) ?_
    obtain rfl := Option.some.inj h
    exact j_iret hk.1 hk.2 rfl dX2_predictedByPair_34
  · rw [if_neg c7] at h
    refine j_aload_n (j := 0) dX2_predictedByPair_35 rfl rfl ?_
    replace h := zkE h
    obtain ⟨e8, h⟩ := h
    replace h := zbE h
    obtain ⟨G10, e9, h⟩ := h
    refine j_cont (zrV (As := []) msX2_275 (yX2_knowsPairs_ok e9) (Nat.le_trans (Nat.le_of_ble_eq_true rfl) hd) (zk_2 _ e8) rfl rfl (Nat.le_of_ble_eq_true rfl) dX2_predictedByPair_36) ?_
    refine j_aload_n (j := 0) dX2_predictedByPair_39 rfl rfl ?_
    refine j_iload_n (j := 1) dX2_predictedByPair_40 rfl rfl ?_
    refine j_iload_n (j := 2) dX2_predictedByPair_41 rfl rfl ?_
    refine j_iload_n (j := 3) dX2_predictedByPair_42 rfl rfl ?_
    replace h := zkE h
    obtain ⟨e11, h⟩ := h
    replace h := zbE h
    obtain ⟨v13, e12, h⟩ := h
    refine j_cont (zrV (As := [vI x1, vI x2, vI x3]) msX2_278 (yX2_predictedByTwo_ok e12) (Nat.le_trans (Nat.le_of_ble_eq_true rfl) hd) (zk_2 _ e11) rfl rfl (Nat.le_of_ble_eq_true rfl) dX2_predictedByPair_43) ?_
    obtain rfl := Option.some.inj h
    exact j_iret hk.1 hk.2 rfl dX2_predictedByPair_46
def fX2_predictedByPair_26 (t : Nat) (x1 : Int32) (x2 : Int32) (x3 : Int32) (s0 : Option Nat) (G : GS) : Option ((Int32) × GS) :=
  fX2_predictedByPair_27 t x1 x2 x3 s0 0 G
theorem wfX2_predictedByPair_26 {F : zF} (hd : 8 ≤ F.2.2.2) (t : Nat) (x1 : Int32) (x2 : Int32) (x3 : Int32) (s0 : Option Nat) (G : GS) {a : (Int32) × GS} (h : fX2_predictedByPair_26 t x1 x2 x3 s0 G = some a) (hk : zKI F a) : J mX2_predictedByPair F G 26 [(0, vR (some t)), (1, vI x1), (2, vI x2), (3, vI x3)] [vR s0] := by
  unfold fX2_predictedByPair_26 at h
  refine j_iconst (v := 0) dX2_predictedByPair_26 (by decide) ?_
  exact J.sub (zall [0, 1, 2, 3] rfl) (wfX2_predictedByPair_27 hd t x1 x2 x3 s0 0 G h hk)
def fX2_predictedByPair_0 (t : Nat) (x1 : Int32) (x2 : Int32) (x3 : Int32)  (G : GS) : Option ((Int32) × GS) :=
  (fX2_isNonterminal_0 x1 G).bind fun v2 => if v2 = 0 then (fX2_predictedByPair_26 t x1 x2 x3 (some t) G) else ((fX2_isToken_0 x2 G).bind fun v5 => if v5 = 0 then (fX2_predictedByPair_26 t x1 x2 x3 (some t) G) else ((fX2_isToken_0 x3 G).bind fun v8 => if v8 = 0 then (fX2_predictedByPair_26 t x1 x2 x3 (some t) G) else (fX2_predictedByPair_27 t x1 x2 x3 (some t) 1 G)))
theorem wfX2_predictedByPair_0 {F : zF} (hd : 8 ≤ F.2.2.2) (t : Nat) (x1 : Int32) (x2 : Int32) (x3 : Int32)  (G : GS) {a : (Int32) × GS} (h : fX2_predictedByPair_0 t x1 x2 x3  G = some a) (hk : zKI F a) : J mX2_predictedByPair F G 0 [(0, vR (some t)), (1, vI x1), (2, vI x2), (3, vI x3)] [] := by
  unfold fX2_predictedByPair_0 at h
  refine j_aload_n (j := 0) dX2_predictedByPair_0 rfl rfl ?_
  refine j_iload_n (j := 1) dX2_predictedByPair_1 rfl rfl ?_
  replace h := zbE h
  obtain ⟨v2, e1, h⟩ := h
  refine j_cont (zrS (As := [vI x1]) msX2_149 (yX2_isNonterminal_ok e1) (Nat.le_trans (Nat.le_of_ble_eq_true rfl) hd) rfl rfl (Nat.le_of_ble_eq_true rfl) dX2_predictedByPair_2) ?_
  refine j_if_eq (tgt := 26) dX2_predictedByPair_5 (by decide) (fun c3 => ?_) (fun c3 => ?_)
  · rw [if_pos c3] at h
    exact J.sub (zall [0, 1, 2, 3] rfl) (wfX2_predictedByPair_26 hd t x1 x2 x3 (some t) G h hk)
  · rw [if_neg c3] at h
    refine j_iload_n (j := 2) dX2_predictedByPair_8 rfl rfl ?_
    replace h := zbE h
    obtain ⟨v5, e4, h⟩ := h
    refine j_cont (zrS (As := [vI x2]) msX2_237 (yX2_isToken_ok e4) (Nat.le_trans (Nat.le_of_ble_eq_true rfl) hd) rfl rfl (Nat.le_of_ble_eq_true rfl) dX2_predictedByPair_9) ?_
    refine j_if_eq (tgt := 26) dX2_predictedByPair_12 (by decide) (fun c6 => ?_) (fun c6 => ?_)
    · rw [if_pos c6] at h
      exact J.sub (zall [0, 1, 2, 3] rfl) (wfX2_predictedByPair_26 hd t x1 x2 x3 (some t) G h hk)
    · rw [if_neg c6] at h
      refine j_iload_n (j := 3) dX2_predictedByPair_15 rfl rfl ?_
      replace h := zbE h
      obtain ⟨v8, e7, h⟩ := h
      refine j_cont (zrS (As := [vI x3]) msX2_237 (yX2_isToken_ok e7) (Nat.le_trans (Nat.le_of_ble_eq_true rfl) hd) rfl rfl (Nat.le_of_ble_eq_true rfl) dX2_predictedByPair_16) ?_
      refine j_if_eq (tgt := 26) dX2_predictedByPair_19 (by decide) (fun c9 => ?_) (fun c9 => ?_)
      · rw [if_pos c9] at h
        exact J.sub (zall [0, 1, 2, 3] rfl) (wfX2_predictedByPair_26 hd t x1 x2 x3 (some t) G h hk)
      · rw [if_neg c9] at h
        refine j_iconst (v := 1) dX2_predictedByPair_22 (by decide) ?_
        refine j_goto (tgt := 27) dX2_predictedByPair_23 (by decide) ?_
        exact J.sub (zall [0, 1, 2, 3] rfl) (wfX2_predictedByPair_27 hd t x1 x2 x3 (some t) 1 G h hk)
theorem yX2_predictedByPair_ok {t : Nat} {x1 : Int32} {x2 : Int32} {x3 : Int32} {G : GS} {r : Int32} {G1 : GS} (h : fX2_predictedByPair_0 t x1 x2 x3 G = some (r, G1)) : zRuns yX2_predictedByPair (ws_ yX2_predictedByPair cX2_predictedByPair 4 (some Jvm.ClassFile.FieldType.int)) [vR (some t), vI x1, vI x2, vI x3] (.inl (some (vI r)), G, G1, 8) :=
  zentry (M := mX2_predictedByPair) (plainFor_of_name (by decide +kernel)) ⟨rfl, rfl, rfl, rfl⟩ (Nat.le_of_ble_eq_true rfl) (wfX2_predictedByPair_0 (Nat.le_refl _) t x1 x2 x3 G h ⟨rfl, rfl⟩)
abbrev mX2_predictionOf : zM := (cX2_predictionOf, RX2, 2, (some Jvm.ClassFile.FieldType.int), "predictionOf", [], "(I)I")
def fX2_predictionOf_0 (t : Nat) (x1 : Int32)  (G : GS) : Option ((Int32) × GS) :=
  zk [2] G t <| (fX2_isRule_0 t x1 G).bind fun v3 => zk [2] G t <| zb2 (fX2_goes_0 t v3 G) fun v6 G7 => if v6 = 0 then (some (0, G7)) else (zk [2] G7 t <| (fX2_knows_0 t G7).bind fun G11 => zk [2] G11 t <| (fX2_prediction_0 t x1 G11).bind fun v14 => some (v14, G11))
theorem wfX2_predictionOf_0 {F : zF} (hd : 8 ≤ F.2.2.2) (t : Nat) (x1 : Int32)  (G : GS) {a : (Int32) × GS} (h : fX2_predictionOf_0 t x1  G = some a) (hk : zKI F a) : J mX2_predictionOf F G 0 [(0, vR (some t)), (1, vI x1)] [] := by
  unfold fX2_predictionOf_0 at h
  refine j_aload_n (j := 0) dX2_predictionOf_0 rfl rfl ?_
  refine j_aload_n (j := 0) dX2_predictionOf_1 rfl rfl ?_
  refine j_iload_n (j := 1) dX2_predictionOf_2 rfl rfl ?_
  replace h := zkE h
  obtain ⟨e1, h⟩ := h
  replace h := zbE h
  obtain ⟨v3, e2, h⟩ := h
  refine j_cont (zrV (As := [vI x1]) msX2_164 (yX2_isRule_ok e2) (Nat.le_trans (Nat.le_of_ble_eq_true rfl) hd) (zk_2 _ e1) rfl rfl (Nat.le_of_ble_eq_true rfl) dX2_predictionOf_3) ?_
  replace h := zkE h
  obtain ⟨e4, h⟩ := h
  replace h := zb2E h
  obtain ⟨v6, G7, e5, h⟩ := h
  refine j_cont (zrV (As := [vI v3]) msX2_177 (yX2_goes_ok e5) (Nat.le_trans (Nat.le_of_ble_eq_true rfl) hd) (zk_2 _ e4) rfl rfl (Nat.le_of_ble_eq_true rfl) dX2_predictionOf_6) ?_
  refine j_if_ne (tgt := 14) dX2_predictionOf_9 (by decide) (fun c8 => ?_) (fun c8 => ?_)
  · rw [if_pos c8] at h
    refine j_iconst (v := 0) dX2_predictionOf_12 (by decide) ?_
    obtain rfl := Option.some.inj h
    exact j_iret hk.1 hk.2 rfl dX2_predictionOf_13
  · rw [if_neg c8] at h
    refine j_aload_n (j := 0) dX2_predictionOf_14 rfl rfl ?_
    replace h := zkE h
    obtain ⟨e9, h⟩ := h
    replace h := zbE h
    obtain ⟨G11, e10, h⟩ := h
    refine j_cont (zrV (As := []) msX2_227 (yX2_knows_ok e10) (Nat.le_trans (Nat.le_of_ble_eq_true rfl) hd) (zk_2 _ e9) rfl rfl (Nat.le_of_ble_eq_true rfl) dX2_predictionOf_15) ?_
    refine j_aload_n (j := 0) dX2_predictionOf_18 rfl rfl ?_
    refine j_iload_n (j := 1) dX2_predictionOf_19 rfl rfl ?_
    replace h := zkE h
    obtain ⟨e12, h⟩ := h
    replace h := zbE h
    obtain ⟨v14, e13, h⟩ := h
    refine j_cont (zrV (As := [vI x1]) msX2_234 (yX2_prediction_ok e13) (Nat.le_trans (Nat.le_of_ble_eq_true rfl) hd) (zk_2 _ e12) rfl rfl (Nat.le_of_ble_eq_true rfl) dX2_predictionOf_20) ?_
    obtain rfl := Option.some.inj h
    exact j_iret hk.1 hk.2 rfl dX2_predictionOf_23
theorem yX2_predictionOf_ok {t : Nat} {x1 : Int32} {G : GS} {r : Int32} {G1 : GS} (h : fX2_predictionOf_0 t x1 G = some (r, G1)) : zRuns yX2_predictionOf (ws_ yX2_predictionOf cX2_predictionOf 2 (some Jvm.ClassFile.FieldType.int)) [vR (some t), vI x1] (.inl (some (vI r)), G, G1, 8) :=
  zentry (M := mX2_predictionOf) (plainFor_of_name (by decide +kernel)) ⟨rfl, rfl, rfl, rfl⟩ (Nat.le_of_ble_eq_true rfl) (wfX2_predictionOf_0 (Nat.le_refl _) t x1 G h ⟨rfl, rfl⟩)
end
