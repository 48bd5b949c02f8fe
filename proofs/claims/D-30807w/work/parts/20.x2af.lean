/-! printed: functions and walks -/
set_option maxRecDepth 100000
noncomputable section
theorem fgX2_59 : zFG RX2 59 1 23 (.array (.int)) := ⟨(RX2, TX2, 42, tyX2), rfl, by decide, in_X2, rfl, "SelahGeneratorModel", Or.inl rfl, Or.inl q2695⟩
theorem msX2_181 : zSV RX2 181 RX2 yX2_closes cX2_closes 3 none 1 := ⟨lw_V q2867 q2869 qs67 q131 q2870, (by decide +kernel), (by decide)⟩
theorem msX2_327 : zSV RX2 327 RX2 yX2_sharedLength cX2_sharedLength 5 (some Jvm.ClassFile.FieldType.int) 1 := ⟨lw_V q3137 q3139 qs110 q131 q3140, (by decide +kernel), (by decide)⟩
abbrev mX2_factors : zM := (cX2_factors, RX2, 8, none, "factors", [], "(II)V")
def fX2_factors_148 (t : Nat) (x1 : Int32) (x2 : Int32) (x3 : Int32)  (G : GS) : Option (GS) :=
  (zgR G 2 t 1).bind fun r1 => r1.bind fun a3 => (zsI G 50 a3 x1 x3).bind fun G5 => zk [2] G5 t <| (fX2_puts_0 t x1 x2 G5).bind fun G9 => some G9
theorem wfX2_factors_148 {F : zF} (hd : 4 ≤ F.2.2.2) (t : Nat) (x1 : Int32) (x2 : Int32) (x3 : Int32)  (G : GS) {a : GS} (h : fX2_factors_148 t x1 x2 x3  G = some a) (hk : zKV F a) : J mX2_factors F G 148 [(0, vR (some t)), (1, vI x1), (2, vI x2), (3, vI x3)] [] := by
  unfold fX2_factors_148 at h
  refine j_aload_n (j := 0) dX2_factors_148 rfl rfl ?_
  replace h := zbE h
  obtain ⟨r1, e2, h⟩ := h
  refine j_getR fgX2_13 (fun _ _ _ => rfl) dX2_factors_149 e2 ?_
  refine j_iload_n (j := 1) dX2_factors_152 rfl rfl ?_
  refine j_iload_n (j := 3) dX2_factors_153 rfl rfl ?_
  replace h := zbE h
  obtain ⟨a3, e4, h⟩ := h
  subst e4
  replace h := zbE h
  obtain ⟨G5, e6, h⟩ := h
  refine j_iast e6 dX2_factors_154 ?_
  refine j_aload_n (j := 0) dX2_factors_155 rfl rfl ?_
  refine j_iload_n (j := 1) dX2_factors_156 rfl rfl ?_
  refine j_iload_n (j := 2) dX2_factors_157 rfl rfl ?_
  replace h := zkE h
  obtain ⟨e7, h⟩ := h
  replace h := zbE h
  obtain ⟨G9, e8, h⟩ := h
  refine j_cont (zrV (As := [vI x1, vI x2]) msX2_174 (yX2_puts_ok e8) (Nat.le_trans (Nat.le_of_ble_eq_true rfl) hd) (zk_2 _ e7) rfl rfl (Nat.le_of_ble_eq_true rfl) dX2_factors_158) ?_
  obtain rfl := Option.some.inj h
  exact j_vret hk.1 hk.2 rfl dX2_factors_161
def fbX2_factors_126 (t : Nat) (x1 : Int32) (x2 : Int32) (x3 : Int32) (x5 : Int32)  (G : GS) : Option ((Int32 × GS) ⊕ (GS)) :=
  if x5 ≤ 0 then (zo (fX2_factors_148 t x1 x2 x3 G)) else ((zgR G 2 t 23).bind fun r2 => r2.bind fun a4 => (zaI G 50 a4 x5).bind fun v6 => zk [2] G t <| (fX2_closes_0 t v6 G).bind fun G10 => some (.inl ((x5 + (-1)), G10)))
def flX2_factors_126 (t : Nat) (x1 : Int32) (x2 : Int32) (x3 : Int32) (x5 : Int32) (G : GS) : Option (GS) := zloop (fun s : Int32 × GS => fbX2_factors_126 t x1 x2 x3 s.1 s.2) (x5, G)
theorem wfbX2_factors_126 {F : zF} (hd : 4 ≤ F.2.2.2) (t : Nat) (x1 : Int32) (x2 : Int32) (x3 : Int32) (x5 : Int32) (G : GS) {a : (Int32 × GS) ⊕ (GS)} (h : fbX2_factors_126 t x1 x2 x3 x5 G = some a) (hk : (zcase (fun s : Int32 × GS => J mX2_factors F s.2 126 [(0, vR (some t)), (1, vI x1), (2, vI x2), (3, vI x3), (5, vI s.1)] []) (zKV F)) a) : J mX2_factors F G 126 [(0, vR (some t)), (1, vI x1), (2, vI x2), (3, vI x3), (5, vI x5)] [] := by
  unfold fbX2_factors_126 at h
  refine j_iload (j := 4) dX2_factors_126 rfl ?_
  refine j_if_le (tgt := 148) dX2_factors_128 (by decide) (fun c1 => ?_) (fun c1 => ?_)
  · rw [if_pos c1] at h
    replace h := zoE h
    obtain ⟨a, h, rfl⟩ := h
    replace hk := hk
    exact J.sub (zall [0, 1, 2, 3] rfl) (wfX2_factors_148 hd t x1 x2 x3  G h hk)
  · rw [if_neg c1] at h
    refine j_aload_n (j := 0) dX2_factors_131 rfl rfl ?_
    refine j_aload_n (j := 0) dX2_factors_132 rfl rfl ?_
    replace h := zbE h
    obtain ⟨r2, e3, h⟩ := h
    refine j_getR fgX2_59 (fun _ _ _ => rfl) dX2_factors_133 e3 ?_
    refine j_iload (j := 4) dX2_factors_136 rfl ?_
    replace h := zbE h
    obtain ⟨a4, e5, h⟩ := h
    subst e5
    replace h := zbE h
    obtain ⟨v6, e7, h⟩ := h
    refine j_iald (Or.inl rfl) e7 dX2_factors_138 ?_
    replace h := zkE h
    obtain ⟨e8, h⟩ := h
    replace h := zbE h
    obtain ⟨G10, e9, h⟩ := h
    refine j_cont (zrV (As := [vI v6]) msX2_181 (yX2_closes_ok e9) (Nat.le_trans (Nat.le_of_ble_eq_true rfl) hd) (zk_2 _ e8) rfl rfl (Nat.le_of_ble_eq_true rfl) dX2_factors_139) ?_
    refine j_iinc (j := 4) (v := (x5 + (-1))) (lv' := [(5, vI (x5 + (-1))), (0, vR (some t)), (1, vI x1), (2, vI x2), (3, vI x3)]) dX2_factors_142 rfl rfl (Nat.le_of_ble_eq_true rfl) rfl ?_
    refine j_goto (tgt := 126) dX2_factors_145 (by decide) ?_
    obtain rfl := Option.some.inj h
    exact J.sub (zall [1, 2, 3, 4, 0] rfl) hk
theorem wflX2_factors_126 {F : zF} (hd : 4 ≤ F.2.2.2) (t : Nat) (x1 : Int32) (x2 : Int32) (x3 : Int32) (x5 : Int32) (G : GS) {a : GS} (h : flX2_factors_126 t x1 x2 x3 x5 G = some a) (hk : zKV F a) : J mX2_factors F G 126 [(0, vR (some t)), (1, vI x1), (2, vI x2), (3, vI x3), (5, vI x5)] [] := by
  unfold flX2_factors_126 at h
  exact zloop_walk (P := (fun s : Int32 × GS => J mX2_factors F s.2 126 [(0, vR (some t)), (1, vI x1), (2, vI x2), (3, vI x3), (5, vI s.1)] [])) (fun s b e hk => wfbX2_factors_126 hd t x1 x2 x3 s.1 s.2 e hk) (x5, G) _ h hk
def fX2_factors_120 (t : Nat) (x1 : Int32) (x2 : Int32) (x3 : Int32) (x4 : Int32)  (G : GS) : Option (GS) :=
  flX2_factors_126 t x1 x2 x3 (x4 - 1) G
theorem wfX2_factors_120 {F : zF} (hd : 4 ≤ F.2.2.2) (t : Nat) (x1 : Int32) (x2 : Int32) (x3 : Int32) (x4 : Int32)  (G : GS) {a : GS} (h : fX2_factors_120 t x1 x2 x3 x4  G = some a) (hk : zKV F a) : J mX2_factors F G 120 [(0, vR (some t)), (1, vI x1), (2, vI x2), (3, vI x3), (4, vI x4)] [] := by
  unfold fX2_factors_120 at h
  refine j_iload (j := 4) dX2_factors_120 rfl ?_
  refine j_iconst (v := 1) dX2_factors_122 (by decide) ?_
  refine j_isub dX2_factors_123 ?_
  refine j_istore (lv' := [(5, vI (x4 - 1)), (0, vR (some t)), (1, vI x1), (2, vI x2), (3, vI x3), (4, vI x4)]) dX2_factors_124 (Nat.le_of_ble_eq_true rfl) rfl ?_
  exact J.sub (zall [1, 2, 3, 4, 0] rfl) (wflX2_factors_126 hd t x1 x2 x3 (x4 - 1)  G h hk)
def fX2_factors_114 (t : Nat) (x1 : Int32) (x2 : Int32) (x3 : Int32) (x4 : Int32) (x5 : Int32)  (G : GS) : Option ((Int32 × GS) ⊕ (GS)) :=
  some (.inl ((x5 + 1), G))
theorem wfX2_factors_114 {F : zF} (hd : 4 ≤ F.2.2.2) (t : Nat) (x1 : Int32) (x2 : Int32) (x3 : Int32) (x4 : Int32) (x5 : Int32)  (G : GS) {a : (Int32 × GS) ⊕ (GS)} (h : fX2_factors_114 t x1 x2 x3 x4 x5  G = some a) (hk : (zcase (fun s : Int32 × GS => J mX2_factors F s.2 55 [(0, vR (some t)), (1, vI x1), (2, vI x2), (3, vI x3), (4, vI x4), (5, vI s.1)] []) (zKV F)) a) : J mX2_factors F G 114 [(0, vR (some t)), (1, vI x1), (2, vI x2), (3, vI x3), (4, vI x4), (5, vI x5)] [] := by
  unfold fX2_factors_114 at h
  refine j_iinc (j := 5) (v := (x5 + 1)) (lv' := [(5, vI (x5 + 1)), (0, vR (some t)), (1, vI x1), (2, vI x2), (3, vI x3), (4, vI x4)]) dX2_factors_114 rfl rfl (Nat.le_of_ble_eq_true rfl) rfl ?_
  refine j_goto (tgt := 55) dX2_factors_117 (by decide) ?_
  obtain rfl := Option.some.inj h
  exact J.sub (zall [1, 2, 3, 4, 5, 0] rfl) hk
def fbX2_factors_72 (t : Nat) (x1 : Int32) (x2 : Int32) (x3 : Int32) (x4 : Int32) (x5 : Int32) (x6 : Int32) (x7 : Int32)  (G : GS) : Option ((Int32 × GS) ⊕ ((Int32 × GS) ⊕ (GS))) :=
  (zgR G 2 t 1).bind fun r1 => (zgR G 2 t 23).bind fun r3 => r3.bind fun a5 => (zaI G 50 a5 x5).bind fun v7 => r1.bind fun a9 => (zaI G 50 a9 v7).bind fun v11 => if v11 ≤ x7 then (zo (fX2_factors_114 t x1 x2 x3 x4 x5 G)) else ((zgR G 2 t 23).bind fun r14 => r14.bind fun a16 => (zaI G 50 a16 x5).bind fun v18 => zk [2] G t <| (fX2_at_0 t v18 x7 G).bind fun v22 => zk [2] G t <| (fX2_puts_0 t x6 v22 G).bind fun G25 => some (.inl ((x7 + 1), G25)))
def flX2_factors_72 (t : Nat) (x1 : Int32) (x2 : Int32) (x3 : Int32) (x4 : Int32) (x5 : Int32) (x6 : Int32) (x7 : Int32) (G : GS) : Option ((Int32 × GS) ⊕ (GS)) := zloop (fun s : Int32 × GS => fbX2_factors_72 t x1 x2 x3 x4 x5 x6 s.1 s.2) (x7, G)
theorem wfbX2_factors_72 {F : zF} (hd : 4 ≤ F.2.2.2) (t : Nat) (x1 : Int32) (x2 : Int32) (x3 : Int32) (x4 : Int32) (x5 : Int32) (x6 : Int32) (x7 : Int32) (G : GS) {a : (Int32 × GS) ⊕ ((Int32 × GS) ⊕ (GS))} (h : fbX2_factors_72 t x1 x2 x3 x4 x5 x6 x7 G = some a) (hk : (zcase (fun s : Int32 × GS => J mX2_factors F s.2 72 [(0, vR (some t)), (1, vI x1), (2, vI x2), (3, vI x3), (4, vI x4), (5, vI x5), (6, vI x6), (7, vI s.1)] []) ((zcase (fun s : Int32 × GS => J mX2_factors F s.2 55 [(0, vR (some t)), (1, vI x1), (2, vI x2), (3, vI x3), (4, vI x4), (5, vI s.1)] []) (zKV F)))) a) : J mX2_factors F G 72 [(0, vR (some t)), (1, vI x1), (2, vI x2), (3, vI x3), (4, vI x4), (5, vI x5), (6, vI x6), (7, vI x7)] [] := by
  unfold fbX2_factors_72 at h
  refine j_iload (j := 7) dX2_factors_72 rfl ?_
  refine j_aload_n (j := 0) dX2_factors_74 rfl rfl ?_
  replace h := zbE h
  obtain ⟨r1, e2, h⟩ := h
  refine j_getR fgX2_13 (fun _ _ _ => rfl) dX2_factors_75 e2 ?_
  refine j_aload_n (j := 0) dX2_factors_78 rfl rfl ?_
  replace h := zbE h
  obtain ⟨r3, e4, h⟩ := h
  refine j_getR fgX2_59 (fun _ _ _ => rfl) dX2_factors_79 e4 ?_
  refine j_iload (j := 5) dX2_factors_82 rfl ?_
  replace h := zbE h
  obtain ⟨a5, e6, h⟩ := h
  subst e6
  replace h := zbE h
  obtain ⟨v7, e8, h⟩ := h
  refine j_iald (Or.inl rfl) e8 dX2_factors_84 ?_
  replace h := zbE h
  obtain ⟨a9, e10, h⟩ := h
  subst e10
  replace h := zbE h
  obtain ⟨v11, e12, h⟩ := h
  refine j_iald (Or.inl rfl) e12 dX2_factors_85 ?_
  refine j_icmp_ge (tgt := 114) dX2_factors_86 (by decide) (fun c13 => ?_) (fun c13 => ?_)
  · rw [if_pos c13] at h
    replace h := zoE h
    obtain ⟨a, h, rfl⟩ := h
    replace hk := hk
    exact J.sub (zall [0, 1, 2, 3, 4, 5] rfl) (wfX2_factors_114 hd t x1 x2 x3 x4 x5  G h hk)
  · rw [if_neg c13] at h
    refine j_aload_n (j := 0) dX2_factors_89 rfl rfl ?_
    refine j_iload (j := 6) dX2_factors_90 rfl ?_
    refine j_aload_n (j := 0) dX2_factors_92 rfl rfl ?_
    refine j_aload_n (j := 0) dX2_factors_93 rfl rfl ?_
    replace h := zbE h
    obtain ⟨r14, e15, h⟩ := h
    refine j_getR fgX2_59 (fun _ _ _ => rfl) dX2_factors_94 e15 ?_
    refine j_iload (j := 5) dX2_factors_97 rfl ?_
    replace h := zbE h
    obtain ⟨a16, e17, h⟩ := h
    subst e17
    replace h := zbE h
    obtain ⟨v18, e19, h⟩ := h
    refine j_iald (Or.inl rfl) e19 dX2_factors_99 ?_
    refine j_iload (j := 7) dX2_factors_100 rfl ?_
    replace h := zkE h
    obtain ⟨e20, h⟩ := h
    replace h := zbE h
    obtain ⟨v22, e21, h⟩ := h
    refine j_cont (zrV (As := [vI v18, vI x7]) msX2_187 (yX2_at_ok e21) (Nat.le_trans (Nat.le_of_ble_eq_true rfl) hd) (zk_2 _ e20) rfl rfl (Nat.le_of_ble_eq_true rfl) dX2_factors_102) ?_
    replace h := zkE h
    obtain ⟨e23, h⟩ := h
    replace h := zbE h
    obtain ⟨G25, e24, h⟩ := h
    refine j_cont (zrV (As := [vI x6, vI v22]) msX2_174 (yX2_puts_ok e24) (Nat.le_trans (Nat.le_of_ble_eq_true rfl) hd) (zk_2 _ e23) rfl rfl (Nat.le_of_ble_eq_true rfl) dX2_factors_105) ?_
    refine j_iinc (j := 7) (v := (x7 + 1)) (lv' := [(7, vI (x7 + 1)), (0, vR (some t)), (1, vI x1), (2, vI x2), (3, vI x3), (4, vI x4), (5, vI x5), (6, vI x6)]) dX2_factors_108 rfl rfl (Nat.le_of_ble_eq_true rfl) rfl ?_
    refine j_goto (tgt := 72) dX2_factors_111 (by decide) ?_
    obtain rfl := Option.some.inj h
    exact J.sub (zall [1, 2, 3, 4, 5, 6, 7, 0] rfl) hk
theorem wflX2_factors_72 {F : zF} (hd : 4 ≤ F.2.2.2) (t : Nat) (x1 : Int32) (x2 : Int32) (x3 : Int32) (x4 : Int32) (x5 : Int32) (x6 : Int32) (x7 : Int32) (G : GS) {a : (Int32 × GS) ⊕ (GS)} (h : flX2_factors_72 t x1 x2 x3 x4 x5 x6 x7 G = some a) (hk : (zcase (fun s : Int32 × GS => J mX2_factors F s.2 55 [(0, vR (some t)), (1, vI x1), (2, vI x2), (3, vI x3), (4, vI x4), (5, vI s.1)] []) (zKV F)) a) : J mX2_factors F G 72 [(0, vR (some t)), (1, vI x1), (2, vI x2), (3, vI x3), (4, vI x4), (5, vI x5), (6, vI x6), (7, vI x7)] [] := by
  unfold flX2_factors_72 at h
  exact zloop_walk (P := (fun s : Int32 × GS => J mX2_factors F s.2 72 [(0, vR (some t)), (1, vI x1), (2, vI x2), (3, vI x3), (4, vI x4), (5, vI x5), (6, vI x6), (7, vI s.1)] [])) (fun s b e hk => wfbX2_factors_72 hd t x1 x2 x3 x4 x5 x6 s.1 s.2 e hk) (x7, G) _ h hk
def fbX2_factors_55 (t : Nat) (x1 : Int32) (x2 : Int32) (x3 : Int32) (x4 : Int32) (x5 : Int32)  (G : GS) : Option ((Int32 × GS) ⊕ (GS)) :=
  if x4 ≤ x5 then (zo (fX2_factors_120 t x1 x2 x3 x4 G)) else (zk [2] G t <| zb2 (fX2_begins_0 t x2 G) fun v4 G5 => flX2_factors_72 t x1 x2 x3 x4 x5 v4 x3 G5)
def flX2_factors_55 (t : Nat) (x1 : Int32) (x2 : Int32) (x3 : Int32) (x4 : Int32) (x5 : Int32) (G : GS) : Option (GS) := zloop (fun s : Int32 × GS => fbX2_factors_55 t x1 x2 x3 x4 s.1 s.2) (x5, G)
theorem wfbX2_factors_55 {F : zF} (hd : 4 ≤ F.2.2.2) (t : Nat) (x1 : Int32) (x2 : Int32) (x3 : Int32) (x4 : Int32) (x5 : Int32) (G : GS) {a : (Int32 × GS) ⊕ (GS)} (h : fbX2_factors_55 t x1 x2 x3 x4 x5 G = some a) (hk : (zcase (fun s : Int32 × GS => J mX2_factors F s.2 55 [(0, vR (some t)), (1, vI x1), (2, vI x2), (3, vI x3), (4, vI x4), (5, vI s.1)] []) (zKV F)) a) : J mX2_factors F G 55 [(0, vR (some t)), (1, vI x1), (2, vI x2), (3, vI x3), (4, vI x4), (5, vI x5)] [] := by
  unfold fbX2_factors_55 at h
  refine j_iload (j := 5) dX2_factors_55 rfl ?_
  refine j_iload (j := 4) dX2_factors_57 rfl ?_
  refine j_icmp_ge (tgt := 120) dX2_factors_59 (by decide) (fun c1 => ?_) (fun c1 => ?_)
  · rw [if_pos c1] at h
    replace h := zoE h
    obtain ⟨a, h, rfl⟩ := h
    replace hk := hk
    exact J.sub (zall [0, 1, 2, 3, 4] rfl) (wfX2_factors_120 hd t x1 x2 x3 x4  G h hk)
  · rw [if_neg c1] at h
    refine j_aload_n (j := 0) dX2_factors_62 rfl rfl ?_
    refine j_iload_n (j := 2) dX2_factors_63 rfl rfl ?_
    replace h := zkE h
    obtain ⟨e2, h⟩ := h
    replace h := zb2E h
    obtain ⟨v4, G5, e3, h⟩ := h
    refine j_cont (zrV (As := [vI x2]) msX2_160 (yX2_begins_ok e3) (Nat.le_trans (Nat.le_of_ble_eq_true rfl) hd) (zk_2 _ e2) rfl rfl (Nat.le_of_ble_eq_true rfl) dX2_factors_64) ?_
    refine j_istore (lv' := [(6, vI v4), (0, vR (some t)), (1, vI x1), (2, vI x2), (3, vI x3), (4, vI x4), (5, vI x5)]) dX2_factors_67 (Nat.le_of_ble_eq_true rfl) rfl ?_
    refine j_iload_n (j := 4) dX2_factors_69 rfl rfl ?_
    refine j_istore (lv' := [(7, vI x3), (6, vI v4), (0, vR (some t)), (1, vI x1), (2, vI x2), (3, vI x3), (4, vI x4), (5, vI x5)]) dX2_factors_70 (Nat.le_of_ble_eq_true rfl) rfl ?_
    exact J.sub (zall [2, 3, 4, 5, 6, 7, 1, 0] rfl) (wflX2_factors_72 hd t x1 x2 x3 x4 x5 v4 x3  G5 h hk)
theorem wflX2_factors_55 {F : zF} (hd : 4 ≤ F.2.2.2) (t : Nat) (x1 : Int32) (x2 : Int32) (x3 : Int32) (x4 : Int32) (x5 : Int32) (G : GS) {a : GS} (h : flX2_factors_55 t x1 x2 x3 x4 x5 G = some a) (hk : zKV F a) : J mX2_factors F G 55 [(0, vR (some t)), (1, vI x1), (2, vI x2), (3, vI x3), (4, vI x4), (5, vI x5)] [] := by
  unfold flX2_factors_55 at h
  exact zloop_walk (P := (fun s : Int32 × GS => J mX2_factors F s.2 55 [(0, vR (some t)), (1, vI x1), (2, vI x2), (3, vI x3), (4, vI x4), (5, vI s.1)] [])) (fun s b e hk => wfbX2_factors_55 hd t x1 x2 x3 x4 s.1 s.2 e hk) (x5, G) _ h hk
def fX2_factors_52 (t : Nat) (x1 : Int32) (x2 : Int32) (x3 : Int32) (x4 : Int32)  (G : GS) : Option (GS) :=
  flX2_factors_55 t x1 x2 x3 x4 0 G
theorem wfX2_factors_52 {F : zF} (hd : 4 ≤ F.2.2.2) (t : Nat) (x1 : Int32) (x2 : Int32) (x3 : Int32) (x4 : Int32)  (G : GS) {a : GS} (h : fX2_factors_52 t x1 x2 x3 x4  G = some a) (hk : zKV F a) : J mX2_factors F G 52 [(0, vR (some t)), (1, vI x1), (2, vI x2), (3, vI x3), (4, vI x4)] [] := by
  unfold fX2_factors_52 at h
  refine j_iconst (v := 0) dX2_factors_52 (by decide) ?_
  refine j_istore (lv' := [(5, vI 0), (0, vR (some t)), (1, vI x1), (2, vI x2), (3, vI x3), (4, vI x4)]) dX2_factors_53 (Nat.le_of_ble_eq_true rfl) rfl ?_
  exact J.sub (zall [1, 2, 3, 4, 5, 0] rfl) (wflX2_factors_55 hd t x1 x2 x3 x4 0  G h hk)
def fX2_factors_46 (t : Nat) (x1 : Int32) (x2 : Int32) (x3 : Int32) (x4 : Int32) (x5 : Int32)  (G : GS) : Option ((Int32 × Int32 × GS) ⊕ (GS)) :=
  some (.inl (x4, (x5 + 1), G))
theorem wfX2_factors_46 {F : zF} (hd : 4 ≤ F.2.2.2) (t : Nat) (x1 : Int32) (x2 : Int32) (x3 : Int32) (x4 : Int32) (x5 : Int32)  (G : GS) {a : (Int32 × Int32 × GS) ⊕ (GS)} (h : fX2_factors_46 t x1 x2 x3 x4 x5  G = some a) (hk : (zcase (fun s : Int32 × Int32 × GS => J mX2_factors F s.2.2 12 [(0, vR (some t)), (1, vI x1), (2, vI x2), (3, vI x3), (4, vI s.1), (5, vI s.2.1)] []) (zKV F)) a) : J mX2_factors F G 46 [(0, vR (some t)), (1, vI x1), (2, vI x2), (3, vI x3), (4, vI x4), (5, vI x5)] [] := by
  unfold fX2_factors_46 at h
  refine j_iinc (j := 5) (v := (x5 + 1)) (lv' := [(5, vI (x5 + 1)), (0, vR (some t)), (1, vI x1), (2, vI x2), (3, vI x3), (4, vI x4)]) dX2_factors_46 rfl rfl (Nat.le_of_ble_eq_true rfl) rfl ?_
  refine j_goto (tgt := 12) dX2_factors_49 (by decide) ?_
  obtain rfl := Option.some.inj h
  exact J.sub (zall [1, 2, 3, 4, 5, 0] rfl) hk
def fbX2_factors_12 (t : Nat) (x1 : Int32) (x2 : Int32) (x3 : Int32) (x4 : Int32) (x5 : Int32)  (G : GS) : Option ((Int32 × Int32 × GS) ⊕ (GS)) :=
  (zgI G 2 t 6).bind fun v1 => if v1 ≤ x5 then (zo (fX2_factors_52 t x1 x2 x3 x4 G)) else (zk [2] G t <| (fX2_isAlike_0 t x5 x1 G).bind fun v6 => if v6 = 0 then (fX2_factors_46 t x1 x2 x3 x4 x5 G) else ((zgR G 2 t 23).bind fun r8 => r8.bind fun a10 => (zsI G 50 a10 x4 x5).bind fun G12 => fX2_factors_46 t x1 x2 x3 (x4 + 1) x5 G12))
def flX2_factors_12 (t : Nat) (x1 : Int32) (x2 : Int32) (x3 : Int32) (x4 : Int32) (x5 : Int32) (G : GS) : Option (GS) := zloop (fun s : Int32 × Int32 × GS => fbX2_factors_12 t x1 x2 x3 s.1 s.2.1 s.2.2) (x4, x5, G)
theorem wfbX2_factors_12 {F : zF} (hd : 4 ≤ F.2.2.2) (t : Nat) (x1 : Int32) (x2 : Int32) (x3 : Int32) (x4 : Int32) (x5 : Int32) (G : GS) {a : (Int32 × Int32 × GS) ⊕ (GS)} (h : fbX2_factors_12 t x1 x2 x3 x4 x5 G = some a) (hk : (zcase (fun s : Int32 × Int32 × GS => J mX2_factors F s.2.2 12 [(0, vR (some t)), (1, vI x1), (2, vI x2), (3, vI x3), (4, vI s.1), (5, vI s.2.1)] []) (zKV F)) a) : J mX2_factors F G 12 [(0, vR (some t)), (1, vI x1), (2, vI x2), (3, vI x3), (4, vI x4), (5, vI x5)] [] := by
  unfold fbX2_factors_12 at h
  refine j_iload (j := 5) dX2_factors_12 rfl ?_
  refine j_aload_n (j := 0) dX2_factors_14 rfl rfl ?_
  replace h := zbE h
  obtain ⟨v1, e2, h⟩ := h
  refine j_getI fgX2_113 (fun _ _ _ => rfl) dX2_factors_15 e2 ?_
  refine j_icmp_ge (tgt := 52) dX2_factors_18 (by decide) (fun c3 => ?_) (fun c3 => ?_)
  · rw [if_pos c3] at h
    replace h := zoE h
    obtain ⟨a, h, rfl⟩ := h
    replace hk := hk
    exact J.sub (zall [0, 1, 2, 3, 4] rfl) (wfX2_factors_52 hd t x1 x2 x3 x4  G h hk)
  · rw [if_neg c3] at h
    refine j_aload_n (j := 0) dX2_factors_21 rfl rfl ?_
    refine j_iload (j := 5) dX2_factors_22 rfl ?_
    refine j_iload_n (j := 1) dX2_factors_24 rfl rfl ?_
    replace h := zkE h
    obtain ⟨e4, h⟩ := h
    replace h := zbE h
    obtain ⟨v6, e5, h⟩ := h
    refine j_cont (zrV (As := [vI x5, vI x1]) msX2_321 (yX2_isAlike_ok e5) (Nat.le_trans (Nat.le_of_ble_eq_true rfl) hd) (zk_2 _ e4) rfl rfl (Nat.le_of_ble_eq_true rfl) dX2_factors_25) ?_
    refine j_if_ne (tgt := 34) dX2_factors_28 (by decide) (fun c7 => ?_) (fun c7 => ?_)
    · rw [if_pos c7] at h
      refine j_goto (tgt := 46) dX2_factors_31 (by decide) ?_
      exact J.sub (zall [0, 1, 2, 3, 4, 5] rfl) (wfX2_factors_46 hd t x1 x2 x3 x4 x5  G h hk)
    · rw [if_neg c7] at h
      refine j_aload_n (j := 0) dX2_factors_34 rfl rfl ?_
      replace h := zbE h
      obtain ⟨r8, e9, h⟩ := h
      refine j_getR fgX2_59 (fun _ _ _ => rfl) dX2_factors_35 e9 ?_
      refine j_iload (j := 4) dX2_factors_38 rfl ?_
      refine j_iload (j := 5) dX2_factors_40 rfl ?_
      replace h := zbE h
      obtain ⟨a10, e11, h⟩ := h
      subst e11
      replace h := zbE h
      obtain ⟨G12, e13, h⟩ := h
      refine j_iast e13 dX2_factors_42 ?_
      refine j_iinc (j := 4) (v := (x4 + 1)) (lv' := [(4, vI (x4 + 1)), (0, vR (some t)), (1, vI x1), (2, vI x2), (3, vI x3), (5, vI x5)]) dX2_factors_43 rfl rfl (Nat.le_of_ble_eq_true rfl) rfl ?_
      exact J.sub (zall [1, 2, 3, 4, 0, 5] rfl) (wfX2_factors_46 hd t x1 x2 x3 (x4 + 1) x5  G12 h hk)
theorem wflX2_factors_12 {F : zF} (hd : 4 ≤ F.2.2.2) (t : Nat) (x1 : Int32) (x2 : Int32) (x3 : Int32) (x4 : Int32) (x5 : Int32) (G : GS) {a : GS} (h : flX2_factors_12 t x1 x2 x3 x4 x5 G = some a) (hk : zKV F a) : J mX2_factors F G 12 [(0, vR (some t)), (1, vI x1), (2, vI x2), (3, vI x3), (4, vI x4), (5, vI x5)] [] := by
  unfold flX2_factors_12 at h
  exact zloop_walk (P := (fun s : Int32 × Int32 × GS => J mX2_factors F s.2.2 12 [(0, vR (some t)), (1, vI x1), (2, vI x2), (3, vI x3), (4, vI s.1), (5, vI s.2.1)] [])) (fun s b e hk => wfbX2_factors_12 hd t x1 x2 x3 s.1 s.2.1 s.2.2 e hk) (x4, x5, G) _ h hk
def fX2_factors_0 (t : Nat) (x1 : Int32) (x2 : Int32)  (G : GS) : Option (GS) :=
  zk [2] G t <| (fX2_sharedLength_0 t x1 G).bind fun v3 => flX2_factors_12 t x1 x2 v3 0 0 G
theorem wfX2_factors_0 {F : zF} (hd : 4 ≤ F.2.2.2) (t : Nat) (x1 : Int32) (x2 : Int32)  (G : GS) {a : GS} (h : fX2_factors_0 t x1 x2  G = some a) (hk : zKV F a) : J mX2_factors F G 0 [(0, vR (some t)), (1, vI x1), (2, vI x2)] [] := by
  unfold fX2_factors_0 at h
  refine j_aload_n (j := 0) dX2_factors_0 rfl rfl ?_
  refine j_iload_n (j := 1) dX2_factors_1 rfl rfl ?_
  replace h := zkE h
  obtain ⟨e1, h⟩ := h
  replace h := zbE h
  obtain ⟨v3, e2, h⟩ := h
  refine j_cont (zrV (As := [vI x1]) msX2_327 (yX2_sharedLength_ok e2) (Nat.le_trans (Nat.le_of_ble_eq_true rfl) hd) (zk_2 _ e1) rfl rfl (Nat.le_of_ble_eq_true rfl) dX2_factors_2) ?_
  refine j_istore_n (lv' := [(3, vI v3), (0, vR (some t)), (1, vI x1), (2, vI x2)]) dX2_factors_5 rfl (Nat.le_of_ble_eq_true rfl) rfl ?_
  refine j_iconst (v := 0) dX2_factors_6 (by decide) ?_
  refine j_istore (lv' := [(4, vI 0), (3, vI v3), (0, vR (some t)), (1, vI x1), (2, vI x2)]) dX2_factors_7 (Nat.le_of_ble_eq_true rfl) rfl ?_
  refine j_iconst (v := 0) dX2_factors_9 (by decide) ?_
  refine j_istore (lv' := [(5, vI 0), (4, vI 0), (3, vI v3), (0, vR (some t)), (1, vI x1), (2, vI x2)]) dX2_factors_10 (Nat.le_of_ble_eq_true rfl) rfl ?_
  exact J.sub (zall [3, 4, 5, 2, 1, 0] rfl) (wflX2_factors_12 hd t x1 x2 v3 0 0  G h hk)
theorem yX2_factors_ok {t : Nat} {x1 : Int32} {x2 : Int32} {G : GS} {G1 : GS} (h : fX2_factors_0 t x1 x2 G = some G1) : zRuns yX2_factors (ws_ yX2_factors cX2_factors 8 none) [vR (some t), vI x1, vI x2] (.inl none, G, G1, 4) :=
  zentry (M := mX2_factors) (plainFor_of_name (by decide +kernel)) ⟨rfl, rfl, rfl, rfl⟩ (Nat.le_of_ble_eq_true rfl) (wfX2_factors_0 (Nat.le_refl _) t x1 x2 G h ⟨rfl, rfl⟩)
abbrev mX2_isTooMuch : zM := (cX2_isTooMuch, RX2, 2, (some Jvm.ClassFile.FieldType.boolean), "isTooMuch", [], "()Z")
def fbX2_isTooMuch_13 (t : Nat) (x1 : Int32)  (G : GS) : Option ((Int32) ⊕ (Int32)) :=
  (zgI G 2 t 6).bind fun v1 => if v1 ≤ x1 then (zo (zcond (zbb 0) (some 0))) else ((zgR G 2 t 1).bind fun r5 => r5.bind fun a7 => (zaI G 50 a7 x1).bind fun v9 => if v9 ≤ 10 then (some (.inl ((x1 + 1)))) else (zo (zcond (zbb 1) (some 1))))
def flX2_isTooMuch_13 (t : Nat) (x1 : Int32) (G : GS) : Option (Int32) := zloop (fun s : Int32 => fbX2_isTooMuch_13 t s G) (x1)
theorem wfbX2_isTooMuch_13 {F : zF} (hd : 1 ≤ F.2.2.2) (t : Nat) (x1 : Int32) (G : GS) {a : (Int32) ⊕ (Int32)} (h : fbX2_isTooMuch_13 t x1 G = some a) (hk : (zcase (fun s : Int32 => J mX2_isTooMuch F G 13 [(0, vR (some t)), (1, vI s)] []) (zKPI F G)) a) : J mX2_isTooMuch F G 13 [(0, vR (some t)), (1, vI x1)] [] := by
  unfold fbX2_isTooMuch_13 at h
  refine j_iload_n (j := 1) dX2_isTooMuch_13 rfl rfl ?_
  refine j_aload_n (j := 0) dX2_isTooMuch_14 rfl rfl ?_
  replace h := zbE h
  obtain ⟨v1, e2, h⟩ := h
  refine j_getI fgX2_113 (fun _ _ _ => rfl) dX2_isTooMuch_15 e2 ?_
  refine j_icmp_ge (tgt := 40) dX2_isTooMuch_18 (by decide) (fun c3 => ?_) (fun c3 => ?_)
  · rw [if_pos c3] at h
    replace h := zoE h
    obtain ⟨a, h, rfl⟩ := h
    replace hk := hk
    refine j_iconst (v := 0) dX2_isTooMuch_40 (by decide) ?_
    replace h := zcondE h
    obtain ⟨e4, h⟩ := h
    obtain rfl := Option.some.inj h
    exact j_zret hk.1 hk.2 rfl (zbb_n e4) dX2_isTooMuch_41
  · rw [if_neg c3] at h
    refine j_aload_n (j := 0) dX2_isTooMuch_21 rfl rfl ?_
    replace h := zbE h
    obtain ⟨r5, e6, h⟩ := h
    refine j_getR fgX2_13 (fun _ _ _ => rfl) dX2_isTooMuch_22 e6 ?_
    refine j_iload_n (j := 1) dX2_isTooMuch_25 rfl rfl ?_
    replace h := zbE h
    obtain ⟨a7, e8, h⟩ := h
    subst e8
    replace h := zbE h
    obtain ⟨v9, e10, h⟩ := h
    refine j_iald (Or.inl rfl) e10 dX2_isTooMuch_26 ?_
    refine j_bipush (v := 10) dX2_isTooMuch_27 (by decide) ?_
    refine j_icmp_le (tgt := 34) dX2_isTooMuch_29 (by decide) (fun c11 => ?_) (fun c11 => ?_)
    · rw [if_pos c11] at h
      refine j_iinc (j := 1) (v := (x1 + 1)) (lv' := [(1, vI (x1 + 1)), (0, vR (some t))]) dX2_isTooMuch_34 rfl rfl (Nat.le_of_ble_eq_true rfl) rfl ?_
      refine j_goto (tgt := 13) dX2_isTooMuch_37 (by decide) ?_
      obtain rfl := Option.some.inj h
      exact J.sub (zall [1, 0] rfl) hk
    · rw [if_neg c11] at h
      replace h := zoE h
      obtain ⟨a, h, rfl⟩ := h
      replace hk := hk
      refine j_iconst (v := 1) dX2_isTooMuch_32 (by decide) ?_
      replace h := zcondE h
      obtain ⟨e12, h⟩ := h
      obtain rfl := Option.some.inj h
      exact j_zret hk.1 hk.2 rfl (zbb_n e12) dX2_isTooMuch_33
theorem wflX2_isTooMuch_13 {F : zF} (hd : 1 ≤ F.2.2.2) (t : Nat) (x1 : Int32) (G : GS) {a : Int32} (h : flX2_isTooMuch_13 t x1 G = some a) (hk : zKPI F G a) : J mX2_isTooMuch F G 13 [(0, vR (some t)), (1, vI x1)] [] := by
  unfold flX2_isTooMuch_13 at h
  exact zloop_walk (P := (fun s : Int32 => J mX2_isTooMuch F G 13 [(0, vR (some t)), (1, vI s)] [])) (fun s b e hk => wfbX2_isTooMuch_13 hd t s G e hk) (x1) _ h hk
def fX2_isTooMuch_0 (t : Nat)  (G : GS) : Option (Int32) :=
  (zgI G 2 t 6).bind fun v1 => if v1 ≤ 48 then (flX2_isTooMuch_13 t 0 G) else (zcond (zbb 1) (some 1))
theorem wfX2_isTooMuch_0 {F : zF} (hd : 1 ≤ F.2.2.2) (t : Nat)  (G : GS) {a : Int32} (h : fX2_isTooMuch_0 t  G = some a) (hk : zKPI F G a) : J mX2_isTooMuch F G 0 [(0, vR (some t))] [] := by
  unfold fX2_isTooMuch_0 at h
  refine j_aload_n (j := 0) dX2_isTooMuch_0 rfl rfl ?_
  replace h := zbE h
  obtain ⟨v1, e2, h⟩ := h
  refine j_getI fgX2_113 (fun _ _ _ => rfl) dX2_isTooMuch_1 e2 ?_
  refine j_bipush (v := 48) dX2_isTooMuch_4 (by decide) ?_
  refine j_icmp_le (tgt := 11) dX2_isTooMuch_6 (by decide) (fun c3 => ?_) (fun c3 => ?_)
  · rw [if_pos c3] at h
    refine j_iconst (v := 0) dX2_isTooMuch_11 (by decide) ?_
    refine j_istore_n (lv' := [(1, vI 0), (0, vR (some t))]) dX2_isTooMuch_12 rfl (Nat.le_of_ble_eq_true rfl) rfl ?_
    exact J.sub (zall [1, 0] rfl) (wflX2_isTooMuch_13 hd t 0  G h hk)
  · rw [if_neg c3] at h
    refine j_iconst (v := 1) dX2_isTooMuch_9 (by decide) ?_
    replace h := zcondE h
    obtain ⟨e4, h⟩ := h
    obtain rfl := Option.some.inj h
    exact j_zret hk.1 hk.2 rfl (zbb_n e4) dX2_isTooMuch_10
theorem yX2_isTooMuch_ok {t : Nat} {G : GS} {r : Int32} (h : fX2_isTooMuch_0 t G = some r) : zRuns yX2_isTooMuch (ws_ yX2_isTooMuch cX2_isTooMuch 2 (some Jvm.ClassFile.FieldType.boolean)) [vR (some t)] (.inl (some (vI r)), G, G, 1) :=
  zentry (M := mX2_isTooMuch) (plainFor_of_name (by decide +kernel)) ⟨rfl, rfl, rfl, rfl⟩ (Nat.le_of_ble_eq_true rfl) (wfX2_isTooMuch_0 (Nat.le_refl _) t G h ⟨rfl, rfl⟩)
theorem msX2_300 : zSV RX2 300 RX2 yX2_isTooMuch cX2_isTooMuch 2 (some Jvm.ClassFile.FieldType.boolean) 0 := ⟨lw_V q3089 q3091 qs99 q131 q3092, (by decide +kernel), (by decide)⟩
theorem msX2_306 : zSV RX2 306 RX2 yX2_unused cX2_unused 3 (some Jvm.ClassFile.FieldType.int) 0 := ⟨lw_V q3101 q3103 qs102 q131 q3104, (by decide +kernel), (by decide)⟩
theorem msX2_330 : zSV RX2 330 RX2 yX2_groupHead cX2_groupHead 3 (some Jvm.ClassFile.FieldType.int) 0 := ⟨lw_V q3121 q3123 qs106 q131 q3124, (by decide +kernel), (by decide)⟩
theorem msX2_333 : zSV RX2 333 RX2 yX2_factors cX2_factors 8 none 2 := ⟨lw_V q3133 q3135 qs109 q131 q3136, (by decide +kernel), (by decide)⟩
abbrev mX2_factorsAll : zM := (cX2_factorsAll, RX2, 4, (some Jvm.ClassFile.FieldType.int), "factorsAll", [], "()I")
def fbX2_factorsAll_7 (t : Nat) (x1 : Int32) (x2 : Int32)  (G : GS) : Option ((Int32 × Int32 × GS) ⊕ ((Int32) × GS)) :=
  if x2 = (-1) then (zo (some (x1, G))) else (zk [2] G t <| (fX2_unused_0 t G).bind fun v4 => if v4 = (-1) then (zo (some ((-1), G))) else (zk [2] G t <| (fX2_factors_0 t x2 v4 G).bind fun G8 => zk [2] G8 t <| (fX2_isTooMuch_0 t G8).bind fun v11 => if v11 = 0 then (zk [2] G8 t <| (fX2_groupHead_0 t G8).bind fun v15 => some (.inl ((x1 + 1), v15, G8))) else (zo (some ((-1), G8)))))
def flX2_factorsAll_7 (t : Nat) (x1 : Int32) (x2 : Int32) (G : GS) : Option ((Int32) × GS) := zloop (fun s : Int32 × Int32 × GS => fbX2_factorsAll_7 t s.1 s.2.1 s.2.2) (x1, x2, G)
theorem wfbX2_factorsAll_7 {F : zF} (hd : 5 ≤ F.2.2.2) (t : Nat) (x1 : Int32) (x2 : Int32) (G : GS) {a : (Int32 × Int32 × GS) ⊕ ((Int32) × GS)} (h : fbX2_factorsAll_7 t x1 x2 G = some a) (hk : (zcase (fun s : Int32 × Int32 × GS => J mX2_factorsAll F s.2.2 7 [(0, vR (some t)), (1, vI s.1), (2, vI s.2.1)] []) (zKI F)) a) : J mX2_factorsAll F G 7 [(0, vR (some t)), (1, vI x1), (2, vI x2)] [] := by
  unfold fbX2_factorsAll_7 at h
  refine j_iload_n (j := 2) dX2_factorsAll_7 rfl rfl ?_
  refine j_iconst (v := (-1)) dX2_factorsAll_8 (by decide) ?_
  refine j_icmp_eq (tgt := 50) dX2_factorsAll_9 (by decide) (fun c1 => ?_) (fun c1 => ?_)
  · rw [if_pos c1] at h
    replace h := zoE h
    obtain ⟨a, h, rfl⟩ := h
    replace hk := hk
    refine j_iload_n (j := 1) dX2_factorsAll_50 rfl rfl ?_
    obtain rfl := Option.some.inj h
    exact j_iret hk.1 hk.2 rfl dX2_factorsAll_51
  · rw [if_neg c1] at h
    refine j_aload_n (j := 0) dX2_factorsAll_12 rfl rfl ?_
    replace h := zkE h
    obtain ⟨e2, h⟩ := h
    replace h := zbE h
    obtain ⟨v4, e3, h⟩ := h
    refine j_cont (zrV (As := []) msX2_306 (yX2_unused_ok e3) (Nat.le_trans (Nat.le_of_ble_eq_true rfl) hd) (zk_2 _ e2) rfl rfl (Nat.le_of_ble_eq_true rfl) dX2_factorsAll_13) ?_
    refine j_istore_n (lv' := [(3, vI v4), (0, vR (some t)), (1, vI x1), (2, vI x2)]) dX2_factorsAll_16 rfl (Nat.le_of_ble_eq_true rfl) rfl ?_
    refine j_iload_n (j := 0) dX2_factorsAll_17 rfl rfl ?_
    refine j_iconst (v := (-1)) dX2_factorsAll_18 (by decide) ?_
    refine j_icmp_ne (tgt := 24) dX2_factorsAll_19 (by decide) (fun c5 => ?_) (fun c5 => ?_)
    · rw [if_pos c5] at h
      replace h := zoE h
      obtain ⟨a, h, rfl⟩ := h
      replace hk := hk
      refine j_iconst (v := (-1)) dX2_factorsAll_22 (by decide) ?_
      obtain rfl := Option.some.inj h
      exact j_iret hk.1 hk.2 rfl dX2_factorsAll_23
    · rw [if_neg c5] at h
      refine j_aload_n (j := 1) dX2_factorsAll_24 rfl rfl ?_
      refine j_iload_n (j := 3) dX2_factorsAll_25 rfl rfl ?_
      refine j_iload_n (j := 0) dX2_factorsAll_26 rfl rfl ?_
      replace h := zkE h
      obtain ⟨e6, h⟩ := h
      replace h := zbE h
      obtain ⟨G8, e7, h⟩ := h
      refine j_cont (zrV (As := [vI x2, vI v4]) msX2_333 (yX2_factors_ok e7) (Nat.le_trans (Nat.le_of_ble_eq_true rfl) hd) (zk_2 _ e6) rfl rfl (Nat.le_of_ble_eq_true rfl) dX2_factorsAll_27) ?_
      refine j_iinc (j := 2) (v := (x1 + 1)) (lv' := [(1, vI (x1 + 1)), (3, vI v4), (0, vR (some t)), (2, vI x2)]) dX2_factorsAll_30 rfl rfl (Nat.le_of_ble_eq_true rfl) rfl ?_
      refine j_aload_n (j := 2) dX2_factorsAll_33 rfl rfl ?_
      replace h := zkE h
      obtain ⟨e9, h⟩ := h
      replace h := zbE h
      obtain ⟨v11, e10, h⟩ := h
      refine j_cont (zrV (As := []) msX2_300 (yX2_isTooMuch_ok e10) (Nat.le_trans (Nat.le_of_ble_eq_true rfl) hd) (zk_2 _ e9) rfl rfl (Nat.le_of_ble_eq_true rfl) dX2_factorsAll_34) ?_
      refine j_if_eq (tgt := 42) dX2_factorsAll_37 (by decide) (fun c12 => ?_) (fun c12 => ?_)
      · rw [if_pos c12] at h
        refine j_aload_n (j := 2) dX2_factorsAll_42 rfl rfl ?_
        replace h := zkE h
        obtain ⟨e13, h⟩ := h
        replace h := zbE h
        obtain ⟨v15, e14, h⟩ := h
        refine j_cont (zrV (As := []) msX2_330 (yX2_groupHead_ok e14) (Nat.le_trans (Nat.le_of_ble_eq_true rfl) hd) (zk_2 _ e13) rfl rfl (Nat.le_of_ble_eq_true rfl) dX2_factorsAll_43) ?_
        refine j_istore_n (lv' := [(2, vI v15), (1, vI (x1 + 1)), (3, vI v4), (0, vR (some t))]) dX2_factorsAll_46 rfl (Nat.le_of_ble_eq_true rfl) rfl ?_
        refine j_goto (tgt := 7) dX2_factorsAll_47 (by decide) ?_
        obtain rfl := Option.some.inj h
        exact J.sub (zall [3, 1, 0] rfl) hk
      · rw [if_neg c12] at h
        replace h := zoE h
        obtain ⟨a, h, rfl⟩ := h
        replace hk := hk
        refine j_iconst (v := (-1)) dX2_factorsAll_40 (by decide) ?_
        obtain rfl := Option.some.inj h
        exact j_iret hk.1 hk.2 rfl dX2_factorsAll_41
theorem wflX2_factorsAll_7 {F : zF} (hd : 5 ≤ F.2.2.2) (t : Nat) (x1 : Int32) (x2 : Int32) (G : GS) {a : (Int32) × GS} (h : flX2_factorsAll_7 t x1 x2 G = some a) (hk : zKI F a) : J mX2_factorsAll F G 7 [(0, vR (some t)), (1, vI x1), (2, vI x2)] [] := by
  unfold flX2_factorsAll_7 at h
  exact zloop_walk (P := (fun s : Int32 × Int32 × GS => J mX2_factorsAll F s.2.2 7 [(0, vR (some t)), (1, vI s.1), (2, vI s.2.1)] [])) (fun s b e hk => wfbX2_factorsAll_7 hd t s.1 s.2.1 s.2.2 e hk) (x1, x2, G) _ h hk
def fX2_factorsAll_0 (t : Nat)  (G : GS) : Option ((Int32) × GS) :=
  zk [2] G t <| (fX2_groupHead_0 t G).bind fun v3 => flX2_factorsAll_7 t 0 v3 G
theorem wfX2_factorsAll_0 {F : zF} (hd : 5 ≤ F.2.2.2) (t : Nat)  (G : GS) {a : (Int32) × GS} (h : fX2_factorsAll_0 t  G = some a) (hk : zKI F a) : J mX2_factorsAll F G 0 [(0, vR (some t))] [] := by
  unfold fX2_factorsAll_0 at h
  refine j_iconst (v := 0) dX2_factorsAll_0 (by decide) ?_
  refine j_istore_n (lv' := [(1, vI 0), (0, vR (some t))]) dX2_factorsAll_1 rfl (Nat.le_of_ble_eq_true rfl) rfl ?_
  refine j_aload_n (j := 1) dX2_factorsAll_2 rfl rfl ?_
  replace h := zkE h
  obtain ⟨e1, h⟩ := h
  replace h := zbE h
  obtain ⟨v3, e2, h⟩ := h
  refine j_cont (zrV (As := []) msX2_330 (yX2_groupHead_ok e2) (Nat.le_trans (Nat.le_of_ble_eq_true rfl) hd) (zk_2 _ e1) rfl rfl (Nat.le_of_ble_eq_true rfl) dX2_factorsAll_3) ?_
  refine j_istore_n (lv' := [(2, vI v3), (1, vI 0), (0, vR (some t))]) dX2_factorsAll_6 rfl (Nat.le_of_ble_eq_true rfl) rfl ?_
  exact J.sub (zall [2, 1, 0] rfl) (wflX2_factorsAll_7 hd t 0 v3  G h hk)
theorem yX2_factorsAll_ok {t : Nat} {G : GS} {r : Int32} {G1 : GS} (h : fX2_factorsAll_0 t G = some (r, G1)) : zRuns yX2_factorsAll (ws_ yX2_factorsAll cX2_factorsAll 4 (some Jvm.ClassFile.FieldType.int)) [vR (some t)] (.inl (some (vI r)), G, G1, 5) :=
  zentry (M := mX2_factorsAll) (plainFor_of_name (by decide +kernel)) ⟨rfl, rfl, rfl, rfl⟩ (Nat.le_of_ble_eq_true rfl) (wfX2_factorsAll_0 (Nat.le_refl _) t G h ⟨rfl, rfl⟩)
theorem fgX2_124 : zFG RX2 124 1 7 (.int) := ⟨(RX2, TX2, 42, tyX2), rfl, by decide, in_X2, rfl, "SelahGeneratorModel", Or.inl rfl, Or.inl q2679⟩
abbrev mX2_putBack : zM := (cX2_putBack, RX2, 2, none, "putBack", [], "()V")
def fbX2_putBack_48 (t : Nat) (x1 : Int32)  (G : GS) : Option ((Int32 × GS) ⊕ (GS)) :=
  if 2000 ≤ x1 then (zo (some G)) else ((zgR G 2 t 2).bind fun r2 => (zgR G 2 t 5).bind fun r4 => r4.bind fun a6 => (zaI G 50 a6 x1).bind fun v8 => r2.bind fun a10 => (zsI G 50 a10 x1 v8).bind fun G12 => some (.inl ((x1 + 1), G12)))
def flX2_putBack_48 (t : Nat) (x1 : Int32) (G : GS) : Option (GS) := zloop (fun s : Int32 × GS => fbX2_putBack_48 t s.1 s.2) (x1, G)
theorem wfbX2_putBack_48 {F : zF} (hd : 1 ≤ F.2.2.2) (t : Nat) (x1 : Int32) (G : GS) {a : (Int32 × GS) ⊕ (GS)} (h : fbX2_putBack_48 t x1 G = some a) (hk : (zcase (fun s : Int32 × GS => J mX2_putBack F s.2 48 [(0, vR (some t)), (1, vI s.1)] []) (zKV F)) a) : J mX2_putBack F G 48 [(0, vR (some t)), (1, vI x1)] [] := by
  unfold fbX2_putBack_48 at h
  refine j_iload_n (j := 1) dX2_putBack_48 rfl rfl ?_
  refine j_sipush (v := 2000) dX2_putBack_49 (by decide) ?_
  refine j_icmp_ge (tgt := 73) dX2_putBack_52 (by decide) (fun c1 => ?_) (fun c1 => ?_)
  · rw [if_pos c1] at h
    replace h := zoE h
    obtain ⟨a, h, rfl⟩ := h
    replace hk := hk
    obtain rfl := Option.some.inj h
    exact j_vret hk.1 hk.2 rfl dX2_putBack_73
  · rw [if_neg c1] at h
    refine j_aload_n (j := 0) dX2_putBack_55 rfl rfl ?_
    replace h := zbE h
    obtain ⟨r2, e3, h⟩ := h
    refine j_getR fgX2_16 (fun _ _ _ => rfl) dX2_putBack_56 e3 ?_
    refine j_iload_n (j := 1) dX2_putBack_59 rfl rfl ?_
    refine j_aload_n (j := 0) dX2_putBack_60 rfl rfl ?_
    replace h := zbE h
    obtain ⟨r4, e5, h⟩ := h
    refine j_getR fgX2_25 (fun _ _ _ => rfl) dX2_putBack_61 e5 ?_
    refine j_iload_n (j := 1) dX2_putBack_64 rfl rfl ?_
    replace h := zbE h
    obtain ⟨a6, e7, h⟩ := h
    subst e7
    replace h := zbE h
    obtain ⟨v8, e9, h⟩ := h
    refine j_iald (Or.inl rfl) e9 dX2_putBack_65 ?_
    replace h := zbE h
    obtain ⟨a10, e11, h⟩ := h
    subst e11
    replace h := zbE h
    obtain ⟨G12, e13, h⟩ := h
    refine j_iast e13 dX2_putBack_66 ?_
    refine j_iinc (j := 1) (v := (x1 + 1)) (lv' := [(1, vI (x1 + 1)), (0, vR (some t))]) dX2_putBack_67 rfl rfl (Nat.le_of_ble_eq_true rfl) rfl ?_
    refine j_goto (tgt := 48) dX2_putBack_70 (by decide) ?_
    obtain rfl := Option.some.inj h
    exact J.sub (zall [1, 0] rfl) hk
theorem wflX2_putBack_48 {F : zF} (hd : 1 ≤ F.2.2.2) (t : Nat) (x1 : Int32) (G : GS) {a : GS} (h : flX2_putBack_48 t x1 G = some a) (hk : zKV F a) : J mX2_putBack F G 48 [(0, vR (some t)), (1, vI x1)] [] := by
  unfold flX2_putBack_48 at h
  exact zloop_walk (P := (fun s : Int32 × GS => J mX2_putBack F s.2 48 [(0, vR (some t)), (1, vI s.1)] [])) (fun s b e hk => wfbX2_putBack_48 hd t s.1 s.2 e hk) (x1, G) _ h hk
def fX2_putBack_46 (t : Nat)  (G : GS) : Option (GS) :=
  flX2_putBack_48 t 0 G
theorem wfX2_putBack_46 {F : zF} (hd : 1 ≤ F.2.2.2) (t : Nat)  (G : GS) {a : GS} (h : fX2_putBack_46 t  G = some a) (hk : zKV F a) : J mX2_putBack F G 46 [(0, vR (some t))] [] := by
  unfold fX2_putBack_46 at h
  refine j_iconst (v := 0) dX2_putBack_46 (by decide) ?_
  refine j_istore_n (lv' := [(1, vI 0), (0, vR (some t))]) dX2_putBack_47 rfl (Nat.le_of_ble_eq_true rfl) rfl ?_
  exact J.sub (zall [1, 0] rfl) (wflX2_putBack_48 hd t 0  G h hk)
def fbX2_putBack_10 (t : Nat) (x1 : Int32)  (G : GS) : Option ((Int32 × GS) ⊕ (GS)) :=
  if 100 ≤ x1 then (zo (fX2_putBack_46 t G)) else ((zgR G 2 t 0).bind fun r2 => (zgR G 2 t 3).bind fun r4 => r4.bind fun a6 => (zaI G 50 a6 x1).bind fun v8 => r2.bind fun a10 => (zsI G 50 a10 x1 v8).bind fun G12 => (zgR G12 2 t 1).bind fun r14 => (zgR G12 2 t 4).bind fun r16 => r16.bind fun a18 => (zaI G12 50 a18 x1).bind fun v20 => r14.bind fun a22 => (zsI G12 50 a22 x1 v20).bind fun G24 => some (.inl ((x1 + 1), G24)))
def flX2_putBack_10 (t : Nat) (x1 : Int32) (G : GS) : Option (GS) := zloop (fun s : Int32 × GS => fbX2_putBack_10 t s.1 s.2) (x1, G)
theorem wfbX2_putBack_10 {F : zF} (hd : 1 ≤ F.2.2.2) (t : Nat) (x1 : Int32) (G : GS) {a : (Int32 × GS) ⊕ (GS)} (h : fbX2_putBack_10 t x1 G = some a) (hk : (zcase (fun s : Int32 × GS => J mX2_putBack F s.2 10 [(0, vR (some t)), (1, vI s.1)] []) (zKV F)) a) : J mX2_putBack F G 10 [(0, vR (some t)), (1, vI x1)] [] := by
  unfold fbX2_putBack_10 at h
  refine j_iload_n (j := 1) dX2_putBack_10 rfl rfl ?_
  refine j_bipush (v := 100) dX2_putBack_11 (by decide) ?_
  refine j_icmp_ge (tgt := 46) dX2_putBack_13 (by decide) (fun c1 => ?_) (fun c1 => ?_)
  · rw [if_pos c1] at h
    replace h := zoE h
    obtain ⟨a, h, rfl⟩ := h
    replace hk := hk
    exact J.sub (zall [0] rfl) (wfX2_putBack_46 hd t  G h hk)
  · rw [if_neg c1] at h
    refine j_aload_n (j := 0) dX2_putBack_16 rfl rfl ?_
    replace h := zbE h
    obtain ⟨r2, e3, h⟩ := h
    refine j_getR fgX2_7 (fun _ _ _ => rfl) dX2_putBack_17 e3 ?_
    refine j_iload_n (j := 1) dX2_putBack_20 rfl rfl ?_
    refine j_aload_n (j := 0) dX2_putBack_21 rfl rfl ?_
    replace h := zbE h
    obtain ⟨r4, e5, h⟩ := h
    refine j_getR fgX2_19 (fun _ _ _ => rfl) dX2_putBack_22 e5 ?_
    refine j_iload_n (j := 1) dX2_putBack_25 rfl rfl ?_
    replace h := zbE h
    obtain ⟨a6, e7, h⟩ := h
    subst e7
    replace h := zbE h
    obtain ⟨v8, e9, h⟩ := h
    refine j_iald (Or.inl rfl) e9 dX2_putBack_26 ?_
    replace h := zbE h
    obtain ⟨a10, e11, h⟩ := h
    subst e11
    replace h := zbE h
    obtain ⟨G12, e13, h⟩ := h
    refine j_iast e13 dX2_putBack_27 ?_
    refine j_aload_n (j := 0) dX2_putBack_28 rfl rfl ?_
    replace h := zbE h
    obtain ⟨r14, e15, h⟩ := h
    refine j_getR fgX2_13 (fun _ _ _ => rfl) dX2_putBack_29 e15 ?_
    refine j_iload_n (j := 1) dX2_putBack_32 rfl rfl ?_
    refine j_aload_n (j := 0) dX2_putBack_33 rfl rfl ?_
    replace h := zbE h
    obtain ⟨r16, e17, h⟩ := h
    refine j_getR fgX2_22 (fun _ _ _ => rfl) dX2_putBack_34 e17 ?_
    refine j_iload_n (j := 1) dX2_putBack_37 rfl rfl ?_
    replace h := zbE h
    obtain ⟨a18, e19, h⟩ := h
    subst e19
    replace h := zbE h
    obtain ⟨v20, e21, h⟩ := h
    refine j_iald (Or.inl rfl) e21 dX2_putBack_38 ?_
    replace h := zbE h
    obtain ⟨a22, e23, h⟩ := h
    subst e23
    replace h := zbE h
    obtain ⟨G24, e25, h⟩ := h
    refine j_iast e25 dX2_putBack_39 ?_
    refine j_iinc (j := 1) (v := (x1 + 1)) (lv' := [(1, vI (x1 + 1)), (0, vR (some t))]) dX2_putBack_40 rfl rfl (Nat.le_of_ble_eq_true rfl) rfl ?_
    refine j_goto (tgt := 10) dX2_putBack_43 (by decide) ?_
    obtain rfl := Option.some.inj h
    exact J.sub (zall [1, 0] rfl) hk
theorem wflX2_putBack_10 {F : zF} (hd : 1 ≤ F.2.2.2) (t : Nat) (x1 : Int32) (G : GS) {a : GS} (h : flX2_putBack_10 t x1 G = some a) (hk : zKV F a) : J mX2_putBack F G 10 [(0, vR (some t)), (1, vI x1)] [] := by
  unfold flX2_putBack_10 at h
  exact zloop_walk (P := (fun s : Int32 × GS => J mX2_putBack F s.2 10 [(0, vR (some t)), (1, vI s.1)] [])) (fun s b e hk => wfbX2_putBack_10 hd t s.1 s.2 e hk) (x1, G) _ h hk
def fX2_putBack_0 (t : Nat)  (G : GS) : Option (GS) :=
  (zgI G 2 t 7).bind fun v1 => (zpI G 2 t 6 v1).bind fun G3 => flX2_putBack_10 t 0 G3
theorem wfX2_putBack_0 {F : zF} (hd : 1 ≤ F.2.2.2) (t : Nat)  (G : GS) {a : GS} (h : fX2_putBack_0 t  G = some a) (hk : zKV F a) : J mX2_putBack F G 0 [(0, vR (some t))] [] := by
  unfold fX2_putBack_0 at h
  refine j_aload_n (j := 0) dX2_putBack_0 rfl rfl ?_
  refine j_aload_n (j := 0) dX2_putBack_1 rfl rfl ?_
  replace h := zbE h
  obtain ⟨v1, e2, h⟩ := h
  refine j_getI fgX2_124 (fun _ _ _ => rfl) dX2_putBack_2 e2 ?_
  replace h := zbE h
  obtain ⟨G3, e4, h⟩ := h
  refine j_putI fpX2_113_X2 (Or.inl rfl) rfl dX2_putBack_5 e4 ?_
  refine j_iconst (v := 0) dX2_putBack_8 (by decide) ?_
  refine j_istore_n (lv' := [(1, vI 0), (0, vR (some t))]) dX2_putBack_9 rfl (Nat.le_of_ble_eq_true rfl) rfl ?_
  exact J.sub (zall [1, 0] rfl) (wflX2_putBack_10 hd t 0  G3 h hk)
theorem yX2_putBack_ok {t : Nat} {G : GS} {G1 : GS} (h : fX2_putBack_0 t G = some G1) : zRuns yX2_putBack (ws_ yX2_putBack cX2_putBack 2 none) [vR (some t)] (.inl none, G, G1, 1) :=
  zentry (M := mX2_putBack) (plainFor_of_name (by decide +kernel)) ⟨rfl, rfl, rfl, rfl⟩ (Nat.le_of_ble_eq_true rfl) (wfX2_putBack_0 (Nat.le_refl _) t G h ⟨rfl, rfl⟩)
theorem msX2_312 : zSV RX2 312 RX2 yX2_holds cX2_holds 2 none 0 := ⟨lw_V q3073 q3075 qs95 q131 q3076, (by decide +kernel), (by decide)⟩
theorem msX2_318 : zSV RX2 318 RX2 yX2_putBack cX2_putBack 2 none 0 := ⟨lw_V q3109 q3111 qs104 q131 q3112, (by decide +kernel), (by decide)⟩
theorem msX2_336 : zSV RX2 336 RX2 yX2_factorsAll cX2_factorsAll 4 (some Jvm.ClassFile.FieldType.int) 0 := ⟨lw_V q3117 q3119 qs105 q131 q3120, (by decide +kernel), (by decide)⟩
abbrev mX2_factorOut : zM := (cX2_factorOut, RX2, 2, (some Jvm.ClassFile.FieldType.int), "factorOut", [], "()I")
def fX2_factorOut_20 (t : Nat) (x1 : Int32) (s0 : Option Nat) (s1 : Int32) (G : GS) : Option ((Int32) × GS) :=
  s0.bind fun a1 => zk [2] G a1 <| zb2 (fX2_goes_0 a1 s1 G) fun v5 G6 => if v5 = 0 then (zk [2] G6 t <| (fX2_putBack_0 t G6).bind fun G10 => some (0, G10)) else (zk [2] G6 t <| (fX2_changes_0 t G6).bind fun G13 => some (x1, G13))
theorem wfX2_factorOut_20 {F : zF} (hd : 6 ≤ F.2.2.2) (t : Nat) (x1 : Int32) (s0 : Option Nat) (s1 : Int32) (G : GS) {a : (Int32) × GS} (h : fX2_factorOut_20 t x1 s0 s1 G = some a) (hk : zKI F a) : J mX2_factorOut F G 20 [(0, vR (some t)), (1, vI x1)] [vI s1, vR s0] := by
  unfold fX2_factorOut_20 at h
  replace h := zbE h
  obtain ⟨a1, e2, h⟩ := h
  subst e2
  replace h := zkE h
  obtain ⟨e3, h⟩ := h
  replace h := zb2E h
  obtain ⟨v5, G6, e4, h⟩ := h
  refine j_cont (zrV (As := [vI s1]) msX2_177 (yX2_goes_ok e4) (Nat.le_trans (Nat.le_of_ble_eq_true rfl) hd) (zk_2 _ e3) rfl rfl (Nat.le_of_ble_eq_true rfl) dX2_factorOut_20) ?_
  refine j_if_ne (tgt := 32) dX2_factorOut_23 (by decide) (fun c7 => ?_) (fun c7 => ?_)
  · rw [if_pos c7] at h
    refine j_aload_n (j := 0) dX2_factorOut_26 rfl rfl ?_
    replace h := zkE h
    obtain ⟨e8, h⟩ := h
    replace h := zbE h
    obtain ⟨G10, e9, h⟩ := h
    refine j_cont (zrV (As := []) msX2_318 (yX2_putBack_ok e9) (Nat.le_trans (Nat.le_of_ble_eq_true rfl) hd) (zk_2 _ e8) rfl rfl (Nat.le_of_ble_eq_true rfl) dX2_factorOut_27) ?_
    refine j_iconst (v := 0) dX2_factorOut_30 (by decide) ?_
    obtain rfl := Option.some.inj h
    exact j_iret hk.1 hk.2 rfl dX2_factorOut_31
  · rw [if_neg c7] at h
    refine j_aload_n (j := 0) dX2_factorOut_32 rfl rfl ?_
    replace h := zkE h
    obtain ⟨e11, h⟩ := h
    replace h := zbE h
    obtain ⟨G13, e12, h⟩ := h
    refine j_cont (zrV (As := []) msX2_157 (yX2_changes_ok e12) (Nat.le_trans (Nat.le_of_ble_eq_true rfl) hd) (zk_2 _ e11) rfl rfl (Nat.le_of_ble_eq_true rfl) dX2_factorOut_33) ?_
    refine j_iload_n (j := 1) dX2_factorOut_36 rfl rfl ?_
    obtain rfl := Option.some.inj h
    exact j_iret hk.1 hk.2 rfl dX2_factorOut_37
def fX2_factorOut_0 (t : Nat)  (G : GS) : Option ((Int32) × GS) :=
  zk [2] G t <| (fX2_holds_0 t G).bind fun G3 => zk [2] G3 t <| zb2 (fX2_factorsAll_0 t G3) fun v6 G7 => if v6 = (-1) then (fX2_factorOut_20 t v6 (some t) 0 G7) else (fX2_factorOut_20 t v6 (some t) 1 G7)
theorem wfX2_factorOut_0 {F : zF} (hd : 6 ≤ F.2.2.2) (t : Nat)  (G : GS) {a : (Int32) × GS} (h : fX2_factorOut_0 t  G = some a) (hk : zKI F a) : J mX2_factorOut F G 0 [(0, vR (some t))] [] := by
  unfold fX2_factorOut_0 at h
  refine j_aload_n (j := 0) dX2_factorOut_0 rfl rfl ?_
  replace h := zkE h
  obtain ⟨e1, h⟩ := h
  replace h := zbE h
  obtain ⟨G3, e2, h⟩ := h
  refine j_cont (zrV (As := []) msX2_312 (yX2_holds_ok e2) (Nat.le_trans (Nat.le_of_ble_eq_true rfl) hd) (zk_2 _ e1) rfl rfl (Nat.le_of_ble_eq_true rfl) dX2_factorOut_1) ?_
  refine j_aload_n (j := 0) dX2_factorOut_4 rfl rfl ?_
  replace h := zkE h
  obtain ⟨e4, h⟩ := h
  replace h := zb2E h
  obtain ⟨v6, G7, e5, h⟩ := h
  refine j_cont (zrV (As := []) msX2_336 (yX2_factorsAll_ok e5) (Nat.le_trans (Nat.le_of_ble_eq_true rfl) hd) (zk_2 _ e4) rfl rfl (Nat.le_of_ble_eq_true rfl) dX2_factorOut_5) ?_
  refine j_istore_n (lv' := [(1, vI v6), (0, vR (some t))]) dX2_factorOut_8 rfl (Nat.le_of_ble_eq_true rfl) rfl ?_
  refine j_aload_n (j := 1) dX2_factorOut_9 rfl rfl ?_
  refine j_iload_n (j := 0) dX2_factorOut_10 rfl rfl ?_
  refine j_iconst (v := (-1)) dX2_factorOut_11 (by decide) ?_
  refine j_icmp_eq (tgt := 19) dX2_factorOut_12 (by decide) (fun c8 => ?_) (fun c8 => ?_)
  · rw [if_pos c8] at h
    refine j_iconst (v := 0) dX2_factorOut_19 (by decide) ?_
    exact J.sub (zall [1, 0] rfl) (wfX2_factorOut_20 hd t v6 (some t) 0 G7 h hk)
  · rw [if_neg c8] at h
    refine j_iconst (v := 1) dX2_factorOut_15 (by decide) ?_
    refine j_goto (tgt := 20) dX2_factorOut_16 (by decide) ?_
    exact J.sub (zall [1, 0] rfl) (wfX2_factorOut_20 hd t v6 (some t) 1 G7 h hk)
theorem yX2_factorOut_ok {t : Nat} {G : GS} {r : Int32} {G1 : GS} (h : fX2_factorOut_0 t G = some (r, G1)) : zRuns yX2_factorOut (ws_ yX2_factorOut cX2_factorOut 2 (some Jvm.ClassFile.FieldType.int)) [vR (some t)] (.inl (some (vI r)), G, G1, 6) :=
  zentry (M := mX2_factorOut) (plainFor_of_name (by decide +kernel)) ⟨rfl, rfl, rfl, rfl⟩ (Nat.le_of_ble_eq_true rfl) (wfX2_factorOut_0 (Nat.le_refl _) t G h ⟨rfl, rfl⟩)
abbrev mX2_firstOf : zM := (cX2_firstOf, RX2, 2, (some Jvm.ClassFile.FieldType.int), "firstOf", [], "(I)I")
def fX2_firstOf_0 (t : Nat) (x1 : Int32)  (G : GS) : Option ((Int32) × GS) :=
  (fX2_isNonterminal_0 x1 G).bind fun v2 => zk [2] G t <| zb2 (fX2_goes_0 t v2 G) fun v5 G6 => if v5 = 0 then (some (0, G6)) else (zk [2] G6 t <| (fX2_knows_0 t G6).bind fun G10 => (zgR G10 2 t 9).bind fun r11 => r11.bind fun a13 => (zaI G10 50 a13 (x1 - 20)).bind fun v15 => some (v15, G10))
theorem wfX2_firstOf_0 {F : zF} (hd : 8 ≤ F.2.2.2) (t : Nat) (x1 : Int32)  (G : GS) {a : (Int32) × GS} (h : fX2_firstOf_0 t x1  G = some a) (hk : zKI F a) : J mX2_firstOf F G 0 [(0, vR (some t)), (1, vI x1)] [] := by
  unfold fX2_firstOf_0 at h
  refine j_aload_n (j := 0) dX2_firstOf_0 rfl rfl ?_
  refine j_iload_n (j := 1) dX2_firstOf_1 rfl rfl ?_
  replace h := zbE h
  obtain ⟨v2, e1, h⟩ := h
  refine j_cont (zrS (As := [vI x1]) msX2_149 (yX2_isNonterminal_ok e1) (Nat.le_trans (Nat.le_of_ble_eq_true rfl) hd) rfl rfl (Nat.le_of_ble_eq_true rfl) dX2_firstOf_2) ?_
  replace h := zkE h
  obtain ⟨e3, h⟩ := h
  replace h := zb2E h
  obtain ⟨v5, G6, e4, h⟩ := h
  refine j_cont (zrV (As := [vI v2]) msX2_177 (yX2_goes_ok e4) (Nat.le_trans (Nat.le_of_ble_eq_true rfl) hd) (zk_2 _ e3) rfl rfl (Nat.le_of_ble_eq_true rfl) dX2_firstOf_5) ?_
  refine j_if_ne (tgt := 13) dX2_firstOf_8 (by decide) (fun c7 => ?_) (fun c7 => ?_)
  · rw [if_pos c7] at h
    refine j_iconst (v := 0) dX2_firstOf_11 (by decide) ?_
    obtain rfl := Option.some.inj h
    exact j_iret hk.1 hk.2 rfl dX2_firstOf_12
  · rw [if_neg c7] at h
    refine j_aload_n (j := 0) dX2_firstOf_13 rfl rfl ?_
    replace h := zkE h
    obtain ⟨e8, h⟩ := h
    replace h := zbE h
    obtain ⟨G10, e9, h⟩ := h
    refine j_cont (zrV (As := []) msX2_227 (yX2_knows_ok e9) (Nat.le_trans (Nat.le_of_ble_eq_true rfl) hd) (zk_2 _ e8) rfl rfl (Nat.le_of_ble_eq_true rfl) dX2_firstOf_14) ?_
    refine j_aload_n (j := 0) dX2_firstOf_17 rfl rfl ?_
    replace h := zbE h
    obtain ⟨r11, e12, h⟩ := h
    refine j_getR fgX2_28 (fun _ _ _ => rfl) dX2_firstOf_18 e12 ?_
    refine j_iload_n (j := 1) dX2_firstOf_21 rfl rfl ?_
    refine j_bipush (v := 20) dX2_firstOf_22 (by decide) ?_
    refine j_isub dX2_firstOf_24 ?_
    replace h := zbE h
    obtain ⟨a13, e14, h⟩ := h
    subst e14
    replace h := zbE h
    obtain ⟨v15, e16, h⟩ := h
    refine j_iald (Or.inl rfl) e16 dX2_firstOf_25 ?_
    obtain rfl := Option.some.inj h
    exact j_iret hk.1 hk.2 rfl dX2_firstOf_26
theorem yX2_firstOf_ok {t : Nat} {x1 : Int32} {G : GS} {r : Int32} {G1 : GS} (h : fX2_firstOf_0 t x1 G = some (r, G1)) : zRuns yX2_firstOf (ws_ yX2_firstOf cX2_firstOf 2 (some Jvm.ClassFile.FieldType.int)) [vR (some t), vI x1] (.inl (some (vI r)), G, G1, 8) :=
  zentry (M := mX2_firstOf) (plainFor_of_name (by decide +kernel)) ⟨rfl, rfl, rfl, rfl⟩ (Nat.le_of_ble_eq_true rfl) (wfX2_firstOf_0 (Nat.le_refl _) t x1 G h ⟨rfl, rfl⟩)
abbrev mX2_firstReplaceable : zM := (cX2_firstReplaceable, RX2, 4, (some Jvm.ClassFile.FieldType.int), "firstReplaceable", [], "(II)I")
def fX2_firstReplaceable_69 (t : Nat) (x1 : Int32) (x2 : Int32) (x3 : Int32)  (G : GS) : Option ((Int32) ⊕ (Int32)) :=
  some (.inl ((x3 + 1)))
theorem wfX2_firstReplaceable_69 {F : zF} (hd : 3 ≤ F.2.2.2) (t : Nat) (x1 : Int32) (x2 : Int32) (x3 : Int32)  (G : GS) {a : (Int32) ⊕ (Int32)} (h : fX2_firstReplaceable_69 t x1 x2 x3  G = some a) (hk : (zcase (fun s : Int32 => J mX2_firstReplaceable F G 2 [(0, vR (some t)), (1, vI x1), (2, vI x2), (3, vI s)] []) (zKPI F G)) a) : J mX2_firstReplaceable F G 69 [(0, vR (some t)), (1, vI x1), (2, vI x2), (3, vI x3)] [] := by
  unfold fX2_firstReplaceable_69 at h
  refine j_iinc (j := 3) (v := (x3 + 1)) (lv' := [(3, vI (x3 + 1)), (0, vR (some t)), (1, vI x1), (2, vI x2)]) dX2_firstReplaceable_69 rfl rfl (Nat.le_of_ble_eq_true rfl) rfl ?_
  refine j_goto (tgt := 2) dX2_firstReplaceable_72 (by decide) ?_
  obtain rfl := Option.some.inj h
  exact J.sub (zall [1, 2, 3, 0] rfl) hk
def fbX2_firstReplaceable_2 (t : Nat) (x1 : Int32) (x2 : Int32) (x3 : Int32)  (G : GS) : Option ((Int32) ⊕ (Int32)) :=
  (zgI G 2 t 6).bind fun v1 => if v1 ≤ x3 then (zo (some (-1))) else ((zgR G 2 t 0).bind fun r4 => r4.bind fun a6 => (zaI G 50 a6 x3).bind fun v8 => if v8 = x1 then ((zgR G 2 t 1).bind fun r11 => r11.bind fun a13 => (zaI G 50 a13 x3).bind fun v15 => if v15 ≤ 0 then (fX2_firstReplaceable_69 t x1 x2 x3 G) else (zk [2] G t <| (fX2_at_0 t x3 0 G).bind fun v20 => if x1 ≤ v20 then (fX2_firstReplaceable_69 t x1 x2 x3 G) else (zk [2] G t <| (fX2_at_0 t x3 0 G).bind fun v24 => (fX2_isNonterminal_0 v24 G).bind fun v26 => if v26 = 0 then (fX2_firstReplaceable_69 t x1 x2 x3 G) else (zk [2] G t <| (fX2_at_0 t x3 0 G).bind fun v30 => (fX2_has_0 x2 (v30 - 20) G).bind fun v32 => if v32 = 0 then (fX2_firstReplaceable_69 t x1 x2 x3 G) else (zo (some x3)))))) else (fX2_firstReplaceable_69 t x1 x2 x3 G))
def flX2_firstReplaceable_2 (t : Nat) (x1 : Int32) (x2 : Int32) (x3 : Int32) (G : GS) : Option (Int32) := zloop (fun s : Int32 => fbX2_firstReplaceable_2 t x1 x2 s G) (x3)
theorem wfbX2_firstReplaceable_2 {F : zF} (hd : 3 ≤ F.2.2.2) (t : Nat) (x1 : Int32) (x2 : Int32) (x3 : Int32) (G : GS) {a : (Int32) ⊕ (Int32)} (h : fbX2_firstReplaceable_2 t x1 x2 x3 G = some a) (hk : (zcase (fun s : Int32 => J mX2_firstReplaceable F G 2 [(0, vR (some t)), (1, vI x1), (2, vI x2), (3, vI s)] []) (zKPI F G)) a) : J mX2_firstReplaceable F G 2 [(0, vR (some t)), (1, vI x1), (2, vI x2), (3, vI x3)] [] := by
  unfold fbX2_firstReplaceable_2 at h
  refine j_iload_n (j := 3) dX2_firstReplaceable_2 rfl rfl ?_
  refine j_aload_n (j := 0) dX2_firstReplaceable_3 rfl rfl ?_
  replace h := zbE h
  obtain ⟨v1, e2, h⟩ := h
  refine j_getI fgX2_113 (fun _ _ _ => rfl) dX2_firstReplaceable_4 e2 ?_
  refine j_icmp_ge (tgt := 75) dX2_firstReplaceable_7 (by decide) (fun c3 => ?_) (fun c3 => ?_)
  · rw [if_pos c3] at h
    replace h := zoE h
    obtain ⟨a, h, rfl⟩ := h
    replace hk := hk
    refine j_iconst (v := (-1)) dX2_firstReplaceable_75 (by decide) ?_
    obtain rfl := Option.some.inj h
    exact j_iret hk.1 hk.2 rfl dX2_firstReplaceable_76
  · rw [if_neg c3] at h
    refine j_aload_n (j := 0) dX2_firstReplaceable_10 rfl rfl ?_
    replace h := zbE h
    obtain ⟨r4, e5, h⟩ := h
    refine j_getR fgX2_7 (fun _ _ _ => rfl) dX2_firstReplaceable_11 e5 ?_
    refine j_iload_n (j := 3) dX2_firstReplaceable_14 rfl rfl ?_
    replace h := zbE h
    obtain ⟨a6, e7, h⟩ := h
    subst e7
    replace h := zbE h
    obtain ⟨v8, e9, h⟩ := h
    refine j_iald (Or.inl rfl) e9 dX2_firstReplaceable_15 ?_
    refine j_iload_n (j := 1) dX2_firstReplaceable_16 rfl rfl ?_
    refine j_icmp_ne (tgt := 69) dX2_firstReplaceable_17 (by decide) (fun c10 => ?_) (fun c10 => ?_)
    · rw [if_pos c10] at h
      refine j_aload_n (j := 0) dX2_firstReplaceable_20 rfl rfl ?_
      replace h := zbE h
      obtain ⟨r11, e12, h⟩ := h
      refine j_getR fgX2_13 (fun _ _ _ => rfl) dX2_firstReplaceable_21 e12 ?_
      refine j_iload_n (j := 3) dX2_firstReplaceable_24 rfl rfl ?_
      replace h := zbE h
      obtain ⟨a13, e14, h⟩ := h
      subst e14
      replace h := zbE h
      obtain ⟨v15, e16, h⟩ := h
      refine j_iald (Or.inl rfl) e16 dX2_firstReplaceable_25 ?_
      refine j_if_le (tgt := 69) dX2_firstReplaceable_26 (by decide) (fun c17 => ?_) (fun c17 => ?_)
      · rw [if_pos c17] at h
        exact J.sub (zall [0, 1, 2, 3] rfl) (wfX2_firstReplaceable_69 hd t x1 x2 x3  G h hk)
      · rw [if_neg c17] at h
        refine j_aload_n (j := 0) dX2_firstReplaceable_29 rfl rfl ?_
        refine j_iload_n (j := 3) dX2_firstReplaceable_30 rfl rfl ?_
        refine j_iconst (v := 0) dX2_firstReplaceable_31 (by decide) ?_
        replace h := zkE h
        obtain ⟨e18, h⟩ := h
        replace h := zbE h
        obtain ⟨v20, e19, h⟩ := h
        refine j_cont (zrV (As := [vI x3, vI 0]) msX2_187 (yX2_at_ok e19) (Nat.le_trans (Nat.le_of_ble_eq_true rfl) hd) (zk_2 _ e18) rfl rfl (Nat.le_of_ble_eq_true rfl) dX2_firstReplaceable_32) ?_
        refine j_iload_n (j := 1) dX2_firstReplaceable_35 rfl rfl ?_
        refine j_icmp_ge (tgt := 69) dX2_firstReplaceable_36 (by decide) (fun c21 => ?_) (fun c21 => ?_)
        · rw [if_pos c21] at h
          exact J.sub (zall [0, 1, 2, 3] rfl) (wfX2_firstReplaceable_69 hd t x1 x2 x3  G h hk)
        · rw [if_neg c21] at h
          refine j_aload_n (j := 0) dX2_firstReplaceable_39 rfl rfl ?_
          refine j_iload_n (j := 3) dX2_firstReplaceable_40 rfl rfl ?_
          refine j_iconst (v := 0) dX2_firstReplaceable_41 (by decide) ?_
          replace h := zkE h
          obtain ⟨e22, h⟩ := h
          replace h := zbE h
          obtain ⟨v24, e23, h⟩ := h
          refine j_cont (zrV (As := [vI x3, vI 0]) msX2_187 (yX2_at_ok e23) (Nat.le_trans (Nat.le_of_ble_eq_true rfl) hd) (zk_2 _ e22) rfl rfl (Nat.le_of_ble_eq_true rfl) dX2_firstReplaceable_42) ?_
          replace h := zbE h
          obtain ⟨v26, e25, h⟩ := h
          refine j_cont (zrS (As := [vI v24]) msX2_149 (yX2_isNonterminal_ok e25) (Nat.le_trans (Nat.le_of_ble_eq_true rfl) hd) rfl rfl (Nat.le_of_ble_eq_true rfl) dX2_firstReplaceable_45) ?_
          refine j_if_eq (tgt := 69) dX2_firstReplaceable_48 (by decide) (fun c27 => ?_) (fun c27 => ?_)
          · rw [if_pos c27] at h
            exact J.sub (zall [0, 1, 2, 3] rfl) (wfX2_firstReplaceable_69 hd t x1 x2 x3  G h hk)
          · rw [if_neg c27] at h
            refine j_iload_n (j := 2) dX2_firstReplaceable_51 rfl rfl ?_
            refine j_aload_n (j := 0) dX2_firstReplaceable_52 rfl rfl ?_
            refine j_iload_n (j := 3) dX2_firstReplaceable_53 rfl rfl ?_
            refine j_iconst (v := 0) dX2_firstReplaceable_54 (by decide) ?_
            replace h := zkE h
            obtain ⟨e28, h⟩ := h
            replace h := zbE h
            obtain ⟨v30, e29, h⟩ := h
            refine j_cont (zrV (As := [vI x3, vI 0]) msX2_187 (yX2_at_ok e29) (Nat.le_trans (Nat.le_of_ble_eq_true rfl) hd) (zk_2 _ e28) rfl rfl (Nat.le_of_ble_eq_true rfl) dX2_firstReplaceable_55) ?_
            refine j_bipush (v := 20) dX2_firstReplaceable_58 (by decide) ?_
            refine j_isub dX2_firstReplaceable_60 ?_
            replace h := zbE h
            obtain ⟨v32, e31, h⟩ := h
            refine j_cont (zrS (As := [vI x2, vI (v30 - 20)]) msX2_198 (yX2_has_ok e31) (Nat.le_trans (Nat.le_of_ble_eq_true rfl) hd) rfl rfl (Nat.le_of_ble_eq_true rfl) dX2_firstReplaceable_61) ?_
            refine j_if_eq (tgt := 69) dX2_firstReplaceable_64 (by decide) (fun c33 => ?_) (fun c33 => ?_)
            · rw [if_pos c33] at h
              exact J.sub (zall [0, 1, 2, 3] rfl) (wfX2_firstReplaceable_69 hd t x1 x2 x3  G h hk)
            · rw [if_neg c33] at h
              replace h := zoE h
              obtain ⟨a, h, rfl⟩ := h
              replace hk := hk
              refine j_iload_n (j := 3) dX2_firstReplaceable_67 rfl rfl ?_
              obtain rfl := Option.some.inj h
              exact j_iret hk.1 hk.2 rfl dX2_firstReplaceable_68
    · rw [if_neg c10] at h
      exact J.sub (zall [0, 1, 2, 3] rfl) (wfX2_firstReplaceable_69 hd t x1 x2 x3  G h hk)
theorem wflX2_firstReplaceable_2 {F : zF} (hd : 3 ≤ F.2.2.2) (t : Nat) (x1 : Int32) (x2 : Int32) (x3 : Int32) (G : GS) {a : Int32} (h : flX2_firstReplaceable_2 t x1 x2 x3 G = some a) (hk : zKPI F G a) : J mX2_firstReplaceable F G 2 [(0, vR (some t)), (1, vI x1), (2, vI x2), (3, vI x3)] [] := by
  unfold flX2_firstReplaceable_2 at h
  exact zloop_walk (P := (fun s : Int32 => J mX2_firstReplaceable F G 2 [(0, vR (some t)), (1, vI x1), (2, vI x2), (3, vI s)] [])) (fun s b e hk => wfbX2_firstReplaceable_2 hd t x1 x2 s G e hk) (x3) _ h hk
def fX2_firstReplaceable_0 (t : Nat) (x1 : Int32) (x2 : Int32)  (G : GS) : Option (Int32) :=
  flX2_firstReplaceable_2 t x1 x2 0 G
theorem wfX2_firstReplaceable_0 {F : zF} (hd : 3 ≤ F.2.2.2) (t : Nat) (x1 : Int32) (x2 : Int32)  (G : GS) {a : Int32} (h : fX2_firstReplaceable_0 t x1 x2  G = some a) (hk : zKPI F G a) : J mX2_firstReplaceable F G 0 [(0, vR (some t)), (1, vI x1), (2, vI x2)] [] := by
  unfold fX2_firstReplaceable_0 at h
  refine j_iconst (v := 0) dX2_firstReplaceable_0 (by decide) ?_
  refine j_istore_n (lv' := [(3, vI 0), (0, vR (some t)), (1, vI x1), (2, vI x2)]) dX2_firstReplaceable_1 rfl (Nat.le_of_ble_eq_true rfl) rfl ?_
  exact J.sub (zall [1, 2, 3, 0] rfl) (wflX2_firstReplaceable_2 hd t x1 x2 0  G h hk)
theorem yX2_firstReplaceable_ok {t : Nat} {x1 : Int32} {x2 : Int32} {G : GS} {r : Int32} (h : fX2_firstReplaceable_0 t x1 x2 G = some r) : zRuns yX2_firstReplaceable (ws_ yX2_firstReplaceable cX2_firstReplaceable 4 (some Jvm.ClassFile.FieldType.int)) [vR (some t), vI x1, vI x2] (.inl (some (vI r)), G, G, 3) :=
  zentry (M := mX2_firstReplaceable) (plainFor_of_name (by decide +kernel)) ⟨rfl, rfl, rfl, rfl⟩ (Nat.le_of_ble_eq_true rfl) (wfX2_firstReplaceable_0 (Nat.le_refl _) t x1 x2 G h ⟨rfl, rfl⟩)
abbrev mX2_firstRounds : zM := (cX2_firstRounds, RX2, 1, (some Jvm.ClassFile.FieldType.int), "firstRounds", [], "()I")
def fX2_firstRounds_0 (t : Nat)  (G : GS) : Option ((Int32) × GS) :=
  zk [2] G t <| (fX2_knows_0 t G).bind fun G3 => (zgI G3 2 t 12).bind fun v4 => zk [2] G3 t <| zb2 (fX2_tellsOf_0 t v4 G3) fun v8 G9 => some (v8, G9)
theorem wfX2_firstRounds_0 {F : zF} (hd : 8 ≤ F.2.2.2) (t : Nat)  (G : GS) {a : (Int32) × GS} (h : fX2_firstRounds_0 t  G = some a) (hk : zKI F a) : J mX2_firstRounds F G 0 [(0, vR (some t))] [] := by
  unfold fX2_firstRounds_0 at h
  refine j_aload_n (j := 0) dX2_firstRounds_0 rfl rfl ?_
  replace h := zkE h
  obtain ⟨e1, h⟩ := h
  replace h := zbE h
  obtain ⟨G3, e2, h⟩ := h
  refine j_cont (zrV (As := []) msX2_227 (yX2_knows_ok e2) (Nat.le_trans (Nat.le_of_ble_eq_true rfl) hd) (zk_2 _ e1) rfl rfl (Nat.le_of_ble_eq_true rfl) dX2_firstRounds_1) ?_
  refine j_aload_n (j := 0) dX2_firstRounds_4 rfl rfl ?_
  refine j_aload_n (j := 0) dX2_firstRounds_5 rfl rfl ?_
  replace h := zbE h
  obtain ⟨v4, e5, h⟩ := h
  refine j_getI fgX2_218 (fun _ _ _ => rfl) dX2_firstRounds_6 e5 ?_
  replace h := zkE h
  obtain ⟨e6, h⟩ := h
  replace h := zb2E h
  obtain ⟨v8, G9, e7, h⟩ := h
  refine j_cont (zrV (As := [vI v4]) msX2_184 (yX2_tellsOf_ok e7) (Nat.le_trans (Nat.le_of_ble_eq_true rfl) hd) (zk_2 _ e6) rfl rfl (Nat.le_of_ble_eq_true rfl) dX2_firstRounds_9) ?_
  obtain rfl := Option.some.inj h
  exact j_iret hk.1 hk.2 rfl dX2_firstRounds_12
theorem yX2_firstRounds_ok {t : Nat} {G : GS} {r : Int32} {G1 : GS} (h : fX2_firstRounds_0 t G = some (r, G1)) : zRuns yX2_firstRounds (ws_ yX2_firstRounds cX2_firstRounds 1 (some Jvm.ClassFile.FieldType.int)) [vR (some t)] (.inl (some (vI r)), G, G1, 8) :=
  zentry (M := mX2_firstRounds) (plainFor_of_name (by decide +kernel)) ⟨rfl, rfl, rfl, rfl⟩ (Nat.le_of_ble_eq_true rfl) (wfX2_firstRounds_0 (Nat.le_refl _) t G h ⟨rfl, rfl⟩)
abbrev mX2_followOf : zM := (cX2_followOf, RX2, 2, (some Jvm.ClassFile.FieldType.int), "followOf", [], "(I)I")
def fX2_followOf_0 (t : Nat) (x1 : Int32)  (G : GS) : Option ((Int32) × GS) :=
  (fX2_isNonterminal_0 x1 G).bind fun v2 => zk [2] G t <| zb2 (fX2_goes_0 t v2 G) fun v5 G6 => if v5 = 0 then (some (0, G6)) else (zk [2] G6 t <| (fX2_knows_0 t G6).bind fun G10 => (zgR G10 2 t 10).bind fun r11 => r11.bind fun a13 => (zaI G10 50 a13 (x1 - 20)).bind fun v15 => some (v15, G10))
theorem wfX2_followOf_0 {F : zF} (hd : 8 ≤ F.2.2.2) (t : Nat) (x1 : Int32)  (G : GS) {a : (Int32) × GS} (h : fX2_followOf_0 t x1  G = some a) (hk : zKI F a) : J mX2_followOf F G 0 [(0, vR (some t)), (1, vI x1)] [] := by
  unfold fX2_followOf_0 at h
  refine j_aload_n (j := 0) dX2_followOf_0 rfl rfl ?_
  refine j_iload_n (j := 1) dX2_followOf_1 rfl rfl ?_
  replace h := zbE h
  obtain ⟨v2, e1, h⟩ := h
  refine j_cont (zrS (As := [vI x1]) msX2_149 (yX2_isNonterminal_ok e1) (Nat.le_trans (Nat.le_of_ble_eq_true rfl) hd) rfl rfl (Nat.le_of_ble_eq_true rfl) dX2_followOf_2) ?_
  replace h := zkE h
  obtain ⟨e3, h⟩ := h
  replace h := zb2E h
  obtain ⟨v5, G6, e4, h⟩ := h
  refine j_cont (zrV (As := [vI v2]) msX2_177 (yX2_goes_ok e4) (Nat.le_trans (Nat.le_of_ble_eq_true rfl) hd) (zk_2 _ e3) rfl rfl (Nat.le_of_ble_eq_true rfl) dX2_followOf_5) ?_
  refine j_if_ne (tgt := 13) dX2_followOf_8 (by decide) (fun c7 => ?_) (fun c7 => ?_)
  · rw [if_pos c7] at h
    refine j_iconst (v := 0) dX2_followOf_11 (by decide) ?_
    obtain rfl := Option.some.inj h
    exact j_iret hk.1 hk.2 rfl dX2_followOf_12
  · rw [if_neg c7] at h
    refine j_aload_n (j := 0) dX2_followOf_13 rfl rfl ?_
    replace h := zkE h
    obtain ⟨e8, h⟩ := h
    replace h := zbE h
    obtain ⟨G10, e9, h⟩ := h
    refine j_cont (zrV (As := []) msX2_227 (yX2_knows_ok e9) (Nat.le_trans (Nat.le_of_ble_eq_true rfl) hd) (zk_2 _ e8) rfl rfl (Nat.le_of_ble_eq_true rfl) dX2_followOf_14) ?_
    refine j_aload_n (j := 0) dX2_followOf_17 rfl rfl ?_
    replace h := zbE h
    obtain ⟨r11, e12, h⟩ := h
    refine j_getR fgX2_31 (fun _ _ _ => rfl) dX2_followOf_18 e12 ?_
    refine j_iload_n (j := 1) dX2_followOf_21 rfl rfl ?_
    refine j_bipush (v := 20) dX2_followOf_22 (by decide) ?_
    refine j_isub dX2_followOf_24 ?_
    replace h := zbE h
    obtain ⟨a13, e14, h⟩ := h
    subst e14
    replace h := zbE h
    obtain ⟨v15, e16, h⟩ := h
    refine j_iald (Or.inl rfl) e16 dX2_followOf_25 ?_
    obtain rfl := Option.some.inj h
    exact j_iret hk.1 hk.2 rfl dX2_followOf_26
theorem yX2_followOf_ok {t : Nat} {x1 : Int32} {G : GS} {r : Int32} {G1 : GS} (h : fX2_followOf_0 t x1 G = some (r, G1)) : zRuns yX2_followOf (ws_ yX2_followOf cX2_followOf 2 (some Jvm.ClassFile.FieldType.int)) [vR (some t), vI x1] (.inl (some (vI r)), G, G1, 8) :=
  zentry (M := mX2_followOf) (plainFor_of_name (by decide +kernel)) ⟨rfl, rfl, rfl, rfl⟩ (Nat.le_of_ble_eq_true rfl) (wfX2_followOf_0 (Nat.le_refl _) t x1 G h ⟨rfl, rfl⟩)
abbrev mX2_isToken : zM := (cX2_isToken, RX2, 1, (some Jvm.ClassFile.FieldType.boolean), "isToken", [], "(I)Z")
def fX2_isToken_0 (x0 : Int32)  (G : GS) : Option (Int32) :=
  (fX2_isIn_0 x0.toInt64 0 12 G).bind fun v2 => zcond (zbb v2) (some v2)
theorem wfX2_isToken_0 {F : zF} (hd : 2 ≤ F.2.2.2) (x0 : Int32)  (G : GS) {a : Int32} (h : fX2_isToken_0 x0  G = some a) (hk : zKPI F G a) : J mX2_isToken F G 0 [(0, vI x0)] [] := by
  unfold fX2_isToken_0 at h
  refine j_iload_n (j := 0) dX2_isToken_0 rfl rfl ?_
  refine j_i2l dX2_isToken_1 ?_
  refine j_lconst (v := 0) dX2_isToken_2 rfl ?_
  refine j_ldc2 (v := 12) q2978 dX2_isToken_3 ?_
  replace h := zbE h
  obtain ⟨v2, e1, h⟩ := h
  refine j_cont (zrS (As := [vL x0.toInt64, vL 0, vL 12]) msX2_103 (yX2_isIn_ok e1) (Nat.le_trans (Nat.le_of_ble_eq_true rfl) hd) rfl rfl (Nat.le_of_ble_eq_true rfl) dX2_isToken_6) ?_
  replace h := zcondE h
  obtain ⟨e3, h⟩ := h
  obtain rfl := Option.some.inj h
  exact j_zret hk.1 hk.2 rfl (zbb_n e3) dX2_isToken_9
theorem yX2_isToken_ok {x0 : Int32} {G : GS} {r : Int32} (h : fX2_isToken_0 x0 G = some r) : zRuns yX2_isToken (ws_ yX2_isToken cX2_isToken 1 (some Jvm.ClassFile.FieldType.boolean)) [vI x0] (.inl (some (vI r)), G, G, 2) :=
  zentry (M := mX2_isToken) (plainFor_of_name (by decide +kernel)) ⟨rfl, rfl, rfl, rfl⟩ (Nat.le_of_ble_eq_true rfl) (wfX2_isToken_0 (Nat.le_refl _) x0 G h ⟨rfl, rfl⟩)
abbrev mX2_predictedByTwo : zM := (cX2_predictedByTwo, RX2, 6, (some Jvm.ClassFile.FieldType.int), "predictedByTwo", [], "(III)I")
def fX2_predictedByTwo_61 (t : Nat) (x1 : Int32) (x2 : Int32) (x3 : Int32) (x4 : Int32) (x5 : Int32)  (G : GS) : Option ((Int32 × Int32) ⊕ (Int32)) :=
  some (.inl (x4, (x5 + 1)))
theorem wfX2_predictedByTwo_61 {F : zF} (hd : 2 ≤ F.2.2.2) (t : Nat) (x1 : Int32) (x2 : Int32) (x3 : Int32) (x4 : Int32) (x5 : Int32)  (G : GS) {a : (Int32 × Int32) ⊕ (Int32)} (h : fX2_predictedByTwo_61 t x1 x2 x3 x4 x5  G = some a) (hk : (zcase (fun s : Int32 × Int32 => J mX2_predictedByTwo F G 6 [(0, vR (some t)), (1, vI x1), (2, vI x2), (3, vI x3), (4, vI s.1), (5, vI s.2)] []) (zKPI F G)) a) : J mX2_predictedByTwo F G 61 [(0, vR (some t)), (1, vI x1), (2, vI x2), (3, vI x3), (4, vI x4), (5, vI x5)] [] := by
  unfold fX2_predictedByTwo_61 at h
  refine j_iinc (j := 5) (v := (x5 + 1)) (lv' := [(5, vI (x5 + 1)), (0, vR (some t)), (1, vI x1), (2, vI x2), (3, vI x3), (4, vI x4)]) dX2_predictedByTwo_61 rfl rfl (Nat.le_of_ble_eq_true rfl) rfl ?_
  refine j_goto (tgt := 6) dX2_predictedByTwo_64 (by decide) ?_
  obtain rfl := Option.some.inj h
  exact J.sub (zall [1, 2, 3, 4, 5, 0] rfl) hk
def fX2_predictedByTwo_59 (t : Nat) (x1 : Int32) (x2 : Int32) (x3 : Int32) (x5 : Int32) (s0 : Int32) (G : GS) : Option ((Int32 × Int32) ⊕ (Int32)) :=
  fX2_predictedByTwo_61 t x1 x2 x3 s0 x5 G
theorem wfX2_predictedByTwo_59 {F : zF} (hd : 2 ≤ F.2.2.2) (t : Nat) (x1 : Int32) (x2 : Int32) (x3 : Int32) (x5 : Int32) (s0 : Int32) (G : GS) {a : (Int32 × Int32) ⊕ (Int32)} (h : fX2_predictedByTwo_59 t x1 x2 x3 x5 s0 G = some a) (hk : (zcase (fun s : Int32 × Int32 => J mX2_predictedByTwo F G 6 [(0, vR (some t)), (1, vI x1), (2, vI x2), (3, vI x3), (4, vI s.1), (5, vI s.2)] []) (zKPI F G)) a) : J mX2_predictedByTwo F G 59 [(0, vR (some t)), (1, vI x1), (2, vI x2), (3, vI x3), (5, vI x5)] [vI s0] := by
  unfold fX2_predictedByTwo_59 at h
  refine j_istore (lv' := [(4, vI s0), (0, vR (some t)), (1, vI x1), (2, vI x2), (3, vI x3), (5, vI x5)]) dX2_predictedByTwo_59 (Nat.le_of_ble_eq_true rfl) rfl ?_
  exact J.sub (zall [1, 2, 3, 4, 0, 5] rfl) (wfX2_predictedByTwo_61 hd t x1 x2 x3 s0 x5  G h hk)
def fbX2_predictedByTwo_6 (t : Nat) (x1 : Int32) (x2 : Int32) (x3 : Int32) (x4 : Int32) (x5 : Int32)  (G : GS) : Option ((Int32 × Int32) ⊕ (Int32)) :=
  (zgI G 2 t 6).bind fun v1 => if v1 ≤ x5 then (zo (some x4)) else ((zgR G 2 t 0).bind fun r4 => r4.bind fun a6 => (zaI G 50 a6 x5).bind fun v8 => if v8 = x1 then ((zgR G 2 t 20).bind fun r11 => (fX2_pair_0 x2 x3 G).bind fun v14 => r11.bind fun a15 => (zaI G 52 a15 ((183 * x5) + v14)).bind fun v17 => if v17 = 0 then (fX2_predictedByTwo_61 t x1 x2 x3 x4 x5 G) else (if x4 = (-1) then (fX2_predictedByTwo_59 t x1 x2 x3 x5 x5 G) else (fX2_predictedByTwo_59 t x1 x2 x3 x5 (-2) G))) else (fX2_predictedByTwo_61 t x1 x2 x3 x4 x5 G))
def flX2_predictedByTwo_6 (t : Nat) (x1 : Int32) (x2 : Int32) (x3 : Int32) (x4 : Int32) (x5 : Int32) (G : GS) : Option (Int32) := zloop (fun s : Int32 × Int32 => fbX2_predictedByTwo_6 t x1 x2 x3 s.1 s.2 G) (x4, x5)
theorem wfbX2_predictedByTwo_6 {F : zF} (hd : 2 ≤ F.2.2.2) (t : Nat) (x1 : Int32) (x2 : Int32) (x3 : Int32) (x4 : Int32) (x5 : Int32) (G : GS) {a : (Int32 × Int32) ⊕ (Int32)} (h : fbX2_predictedByTwo_6 t x1 x2 x3 x4 x5 G = some a) (hk : (zcase (fun s : Int32 × Int32 => J mX2_predictedByTwo F G 6 [(0, vR (some t)), (1, vI x1), (2, vI x2), (3, vI x3), (4, vI s.1), (5, vI s.2)] []) (zKPI F G)) a) : J mX2_predictedByTwo F G 6 [(0, vR (some t)), (1, vI x1), (2, vI x2), (3, vI x3), (4, vI x4), (5, vI x5)] [] := by
  unfold fbX2_predictedByTwo_6 at h
  refine j_iload (j := 5) dX2_predictedByTwo_6 rfl ?_
  refine j_aload_n (j := 0) dX2_predictedByTwo_8 rfl rfl ?_
  replace h := zbE h
  obtain ⟨v1, e2, h⟩ := h
  refine j_getI fgX2_113 (fun _ _ _ => rfl) dX2_predictedByTwo_9 e2 ?_
  refine j_icmp_ge (tgt := 67) dX2_predictedByTwo_12 (by decide) (fun c3 => ?_) (fun c3 => ?_)
  · rw [if_pos c3] at h
    replace h := zoE h
    obtain ⟨a, h, rfl⟩ := h
    replace hk := hk
    refine j_iload (j := 4) dX2_predictedByTwo_67 rfl ?_
    obtain rfl := Option.some.inj h
    exact j_iret hk.1 hk.2 rfl dX2_predictedByTwo_69
  · rw [if_neg c3] at h
    refine j_aload_n (j := 0) dX2_predictedByTwo_15 rfl rfl ?_
    replace h := zbE h
    obtain ⟨r4, e5, h⟩ := h
    refine j_getR fgX2_7 (fun _ _ _ => rfl) dX2_predictedByTwo_16 e5 ?_
    refine j_iload (j := 5) dX2_predictedByTwo_19 rfl ?_
    replace h := zbE h
    obtain ⟨a6, e7, h⟩ := h
    subst e7
    replace h := zbE h
    obtain ⟨v8, e9, h⟩ := h
    refine j_iald (Or.inl rfl) e9 dX2_predictedByTwo_21 ?_
    refine j_iload_n (j := 1) dX2_predictedByTwo_22 rfl rfl ?_
    refine j_icmp_ne (tgt := 61) dX2_predictedByTwo_23 (by decide) (fun c10 => ?_) (fun c10 => ?_)
    · rw [if_pos c10] at h
      refine j_aload_n (j := 0) dX2_predictedByTwo_26 rfl rfl ?_
      replace h := zbE h
      obtain ⟨r11, e12, h⟩ := h
      refine j_getR fgX2_50 (fun _ _ _ => rfl) dX2_predictedByTwo_27 e12 ?_
      refine j_sipush (v := 183) dX2_predictedByTwo_30 (by decide) ?_
      refine j_iload (j := 5) dX2_predictedByTwo_33 rfl ?_
      refine j_imul dX2_predictedByTwo_35 ?_
      refine j_iload_n (j := 2) dX2_predictedByTwo_36 rfl rfl ?_
      refine j_iload_n (j := 3) dX2_predictedByTwo_37 rfl rfl ?_
      replace h := zbE h
      obtain ⟨v14, e13, h⟩ := h
      refine j_cont (zrS (As := [vI x2, vI x3]) msX2_246 (yX2_pair_ok e13) (Nat.le_trans (Nat.le_of_ble_eq_true rfl) hd) rfl rfl (Nat.le_of_ble_eq_true rfl) dX2_predictedByTwo_38) ?_
      refine j_iadd dX2_predictedByTwo_41 ?_
      replace h := zbE h
      obtain ⟨a15, e16, h⟩ := h
      subst e16
      replace h := zbE h
      obtain ⟨v17, e18, h⟩ := h
      refine j_zald rfl e18 dX2_predictedByTwo_42 ?_
      refine j_if_eq (tgt := 61) dX2_predictedByTwo_43 (by decide) (fun c19 => ?_) (fun c19 => ?_)
      · rw [if_pos c19] at h
        exact J.sub (zall [0, 1, 2, 3, 4, 5] rfl) (wfX2_predictedByTwo_61 hd t x1 x2 x3 x4 x5  G h hk)
      · rw [if_neg c19] at h
        refine j_iload (j := 4) dX2_predictedByTwo_46 rfl ?_
        refine j_iconst (v := (-1)) dX2_predictedByTwo_48 (by decide) ?_
        refine j_icmp_ne (tgt := 57) dX2_predictedByTwo_49 (by decide) (fun c20 => ?_) (fun c20 => ?_)
        · rw [if_pos c20] at h
          refine j_iload (j := 5) dX2_predictedByTwo_52 rfl ?_
          refine j_goto (tgt := 59) dX2_predictedByTwo_54 (by decide) ?_
          exact J.sub (zall [0, 1, 2, 3, 5] rfl) (wfX2_predictedByTwo_59 hd t x1 x2 x3 x5 x5 G h hk)
        · rw [if_neg c20] at h
          refine j_bipush (v := (-2)) dX2_predictedByTwo_57 (by decide) ?_
          exact J.sub (zall [0, 1, 2, 3, 5] rfl) (wfX2_predictedByTwo_59 hd t x1 x2 x3 x5 (-2) G h hk)
    · rw [if_neg c10] at h
      exact J.sub (zall [0, 1, 2, 3, 4, 5] rfl) (wfX2_predictedByTwo_61 hd t x1 x2 x3 x4 x5  G h hk)
theorem wflX2_predictedByTwo_6 {F : zF} (hd : 2 ≤ F.2.2.2) (t : Nat) (x1 : Int32) (x2 : Int32) (x3 : Int32) (x4 : Int32) (x5 : Int32) (G : GS) {a : Int32} (h : flX2_predictedByTwo_6 t x1 x2 x3 x4 x5 G = some a) (hk : zKPI F G a) : J mX2_predictedByTwo F G 6 [(0, vR (some t)), (1, vI x1), (2, vI x2), (3, vI x3), (4, vI x4), (5, vI x5)] [] := by
  unfold flX2_predictedByTwo_6 at h
  exact zloop_walk (P := (fun s : Int32 × Int32 => J mX2_predictedByTwo F G 6 [(0, vR (some t)), (1, vI x1), (2, vI x2), (3, vI x3), (4, vI s.1), (5, vI s.2)] [])) (fun s b e hk => wfbX2_predictedByTwo_6 hd t x1 x2 x3 s.1 s.2 G e hk) (x4, x5) _ h hk
def fX2_predictedByTwo_0 (t : Nat) (x1 : Int32) (x2 : Int32) (x3 : Int32)  (G : GS) : Option (Int32) :=
  flX2_predictedByTwo_6 t x1 x2 x3 (-1) 0 G
theorem wfX2_predictedByTwo_0 {F : zF} (hd : 2 ≤ F.2.2.2) (t : Nat) (x1 : Int32) (x2 : Int32) (x3 : Int32)  (G : GS) {a : Int32} (h : fX2_predictedByTwo_0 t x1 x2 x3  G = some a) (hk : zKPI F G a) : J mX2_predictedByTwo F G 0 [(0, vR (some t)), (1, vI x1), (2, vI x2), (3, vI x3)] [] := by
  unfold fX2_predictedByTwo_0 at h
  refine j_iconst (v := (-1)) dX2_predictedByTwo_0 (by decide) ?_
  refine j_istore (lv' := [(4, vI (-1)), (0, vR (some t)), (1, vI x1), (2, vI x2), (3, vI x3)]) dX2_predictedByTwo_1 (Nat.le_of_ble_eq_true rfl) rfl ?_
  refine j_iconst (v := 0) dX2_predictedByTwo_3 (by decide) ?_
  refine j_istore (lv' := [(5, vI 0), (4, vI (-1)), (0, vR (some t)), (1, vI x1), (2, vI x2), (3, vI x3)]) dX2_predictedByTwo_4 (Nat.le_of_ble_eq_true rfl) rfl ?_
  exact J.sub (zall [2, 3, 4, 5, 1, 0] rfl) (wflX2_predictedByTwo_6 hd t x1 x2 x3 (-1) 0  G h hk)
theorem yX2_predictedByTwo_ok {t : Nat} {x1 : Int32} {x2 : Int32} {x3 : Int32} {G : GS} {r : Int32} (h : fX2_predictedByTwo_0 t x1 x2 x3 G = some r) : zRuns yX2_predictedByTwo (ws_ yX2_predictedByTwo cX2_predictedByTwo 6 (some Jvm.ClassFile.FieldType.int)) [vR (some t), vI x1, vI x2, vI x3] (.inl (some (vI r)), G, G, 2) :=
  zentry (M := mX2_predictedByTwo) (plainFor_of_name (by decide +kernel)) ⟨rfl, rfl, rfl, rfl⟩ (Nat.le_of_ble_eq_true rfl) (wfX2_predictedByTwo_0 (Nat.le_refl _) t x1 x2 x3 G h ⟨rfl, rfl⟩)
theorem msX2_278 : zSV RX2 278 RX2 yX2_predictedByTwo cX2_predictedByTwo 6 (some Jvm.ClassFile.FieldType.int) 3 := ⟨lw_V q3041 q3043 qs91 q131 q3044, (by decide +kernel), (by decide)⟩
theorem msX2_347 : zSV RX2 347 RX2 yX2_errs cX2_errs 4 none 3 := ⟨lw_V q3158 q3160 qs113 q131 q3161, (by decide +kernel), (by decide)⟩
theorem msX2_351 : zSV RX2 351 RX2 yX2_applies cX2_applies 3 none 1 := ⟨lw_V q3162 q3164 qs114 q131 q3165, (by decide +kernel), (by decide)⟩
abbrev mX2_worksOnce : zM := (cX2_worksOnce, RX2, 7, (some Jvm.ClassFile.FieldType.boolean), "worksOnce", [], "(III)Z")
def fX2_worksOnce_191 (x6 : Int32)  (G : GS) : Option ((Int32) × GS) :=
  if x6 = 0 then (zcond (zbb 1) (some (1, G))) else (zcond (zbb 0) (some (0, G)))
theorem wfX2_worksOnce_191 {F : zF} (hd : 7 ≤ F.2.2.2) (x6 : Int32)  (G : GS) {a : (Int32) × GS} (h : fX2_worksOnce_191 x6  G = some a) (hk : zKI F a) : J mX2_worksOnce F G 191 [(6, vI x6)] [] := by
  unfold fX2_worksOnce_191 at h
  refine j_iload (j := 0) dX2_worksOnce_191 rfl ?_
  refine j_if_ne (tgt := 200) dX2_worksOnce_193 (by decide) (fun c1 => ?_) (fun c1 => ?_)
  · rw [if_pos c1] at h
    refine j_iconst (v := 1) dX2_worksOnce_196 (by decide) ?_
    refine j_goto (tgt := 201) dX2_worksOnce_197 (by decide) ?_
    replace h := zcondE h
    obtain ⟨e2, h⟩ := h
    obtain rfl := Option.some.inj h
    exact j_zret hk.1 hk.2 rfl (zbb_n e2) dX2_worksOnce_201
  · rw [if_neg c1] at h
    refine j_iconst (v := 0) dX2_worksOnce_200 (by decide) ?_
    replace h := zcondE h
    obtain ⟨e3, h⟩ := h
    obtain rfl := Option.some.inj h
    exact j_zret hk.1 hk.2 rfl (zbb_n e3) dX2_worksOnce_201
def fX2_worksOnce_165 (t : Nat) (x3 : Int32) (x4 : Int32) (s0 : Int32) (G : GS) : Option ((Int32) × GS) :=
  zk [2] G t <| (fX2_errs_0 t x3 x4 s0 G).bind fun G3 => if s0 = 0 then ((zgI G3 2 t 33).bind fun v5 => (zpI G3 2 t 33 (v5 - 1)).bind fun G7 => fX2_worksOnce_191 s0 G7) else (fX2_worksOnce_191 s0 G3)
theorem wfX2_worksOnce_165 {F : zF} (hd : 7 ≤ F.2.2.2) (t : Nat) (x3 : Int32) (x4 : Int32) (s0 : Int32) (G : GS) {a : (Int32) × GS} (h : fX2_worksOnce_165 t x3 x4 s0 G = some a) (hk : zKI F a) : J mX2_worksOnce F G 165 [(0, vR (some t)), (3, vI x3), (4, vI x4)] [vI s0] := by
  unfold fX2_worksOnce_165 at h
  refine j_istore (lv' := [(6, vI s0), (0, vR (some t)), (3, vI x3), (4, vI x4)]) dX2_worksOnce_165 (Nat.le_of_ble_eq_true rfl) rfl ?_
  refine j_aload_n (j := 1) dX2_worksOnce_167 rfl rfl ?_
  refine j_iload_n (j := 2) dX2_worksOnce_168 rfl rfl ?_
  refine j_iload (j := 3) dX2_worksOnce_169 rfl ?_
  refine j_iload (j := 0) dX2_worksOnce_171 rfl ?_
  replace h := zkE h
  obtain ⟨e1, h⟩ := h
  replace h := zbE h
  obtain ⟨G3, e2, h⟩ := h
  refine j_cont (zrV (As := [vI x3, vI x4, vI s0]) msX2_347 (yX2_errs_ok e2) (Nat.le_trans (Nat.le_of_ble_eq_true rfl) hd) (zk_2 _ e1) rfl rfl (Nat.le_of_ble_eq_true rfl) dX2_worksOnce_173) ?_
  refine j_iload (j := 0) dX2_worksOnce_176 rfl ?_
  refine j_if_ne (tgt := 191) dX2_worksOnce_178 (by decide) (fun c4 => ?_) (fun c4 => ?_)
  · rw [if_pos c4] at h
    refine j_aload_n (j := 1) dX2_worksOnce_181 rfl rfl ?_
    refine j_dup dX2_worksOnce_182 rfl ?_
    replace h := zbE h
    obtain ⟨v5, e6, h⟩ := h
    refine j_getI fgX2_140 (fun _ _ _ => rfl) dX2_worksOnce_183 e6 ?_
    refine j_iconst (v := 1) dX2_worksOnce_186 (by decide) ?_
    refine j_isub dX2_worksOnce_187 ?_
    replace h := zbE h
    obtain ⟨G7, e8, h⟩ := h
    refine j_putI fpX2_140_X2 (Or.inl rfl) rfl dX2_worksOnce_188 e8 ?_
    exact J.sub (zall [0] rfl) (wfX2_worksOnce_191 hd s0  G7 h hk)
  · rw [if_neg c4] at h
    exact J.sub (zall [0] rfl) (wfX2_worksOnce_191 hd s0  G3 h hk)
def fX2_worksOnce_164 (t : Nat) (x3 : Int32) (x4 : Int32)  (G : GS) : Option ((Int32) × GS) :=
  fX2_worksOnce_165 t x3 x4 0 G
theorem wfX2_worksOnce_164 {F : zF} (hd : 7 ≤ F.2.2.2) (t : Nat) (x3 : Int32) (x4 : Int32)  (G : GS) {a : (Int32) × GS} (h : fX2_worksOnce_164 t x3 x4  G = some a) (hk : zKI F a) : J mX2_worksOnce F G 164 [(0, vR (some t)), (3, vI x3), (4, vI x4)] [] := by
  unfold fX2_worksOnce_164 at h
  refine j_iconst (v := 0) dX2_worksOnce_164 (by decide) ?_
  exact J.sub (zall [0, 1, 2] rfl) (wfX2_worksOnce_165 hd t x3 x4 0 G h hk)
def fX2_worksOnce_105 (t : Nat) (x1 : Int32) (x3 : Int32) (x4 : Int32) (s0 : Int32) (G : GS) : Option ((Int32) × GS) :=
  if s0 < 0 then (if x1 = 12 then (fX2_worksOnce_164 t x3 x4 G) else ((zgR G 2 t 10).bind fun r3 => r3.bind fun a5 => (zaI G 50 a5 (x4 - 20)).bind fun v7 => (fX2_has_0 v7 x1 G).bind fun v10 => if v10 = 0 then (fX2_worksOnce_165 t x3 x4 1 G) else (fX2_worksOnce_164 t x3 x4 G))) else ((zgI G 2 t 34).bind fun v12 => if v12 = 400 then ((zpI G 2 t 30 3).bind fun G15 => zcond (zbb 0) (some (0, G15))) else (zk [2] G t <| (fX2_applies_0 t s0 G).bind fun G20 => zcond (zbb 1) (some (1, G20))))
theorem wfX2_worksOnce_105 {F : zF} (hd : 7 ≤ F.2.2.2) (t : Nat) (x1 : Int32) (x3 : Int32) (x4 : Int32) (s0 : Int32) (G : GS) {a : (Int32) × GS} (h : fX2_worksOnce_105 t x1 x3 x4 s0 G = some a) (hk : zKI F a) : J mX2_worksOnce F G 105 [(0, vR (some t)), (1, vI x1), (3, vI x3), (4, vI x4)] [vI s0] := by
  unfold fX2_worksOnce_105 at h
  refine j_istore (lv' := [(5, vI s0), (0, vR (some t)), (1, vI x1), (3, vI x3), (4, vI x4)]) dX2_worksOnce_105 (Nat.le_of_ble_eq_true rfl) rfl ?_
  refine j_iload (j := 0) dX2_worksOnce_107 rfl ?_
  refine j_if_lt (tgt := 137) dX2_worksOnce_109 (by decide) (fun c1 => ?_) (fun c1 => ?_)
  · rw [if_pos c1] at h
    refine j_iload_n (j := 2) dX2_worksOnce_137 rfl rfl ?_
    refine j_bipush (v := 12) dX2_worksOnce_138 (by decide) ?_
    refine j_icmp_eq (tgt := 164) dX2_worksOnce_140 (by decide) (fun c2 => ?_) (fun c2 => ?_)
    · rw [if_pos c2] at h
      exact J.sub (zall [1, 3, 4] rfl) (wfX2_worksOnce_164 hd t x3 x4  G h hk)
    · rw [if_neg c2] at h
      refine j_aload_n (j := 1) dX2_worksOnce_143 rfl rfl ?_
      replace h := zbE h
      obtain ⟨r3, e4, h⟩ := h
      refine j_getR fgX2_31 (fun _ _ _ => rfl) dX2_worksOnce_144 e4 ?_
      refine j_iload (j := 4) dX2_worksOnce_147 rfl ?_
      refine j_bipush (v := 20) dX2_worksOnce_149 (by decide) ?_
      refine j_isub dX2_worksOnce_151 ?_
      replace h := zbE h
      obtain ⟨a5, e6, h⟩ := h
      subst e6
      replace h := zbE h
      obtain ⟨v7, e8, h⟩ := h
      refine j_iald (Or.inl rfl) e8 dX2_worksOnce_152 ?_
      refine j_iload_n (j := 2) dX2_worksOnce_153 rfl rfl ?_
      replace h := zbE h
      obtain ⟨v10, e9, h⟩ := h
      refine j_cont (zrS (As := [vI v7, vI x1]) msX2_198 (yX2_has_ok e9) (Nat.le_trans (Nat.le_of_ble_eq_true rfl) hd) rfl rfl (Nat.le_of_ble_eq_true rfl) dX2_worksOnce_154) ?_
      refine j_if_ne (tgt := 164) dX2_worksOnce_157 (by decide) (fun c11 => ?_) (fun c11 => ?_)
      · rw [if_pos c11] at h
        refine j_iconst (v := 1) dX2_worksOnce_160 (by decide) ?_
        refine j_goto (tgt := 165) dX2_worksOnce_161 (by decide) ?_
        exact J.sub (zall [1, 3, 4] rfl) (wfX2_worksOnce_165 hd t x3 x4 1 G h hk)
      · rw [if_neg c11] at h
        exact J.sub (zall [1, 3, 4] rfl) (wfX2_worksOnce_164 hd t x3 x4  G h hk)
  · rw [if_neg c1] at h
    refine j_aload_n (j := 1) dX2_worksOnce_112 rfl rfl ?_
    replace h := zbE h
    obtain ⟨v12, e13, h⟩ := h
    refine j_getI fgX2_143 (fun _ _ _ => rfl) dX2_worksOnce_113 e13 ?_
    refine j_sipush (v := 400) dX2_worksOnce_116 (by decide) ?_
    refine j_icmp_ne (tgt := 129) dX2_worksOnce_119 (by decide) (fun c14 => ?_) (fun c14 => ?_)
    · rw [if_pos c14] at h
      refine j_aload_n (j := 1) dX2_worksOnce_122 rfl rfl ?_
      refine j_iconst (v := 3) dX2_worksOnce_123 (by decide) ?_
      replace h := zbE h
      obtain ⟨G15, e16, h⟩ := h
      refine j_putI fpX2_134_X2 (Or.inl rfl) rfl dX2_worksOnce_124 e16 ?_
      refine j_iconst (v := 0) dX2_worksOnce_127 (by decide) ?_
      replace h := zcondE h
      obtain ⟨e17, h⟩ := h
      obtain rfl := Option.some.inj h
      exact j_zret hk.1 hk.2 rfl (zbb_n e17) dX2_worksOnce_128
    · rw [if_neg c14] at h
      refine j_aload_n (j := 1) dX2_worksOnce_129 rfl rfl ?_
      refine j_iload (j := 0) dX2_worksOnce_130 rfl ?_
      replace h := zkE h
      obtain ⟨e18, h⟩ := h
      replace h := zbE h
      obtain ⟨G20, e19, h⟩ := h
      refine j_cont (zrV (As := [vI s0]) msX2_351 (yX2_applies_ok e19) (Nat.le_trans (Nat.le_of_ble_eq_true rfl) hd) (zk_2 _ e18) rfl rfl (Nat.le_of_ble_eq_true rfl) dX2_worksOnce_132) ?_
      refine j_iconst (v := 1) dX2_worksOnce_135 (by decide) ?_
      replace h := zcondE h
      obtain ⟨e21, h⟩ := h
      obtain rfl := Option.some.inj h
      exact j_zret hk.1 hk.2 rfl (zbb_n e21) dX2_worksOnce_136
def fX2_worksOnce_0 (t : Nat) (x1 : Int32) (x2 : Int32) (x3 : Int32)  (G : GS) : Option ((Int32) × GS) :=
  (zgI G 2 t 33).bind fun v1 => if v1 = 0 then (if x1 = 12 then ((zpI G 2 t 30 2).bind fun G5 => zcond (zbb 0) (some (0, G5))) else (zk [2] G t <| (fX2_errs_0 t x3 (-1) 1 G).bind fun G10 => zcond (zbb 0) (some (0, G10)))) else ((zgR G 2 t 24).bind fun r12 => (zgI G 2 t 33).bind fun v14 => r12.bind fun a16 => (zaI G 50 a16 (v14 - 1)).bind fun v18 => (fX2_isTerminal_0 v18 G).bind fun v21 => if v21 = 0 then ((zgI G 2 t 31).bind fun v23 => if v23 = 1 then (zk [2] G t <| (fX2_predictedRule_0 t v18 x1 G).bind fun v28 => fX2_worksOnce_105 t x1 x3 v18 v28 G) else (zk [2] G t <| (fX2_predictedByTwo_0 t v18 x1 x2 G).bind fun v31 => fX2_worksOnce_105 t x1 x3 v18 v31 G)) else ((zgI G 2 t 33).bind fun v32 => (zpI G 2 t 33 (v32 - 1)).bind fun G34 => if v18 = x1 then (zcond (zbb 0) (some (0, G34))) else (zk [2] G34 t <| (fX2_errs_0 t x3 v18 0 G34).bind fun G40 => zcond (zbb 1) (some (1, G40)))))
theorem wfX2_worksOnce_0 {F : zF} (hd : 7 ≤ F.2.2.2) (t : Nat) (x1 : Int32) (x2 : Int32) (x3 : Int32)  (G : GS) {a : (Int32) × GS} (h : fX2_worksOnce_0 t x1 x2 x3  G = some a) (hk : zKI F a) : J mX2_worksOnce F G 0 [(0, vR (some t)), (1, vI x1), (2, vI x2), (3, vI x3)] [] := by
  unfold fX2_worksOnce_0 at h
  refine j_aload_n (j := 0) dX2_worksOnce_0 rfl rfl ?_
  replace h := zbE h
  obtain ⟨v1, e2, h⟩ := h
  refine j_getI fgX2_140 (fun _ _ _ => rfl) dX2_worksOnce_1 e2 ?_
  refine j_if_ne (tgt := 30) dX2_worksOnce_4 (by decide) (fun c3 => ?_) (fun c3 => ?_)
  · rw [if_pos c3] at h
    refine j_iload_n (j := 1) dX2_worksOnce_7 rfl rfl ?_
    refine j_bipush (v := 12) dX2_worksOnce_8 (by decide) ?_
    refine j_icmp_ne (tgt := 21) dX2_worksOnce_10 (by decide) (fun c4 => ?_) (fun c4 => ?_)
    · rw [if_pos c4] at h
      refine j_aload_n (j := 0) dX2_worksOnce_13 rfl rfl ?_
      refine j_iconst (v := 2) dX2_worksOnce_14 (by decide) ?_
      replace h := zbE h
      obtain ⟨G5, e6, h⟩ := h
      refine j_putI fpX2_134_X2 (Or.inl rfl) rfl dX2_worksOnce_15 e6 ?_
      refine j_goto (tgt := 28) dX2_worksOnce_18 (by decide) ?_
      refine j_iconst (v := 0) dX2_worksOnce_28 (by decide) ?_
      replace h := zcondE h
      obtain ⟨e7, h⟩ := h
      obtain rfl := Option.some.inj h
      exact j_zret hk.1 hk.2 rfl (zbb_n e7) dX2_worksOnce_29
    · rw [if_neg c4] at h
      refine j_aload_n (j := 0) dX2_worksOnce_21 rfl rfl ?_
      refine j_iload_n (j := 3) dX2_worksOnce_22 rfl rfl ?_
      refine j_iconst (v := (-1)) dX2_worksOnce_23 (by decide) ?_
      refine j_iconst (v := 1) dX2_worksOnce_24 (by decide) ?_
      replace h := zkE h
      obtain ⟨e8, h⟩ := h
      replace h := zbE h
      obtain ⟨G10, e9, h⟩ := h
      refine j_cont (zrV (As := [vI x3, vI (-1), vI 1]) msX2_347 (yX2_errs_ok e9) (Nat.le_trans (Nat.le_of_ble_eq_true rfl) hd) (zk_2 _ e8) rfl rfl (Nat.le_of_ble_eq_true rfl) dX2_worksOnce_25) ?_
      refine j_iconst (v := 0) dX2_worksOnce_28 (by decide) ?_
      replace h := zcondE h
      obtain ⟨e11, h⟩ := h
      obtain rfl := Option.some.inj h
      exact j_zret hk.1 hk.2 rfl (zbb_n e11) dX2_worksOnce_29
  · rw [if_neg c3] at h
    refine j_aload_n (j := 0) dX2_worksOnce_30 rfl rfl ?_
    replace h := zbE h
    obtain ⟨r12, e13, h⟩ := h
    refine j_getR fgX2_62 (fun _ _ _ => rfl) dX2_worksOnce_31 e13 ?_
    refine j_aload_n (j := 0) dX2_worksOnce_34 rfl rfl ?_
    replace h := zbE h
    obtain ⟨v14, e15, h⟩ := h
    refine j_getI fgX2_140 (fun _ _ _ => rfl) dX2_worksOnce_35 e15 ?_
    refine j_iconst (v := 1) dX2_worksOnce_38 (by decide) ?_
    refine j_isub dX2_worksOnce_39 ?_
    replace h := zbE h
    obtain ⟨a16, e17, h⟩ := h
    subst e17
    replace h := zbE h
    obtain ⟨v18, e19, h⟩ := h
    refine j_iald (Or.inl rfl) e19 dX2_worksOnce_40 ?_
    refine j_istore (lv' := [(4, vI v18), (0, vR (some t)), (1, vI x1), (2, vI x2), (3, vI x3)]) dX2_worksOnce_41 (Nat.le_of_ble_eq_true rfl) rfl ?_
    refine j_iload (j := 0) dX2_worksOnce_43 rfl ?_
    replace h := zbE h
    obtain ⟨v21, e20, h⟩ := h
    refine j_cont (zrS (As := [vI v18]) msX2_167 (yX2_isTerminal_ok e20) (Nat.le_trans (Nat.le_of_ble_eq_true rfl) hd) rfl rfl (Nat.le_of_ble_eq_true rfl) dX2_worksOnce_45) ?_
    refine j_if_eq (tgt := 79) dX2_worksOnce_48 (by decide) (fun c22 => ?_) (fun c22 => ?_)
    · rw [if_pos c22] at h
      refine j_aload_n (j := 1) dX2_worksOnce_79 rfl rfl ?_
      replace h := zbE h
      obtain ⟨v23, e24, h⟩ := h
      refine j_getI fgX2_341 (fun _ _ _ => rfl) dX2_worksOnce_80 e24 ?_
      refine j_iconst (v := 1) dX2_worksOnce_83 (by decide) ?_
      refine j_icmp_ne (tgt := 97) dX2_worksOnce_84 (by decide) (fun c25 => ?_) (fun c25 => ?_)
      · rw [if_pos c25] at h
        refine j_aload_n (j := 1) dX2_worksOnce_87 rfl rfl ?_
        refine j_iload (j := 0) dX2_worksOnce_88 rfl ?_
        refine j_iload_n (j := 2) dX2_worksOnce_90 rfl rfl ?_
        replace h := zkE h
        obtain ⟨e26, h⟩ := h
        replace h := zbE h
        obtain ⟨v28, e27, h⟩ := h
        refine j_cont (zrV (As := [vI v18, vI x1]) msX2_240 (yX2_predictedRule_ok e27) (Nat.le_trans (Nat.le_of_ble_eq_true rfl) hd) (zk_2 _ e26) rfl rfl (Nat.le_of_ble_eq_true rfl) dX2_worksOnce_91) ?_
        refine j_goto (tgt := 105) dX2_worksOnce_94 (by decide) ?_
        exact J.sub (zall [1, 2, 4, 0] rfl) (wfX2_worksOnce_105 hd t x1 x3 v18 v28 G h hk)
      · rw [if_neg c25] at h
        refine j_aload_n (j := 1) dX2_worksOnce_97 rfl rfl ?_
        refine j_iload (j := 0) dX2_worksOnce_98 rfl ?_
        refine j_iload_n (j := 2) dX2_worksOnce_100 rfl rfl ?_
        refine j_iload_n (j := 3) dX2_worksOnce_101 rfl rfl ?_
        replace h := zkE h
        obtain ⟨e29, h⟩ := h
        replace h := zbE h
        obtain ⟨v31, e30, h⟩ := h
        refine j_cont (zrV (As := [vI v18, vI x1, vI x2]) msX2_278 (yX2_predictedByTwo_ok e30) (Nat.le_trans (Nat.le_of_ble_eq_true rfl) hd) (zk_2 _ e29) rfl rfl (Nat.le_of_ble_eq_true rfl) dX2_worksOnce_102) ?_
        exact J.sub (zall [1, 2, 4, 0] rfl) (wfX2_worksOnce_105 hd t x1 x3 v18 v31 G h hk)
    · rw [if_neg c22] at h
      refine j_aload_n (j := 1) dX2_worksOnce_51 rfl rfl ?_
      refine j_dup dX2_worksOnce_52 rfl ?_
      replace h := zbE h
      obtain ⟨v32, e33, h⟩ := h
      refine j_getI fgX2_140 (fun _ _ _ => rfl) dX2_worksOnce_53 e33 ?_
      refine j_iconst (v := 1) dX2_worksOnce_56 (by decide) ?_
      refine j_isub dX2_worksOnce_57 ?_
      replace h := zbE h
      obtain ⟨G34, e35, h⟩ := h
      refine j_putI fpX2_140_X2 (Or.inl rfl) rfl dX2_worksOnce_58 e35 ?_
      refine j_iload (j := 0) dX2_worksOnce_61 rfl ?_
      refine j_iload_n (j := 2) dX2_worksOnce_63 rfl rfl ?_
      refine j_icmp_ne (tgt := 69) dX2_worksOnce_64 (by decide) (fun c36 => ?_) (fun c36 => ?_)
      · rw [if_pos c36] at h
        refine j_iconst (v := 0) dX2_worksOnce_67 (by decide) ?_
        replace h := zcondE h
        obtain ⟨e37, h⟩ := h
        obtain rfl := Option.some.inj h
        exact j_zret hk.1 hk.2 rfl (zbb_n e37) dX2_worksOnce_68
      · rw [if_neg c36] at h
        refine j_aload_n (j := 1) dX2_worksOnce_69 rfl rfl ?_
        refine j_iload_n (j := 4) dX2_worksOnce_70 rfl rfl ?_
        refine j_iload (j := 0) dX2_worksOnce_71 rfl ?_
        refine j_iconst (v := 0) dX2_worksOnce_73 (by decide) ?_
        replace h := zkE h
        obtain ⟨e38, h⟩ := h
        replace h := zbE h
        obtain ⟨G40, e39, h⟩ := h
        refine j_cont (zrV (As := [vI x3, vI v18, vI 0]) msX2_347 (yX2_errs_ok e39) (Nat.le_trans (Nat.le_of_ble_eq_true rfl) hd) (zk_2 _ e38) rfl rfl (Nat.le_of_ble_eq_true rfl) dX2_worksOnce_74) ?_
        refine j_iconst (v := 1) dX2_worksOnce_77 (by decide) ?_
        replace h := zcondE h
        obtain ⟨e41, h⟩ := h
        obtain rfl := Option.some.inj h
        exact j_zret hk.1 hk.2 rfl (zbb_n e41) dX2_worksOnce_78
theorem yX2_worksOnce_ok {t : Nat} {x1 : Int32} {x2 : Int32} {x3 : Int32} {G : GS} {r : Int32} {G1 : GS} (h : fX2_worksOnce_0 t x1 x2 x3 G = some (r, G1)) : zRuns yX2_worksOnce (ws_ yX2_worksOnce cX2_worksOnce 7 (some Jvm.ClassFile.FieldType.boolean)) [vR (some t), vI x1, vI x2, vI x3] (.inl (some (vI r)), G, G1, 7) :=
  zentry (M := mX2_worksOnce) (plainFor_of_name (by decide +kernel)) ⟨rfl, rfl, rfl, rfl⟩ (Nat.le_of_ble_eq_true rfl) (wfX2_worksOnce_0 (Nat.le_refl _) t x1 x2 x3 G h ⟨rfl, rfl⟩)
theorem msX2_354 : zSV RX2 354 RX2 yX2_worksOnce cX2_worksOnce 7 (some Jvm.ClassFile.FieldType.boolean) 3 := ⟨lw_V q3154 q3156 qs112 q131 q3157, (by decide +kernel), (by decide)⟩
abbrev mX2_worksOff : zM := (cX2_worksOff, RX2, 5, none, "worksOff", [], "(III)V")
def fbX2_worksOff_3 (t : Nat) (x1 : Int32) (x2 : Int32) (x3 : Int32) (x4 : Int32)  (G : GS) : Option ((Int32 × GS) ⊕ (GS)) :=
  if x4 = 0 then (zo (some G)) else (zk [2] G t <| zb2 (fX2_worksOnce_0 t x1 x2 x3 G) fun v4 G5 => some (.inl (v4, G5)))
def flX2_worksOff_3 (t : Nat) (x1 : Int32) (x2 : Int32) (x3 : Int32) (x4 : Int32) (G : GS) : Option (GS) := zloop (fun s : Int32 × GS => fbX2_worksOff_3 t x1 x2 x3 s.1 s.2) (x4, G)
theorem wfbX2_worksOff_3 {F : zF} (hd : 8 ≤ F.2.2.2) (t : Nat) (x1 : Int32) (x2 : Int32) (x3 : Int32) (x4 : Int32) (G : GS) {a : (Int32 × GS) ⊕ (GS)} (h : fbX2_worksOff_3 t x1 x2 x3 x4 G = some a) (hk : (zcase (fun s : Int32 × GS => J mX2_worksOff F s.2 3 [(0, vR (some t)), (1, vI x1), (2, vI x2), (3, vI x3), (4, vI s.1)] []) (zKV F)) a) : J mX2_worksOff F G 3 [(0, vR (some t)), (1, vI x1), (2, vI x2), (3, vI x3), (4, vI x4)] [] := by
  unfold fbX2_worksOff_3 at h
  refine j_iload (j := 4) dX2_worksOff_3 rfl ?_
  refine j_if_eq (tgt := 20) dX2_worksOff_5 (by decide) (fun c1 => ?_) (fun c1 => ?_)
  · rw [if_pos c1] at h
    replace h := zoE h
    obtain ⟨a, h, rfl⟩ := h
    replace hk := hk
    obtain rfl := Option.some.inj h
    exact j_vret hk.1 hk.2 rfl dX2_worksOff_20
  · rw [if_neg c1] at h
    refine j_aload_n (j := 0) dX2_worksOff_8 rfl rfl ?_
    refine j_iload_n (j := 1) dX2_worksOff_9 rfl rfl ?_
    refine j_iload_n (j := 2) dX2_worksOff_10 rfl rfl ?_
    refine j_iload_n (j := 3) dX2_worksOff_11 rfl rfl ?_
    replace h := zkE h
    obtain ⟨e2, h⟩ := h
    replace h := zb2E h
    obtain ⟨v4, G5, e3, h⟩ := h
    refine j_cont (zrV (As := [vI x1, vI x2, vI x3]) msX2_354 (yX2_worksOnce_ok e3) (Nat.le_trans (Nat.le_of_ble_eq_true rfl) hd) (zk_2 _ e2) rfl rfl (Nat.le_of_ble_eq_true rfl) dX2_worksOff_12) ?_
    refine j_istore (lv' := [(4, vI v4), (0, vR (some t)), (1, vI x1), (2, vI x2), (3, vI x3)]) dX2_worksOff_15 (Nat.le_of_ble_eq_true rfl) rfl ?_
    refine j_goto (tgt := 3) dX2_worksOff_17 (by decide) ?_
    obtain rfl := Option.some.inj h
    exact J.sub (zall [1, 2, 3, 4, 0] rfl) hk
theorem wflX2_worksOff_3 {F : zF} (hd : 8 ≤ F.2.2.2) (t : Nat) (x1 : Int32) (x2 : Int32) (x3 : Int32) (x4 : Int32) (G : GS) {a : GS} (h : flX2_worksOff_3 t x1 x2 x3 x4 G = some a) (hk : zKV F a) : J mX2_worksOff F G 3 [(0, vR (some t)), (1, vI x1), (2, vI x2), (3, vI x3), (4, vI x4)] [] := by
  unfold flX2_worksOff_3 at h
  exact zloop_walk (P := (fun s : Int32 × GS => J mX2_worksOff F s.2 3 [(0, vR (some t)), (1, vI x1), (2, vI x2), (3, vI x3), (4, vI s.1)] [])) (fun s b e hk => wfbX2_worksOff_3 hd t x1 x2 x3 s.1 s.2 e hk) (x4, G) _ h hk
def fX2_worksOff_0 (t : Nat) (x1 : Int32) (x2 : Int32) (x3 : Int32)  (G : GS) : Option (GS) :=
  flX2_worksOff_3 t x1 x2 x3 1 G
theorem wfX2_worksOff_0 {F : zF} (hd : 8 ≤ F.2.2.2) (t : Nat) (x1 : Int32) (x2 : Int32) (x3 : Int32)  (G : GS) {a : GS} (h : fX2_worksOff_0 t x1 x2 x3  G = some a) (hk : zKV F a) : J mX2_worksOff F G 0 [(0, vR (some t)), (1, vI x1), (2, vI x2), (3, vI x3)] [] := by
  unfold fX2_worksOff_0 at h
  refine j_iconst (v := 1) dX2_worksOff_0 (by decide) ?_
  refine j_istore (lv' := [(4, vI 1), (0, vR (some t)), (1, vI x1), (2, vI x2), (3, vI x3)]) dX2_worksOff_1 (Nat.le_of_ble_eq_true rfl) rfl ?_
  exact J.sub (zall [1, 2, 3, 4, 0] rfl) (wflX2_worksOff_3 hd t x1 x2 x3 1  G h hk)
theorem yX2_worksOff_ok {t : Nat} {x1 : Int32} {x2 : Int32} {x3 : Int32} {G : GS} {G1 : GS} (h : fX2_worksOff_0 t x1 x2 x3 G = some G1) : zRuns yX2_worksOff (ws_ yX2_worksOff cX2_worksOff 5 none) [vR (some t), vI x1, vI x2, vI x3] (.inl none, G, G1, 8) :=
  zentry (M := mX2_worksOff) (plainFor_of_name (by decide +kernel)) ⟨rfl, rfl, rfl, rfl⟩ (Nat.le_of_ble_eq_true rfl) (wfX2_worksOff_0 (Nat.le_refl _) t x1 x2 x3 G h ⟨rfl, rfl⟩)
end
