/-! printed: functions and walks -/
set_option maxRecDepth 100000
noncomputable section
theorem msX4_107 : zSV RX4 107 RX4 yX4_unused cX4_unused 3 (some Jvm.ClassFile.FieldType.int) 0 := ⟨lw_V q2292 q2294 qs46 q146 q2295, (by decide +kernel), (by decide)⟩
theorem msX4_110 : zSV RX4 110 RX3 yX3_with cX3_with 3 (some (Jvm.ClassFile.FieldType.object "SelahGenerator$Rule")) 1 := ⟨lw_V q2297 q1803 q1804 q138 q1805, (by decide +kernel), (by decide)⟩
theorem msX4_128 : zSS RX4 128 yX4_isCommon cX4_isCommon 4 (some Jvm.ClassFile.FieldType.boolean) 2 := ⟨lw_S q2339 q2340 q146 q2341, (by decide +kernel), (by decide)⟩
theorem msX4_132_J2 : zSF RX4 132 RJ2 ⟨"java/util/List", "indexOf", "(Ljava/lang/Object;)I"⟩ yJ2_indexOf cJ2_indexOf 2 (some Jvm.ClassFile.FieldType.int) 1 := ⟨lw_F q2343 q2346 q2348 q126 q2350, zfw 9 rfl, ⟨11, _, rfl, rfl⟩, (by decide +kernel), (by decide)⟩
theorem msX4_136 : zSS RX4 136 yJ15_copyOf_3 cJ15_copyOf_3 3 (some (Jvm.ClassFile.FieldType.array Jvm.ClassFile.FieldType.int)) 2 := ⟨lw_S q2389 q1807 q141 q1808, (by decide +kernel), (by decide)⟩
theorem msX4_142_J2 : zSF RX4 142 RJ2 ⟨"java/util/List", "set", "(ILjava/lang/Object;)Ljava/lang/Object;"⟩ yJ2_set cJ2_set 4 (some (Jvm.ClassFile.FieldType.object "java/lang/Object")) 2 := ⟨lw_F q2391 q1817 q1819 q126 q1821, zfw 14 rfl, ⟨11, _, rfl, rfl⟩, (by decide +kernel), (by decide)⟩
theorem msX4_146_J2 : zSF RX4 146 RJ2 ⟨"java/util/List", "remove", "(Ljava/lang/Object;)Z"⟩ yJ2_remove_2 cJ2_remove_2 5 (some Jvm.ClassFile.FieldType.boolean) 1 := ⟨lw_F q2393 q2396 q2398 q126 q2400, zfw 13 rfl, ⟨11, _, rfl, rfl⟩, (by decide +kernel), (by decide)⟩
theorem msX4_94 : zSV RX4 94 RX3 yX3_rest cX3_rest 5 (some (Jvm.ClassFile.FieldType.array Jvm.ClassFile.FieldType.int)) 2 := ⟨lw_V q2249 q2250 q2251 q138 q2252, (by decide +kernel), (by decide)⟩
theorem msX4_98 : zSI RX4 98 yX3_init cX3_init 3 2 := ⟨q1730, q138, q2253, q1729, rfl, (by decide +kernel), (by decide)⟩
abbrev mX4_factor : zM := (cX4_factor, RX4, 8, none, "factor", [], "(LSelahGenerator$Rule;)V")
def fbX4_factor_184 (t : Nat) (x3 : Int32) (x4 : Int32) (x6 : Option Nat)  (G : GS) : Option ((GS) ⊕ (((Unit) ⊕ String) × GS)) :=
  x6.bind fun a1 => zk [13] G a1 <| (fJ19_hasNext_0 a1 G).bind fun v5 => if v5 = 0 then (zo (some (.inl (), G))) else (zk [13] G a1 <| zb2 (fJ19_next_0 a1 G) fun r9 G10 => zkq [3] G10 r9 ((zgR G10 4 t 0).bind fun r12 => zl (al G10 3 0 2) fun G14 => (zna G14 50 (0 : Int32)).bind fun G16 => r9.bind fun a18 => zk [3] G16 a18 <| zb2 (fX3_rest_0 a18 x3 (some (gz G14)) G16) fun r22 G23 => (fX3_init_0 (gz G10) x4 r22 G23).bind fun G25 => r12.bind fun a26 => zk [12] G25 a26 <| zb2 (fJ2_add_0 a26 (some (gz G10)) G25) fun v30 G31 => some (.inl (G31))))
def flX4_factor_184 (t : Nat) (x3 : Int32) (x4 : Int32) (x6 : Option Nat) (G : GS) : Option (((Unit) ⊕ String) × GS) := zloop (fun s : GS => fbX4_factor_184 t x3 x4 x6 s) (G)
theorem wfbX4_factor_184 {F : zF} (hd : 9 ≤ F.2.2.2) (t : Nat) (x3 : Int32) (x4 : Int32) (x6 : Option Nat) (G : GS) {a : (GS) ⊕ (((Unit) ⊕ String) × GS)} (h : fbX4_factor_184 t x3 x4 x6 G = some a) (hk : (zcase (fun s : GS => J mX4_factor F s 184 [(0, vR (some t)), (3, vI x3), (4, vI x4), (6, vR x6)] []) (zKXV F)) a) : J mX4_factor F G 184 [(0, vR (some t)), (3, vI x3), (4, vI x4), (6, vR x6)] [] := by
  unfold fbX4_factor_184 at h
  refine j_aload (j := 3) dX4_factor_184 rfl ?_
  replace h := zbE h
  obtain ⟨a1, e2, h⟩ := h
  subst e2
  replace h := zkE h
  obtain ⟨e3, h⟩ := h
  replace h := zbE h
  obtain ⟨v5, e4, h⟩ := h
  refine j_cont (zrF (As := []) msX4_26_J19 (yJ19_hasNext_ok e4) (Nat.le_trans (Nat.le_of_ble_eq_true rfl) hd) (zk_13 _ e3) rfl rfl (Nat.le_of_ble_eq_true rfl) dX4_factor_186) ?_
  refine j_if_eq (tgt := 237) dX4_factor_191 (by decide) (fun c6 => ?_) (fun c6 => ?_)
  · rw [if_pos c6] at h
    replace h := zoE h
    obtain ⟨a, h, rfl⟩ := h
    replace hk := hk
    obtain rfl := Option.some.inj h
    exact j_vret hk.1 hk.2 rfl dX4_factor_237
  · rw [if_neg c6] at h
    refine j_aload (j := 3) dX4_factor_194 rfl ?_
    replace h := zkE h
    obtain ⟨e7, h⟩ := h
    replace h := zb2E h
    obtain ⟨r9, G10, e8, h⟩ := h
    refine j_cont (zrF (As := []) msX4_32_J19 (yJ19_next_ok e8) (Nat.le_trans (Nat.le_of_ble_eq_true rfl) hd) (zk_13 _ e7) rfl rfl (Nat.le_of_ble_eq_true rfl) dX4_factor_196) ?_
    replace h := zkqE h
    obtain ⟨e11, h⟩ := h
    refine j_castq (fun k => j_castN dX4_factor_201 k) (fun b q32 k => j_castS (zk_3 _ (e11 b q32)) ⟨2, _, rfl, rfl⟩ q399 dX4_factor_201 k) ?_
    refine j_astore (lv' := [(7, vR r9), (0, vR (some t)), (3, vI x3), (4, vI x4), (6, vR (some a1))]) dX4_factor_204 (Nat.le_of_ble_eq_true rfl) rfl ?_
    refine j_aload_n (j := 1) dX4_factor_206 rfl rfl ?_
    replace h := zbE h
    obtain ⟨r12, e13, h⟩ := h
    refine j_getR fgX4_14 (fun _ _ _ => rfl) dX4_factor_207 e13 ?_
    replace h := zlE h
    obtain ⟨G14, e15, h⟩ := h
    refine j_new (c := 2) (n := 2) (r := (RX3, TX3, 2, tyX3)) rfl rfl in_X3 tyX3_ok nwX3 q399 q1727 q138 dX4_factor_210 ?_
    rw [show al G10 (2 + 1) 0 2 = G14 from e15.symm]
    refine j_dup dX4_factor_213 rfl ?_
    refine j_iload (j := 3) dX4_factor_214 rfl ?_
    refine j_aload (j := 0) dX4_factor_216 rfl ?_
    refine j_iload_n (j := 2) dX4_factor_218 rfl rfl ?_
    refine j_iconst (v := 0) dX4_factor_219 (by decide) ?_
    replace h := zbE h
    obtain ⟨G16, e17, h⟩ := h
    refine j_newa (t := 0) (ty := .int) rfl rfl q455 (fun _ _ _ e1 e2 e3 => by simp only [zfv, e1, e2, e3] <;> rfl) (by decide) (fun _ _ h => h) e17 dX4_factor_220 ?_
    replace h := zbE h
    obtain ⟨a18, e19, h⟩ := h
    subst e19
    replace h := zkE h
    obtain ⟨e20, h⟩ := h
    replace h := zb2E h
    obtain ⟨r22, G23, e21, h⟩ := h
    refine j_cont (zrV (As := [vI x3, vR (some (gz G14))]) msX4_94 (yX3_rest_ok e21) (Nat.le_trans (Nat.le_of_ble_eq_true rfl) hd) (zk_3 _ e20) rfl rfl (Nat.le_of_ble_eq_true rfl) dX4_factor_222) ?_
    replace h := zbE h
    obtain ⟨G25, e24, h⟩ := h
    refine j_cont (zrI (As := [vI x4, vR r22]) msX4_98 (yX3_init_ok e24) (Nat.le_trans (Nat.le_of_ble_eq_true rfl) hd) rfl rfl (Nat.le_of_ble_eq_true rfl) dX4_factor_225) ?_
    replace h := zbE h
    obtain ⟨a26, e27, h⟩ := h
    subst e27
    replace h := zkE h
    obtain ⟨e28, h⟩ := h
    replace h := zb2E h
    obtain ⟨v30, G31, e29, h⟩ := h
    refine j_cont (zrF (As := [vR (some (gz G10))]) msX4_65_J2 (yJ2_add_ok e29) (Nat.le_trans (Nat.le_of_ble_eq_true rfl) hd) (zk_12 _ e28) rfl rfl (Nat.le_of_ble_eq_true rfl) dX4_factor_228) ?_
    refine j_pop dX4_factor_233 rfl ?_
    refine j_goto (tgt := 184) dX4_factor_234 (by decide) ?_
    obtain rfl := Option.some.inj h
    exact J.sub (zall [1, 2, 3, 4] rfl) hk
theorem wflX4_factor_184 {F : zF} (hd : 9 ≤ F.2.2.2) (t : Nat) (x3 : Int32) (x4 : Int32) (x6 : Option Nat) (G : GS) {a : ((Unit) ⊕ String) × GS} (h : flX4_factor_184 t x3 x4 x6 G = some a) (hk : zKXV F a) : J mX4_factor F G 184 [(0, vR (some t)), (3, vI x3), (4, vI x4), (6, vR x6)] [] := by
  unfold flX4_factor_184 at h
  exact zloop_walk (P := (fun s : GS => J mX4_factor F s 184 [(0, vR (some t)), (3, vI x3), (4, vI x4), (6, vR x6)] [])) (fun s b e hk => wfbX4_factor_184 hd t x3 x4 x6 s e hk) (G) _ h hk
def fX4_factor_176 (t : Nat) (x2 : Option Nat) (x3 : Int32) (x4 : Int32)  (G : GS) : Option (((Unit) ⊕ String) × GS) :=
  x2.bind fun a1 => zk [12] G a1 <| zb2 (fJ2_iterator_0 a1 G) fun r5 G6 => flX4_factor_184 t x3 x4 r5 G6
theorem wfX4_factor_176 {F : zF} (hd : 9 ≤ F.2.2.2) (t : Nat) (x2 : Option Nat) (x3 : Int32) (x4 : Int32)  (G : GS) {a : ((Unit) ⊕ String) × GS} (h : fX4_factor_176 t x2 x3 x4  G = some a) (hk : zKXV F a) : J mX4_factor F G 176 [(0, vR (some t)), (2, vR x2), (3, vI x3), (4, vI x4)] [] := by
  unfold fX4_factor_176 at h
  refine j_aload_n (j := 1) dX4_factor_176 rfl rfl ?_
  replace h := zbE h
  obtain ⟨a1, e2, h⟩ := h
  subst e2
  replace h := zkE h
  obtain ⟨e3, h⟩ := h
  replace h := zb2E h
  obtain ⟨r5, G6, e4, h⟩ := h
  refine j_cont (zrF (As := []) msX4_20_J2 (yJ2_iterator_ok e4) (Nat.le_trans (Nat.le_of_ble_eq_true rfl) hd) (zk_12 _ e3) rfl rfl (Nat.le_of_ble_eq_true rfl) dX4_factor_177) ?_
  refine j_astore (lv' := [(6, vR r5), (0, vR (some t)), (2, vR (some a1)), (3, vI x3), (4, vI x4)]) dX4_factor_182 (Nat.le_of_ble_eq_true rfl) rfl ?_
  exact J.sub (zall [1, 3, 4, 0] rfl) (wflX4_factor_184 hd t x3 x4 r5  G6 h hk)
def fbX4_factor_141 (t : Nat) (x2 : Option Nat) (x3 : Int32) (x4 : Int32) (x6 : Int32)  (G : GS) : Option ((Int32 × GS) ⊕ (((Unit) ⊕ String) × GS)) :=
  x2.bind fun a1 => zk [12] G a1 <| (fJ2_size_0 a1 G).bind fun v5 => if v5 ≤ x6 then (zo (fX4_factor_176 t (some a1) x3 x4 G)) else ((zgR G 4 t 0).bind fun r7 => zk [12] G a1 <| (fJ2_get_0 a1 x6 G).bind fun r11 => r7.bind fun a12 => zk [12] G a12 <| zb2 (fJ2_remove_2_0 a12 r11 G) fun v16 G17 => some (.inl ((x6 + 1), G17)))
def flX4_factor_141 (t : Nat) (x2 : Option Nat) (x3 : Int32) (x4 : Int32) (x6 : Int32) (G : GS) : Option (((Unit) ⊕ String) × GS) := zloop (fun s : Int32 × GS => fbX4_factor_141 t x2 x3 x4 s.1 s.2) (x6, G)
theorem wfbX4_factor_141 {F : zF} (hd : 9 ≤ F.2.2.2) (t : Nat) (x2 : Option Nat) (x3 : Int32) (x4 : Int32) (x6 : Int32) (G : GS) {a : (Int32 × GS) ⊕ (((Unit) ⊕ String) × GS)} (h : fbX4_factor_141 t x2 x3 x4 x6 G = some a) (hk : (zcase (fun s : Int32 × GS => J mX4_factor F s.2 141 [(0, vR (some t)), (2, vR x2), (3, vI x3), (4, vI x4), (6, vI s.1)] []) (zKXV F)) a) : J mX4_factor F G 141 [(0, vR (some t)), (2, vR x2), (3, vI x3), (4, vI x4), (6, vI x6)] [] := by
  unfold fbX4_factor_141 at h
  refine j_iload (j := 4) dX4_factor_141 rfl ?_
  refine j_aload_n (j := 1) dX4_factor_143 rfl rfl ?_
  replace h := zbE h
  obtain ⟨a1, e2, h⟩ := h
  subst e2
  replace h := zkE h
  obtain ⟨e3, h⟩ := h
  replace h := zbE h
  obtain ⟨v5, e4, h⟩ := h
  refine j_cont (zrF (As := []) msX4_60_J2 (yJ2_size_ok e4) (Nat.le_trans (Nat.le_of_ble_eq_true rfl) hd) (zk_12 _ e3) rfl rfl (Nat.le_of_ble_eq_true rfl) dX4_factor_144) ?_
  refine j_icmp_ge (tgt := 176) dX4_factor_149 (by decide) (fun c6 => ?_) (fun c6 => ?_)
  · rw [if_pos c6] at h
    replace h := zoE h
    obtain ⟨a, h, rfl⟩ := h
    replace hk := hk
    exact J.sub (zall [0, 1, 2, 3] rfl) (wfX4_factor_176 hd t (some a1) x3 x4  G h hk)
  · rw [if_neg c6] at h
    refine j_aload_n (j := 0) dX4_factor_152 rfl rfl ?_
    replace h := zbE h
    obtain ⟨r7, e8, h⟩ := h
    refine j_getR fgX4_14 (fun _ _ _ => rfl) dX4_factor_153 e8 ?_
    refine j_aload_n (j := 1) dX4_factor_156 rfl rfl ?_
    refine j_iload (j := 4) dX4_factor_157 rfl ?_
    replace h := zkE h
    obtain ⟨e9, h⟩ := h
    replace h := zbE h
    obtain ⟨r11, e10, h⟩ := h
    refine j_cont (zrF (As := [vI x6]) msX4_80_J2 (yJ2_get_ok e10) (Nat.le_trans (Nat.le_of_ble_eq_true rfl) hd) (zk_12 _ e9) rfl rfl (Nat.le_of_ble_eq_true rfl) dX4_factor_159) ?_
    replace h := zbE h
    obtain ⟨a12, e13, h⟩ := h
    subst e13
    replace h := zkE h
    obtain ⟨e14, h⟩ := h
    replace h := zb2E h
    obtain ⟨v16, G17, e15, h⟩ := h
    refine j_cont (zrF (As := [vR r11]) msX4_146_J2 (yJ2_remove_2_ok e15) (Nat.le_trans (Nat.le_of_ble_eq_true rfl) hd) (zk_12 _ e14) rfl rfl (Nat.le_of_ble_eq_true rfl) dX4_factor_164) ?_
    refine j_pop dX4_factor_169 rfl ?_
    refine j_iinc (j := 4) (v := (x6 + 1)) (lv' := [(6, vI (x6 + 1)), (0, vR (some t)), (2, vR (some a1)), (3, vI x3), (4, vI x4)]) dX4_factor_170 rfl rfl (Nat.le_of_ble_eq_true rfl) rfl ?_
    refine j_goto (tgt := 141) dX4_factor_173 (by decide) ?_
    obtain rfl := Option.some.inj h
    exact J.sub (zall [1, 2, 3, 4, 0] rfl) hk
theorem wflX4_factor_141 {F : zF} (hd : 9 ≤ F.2.2.2) (t : Nat) (x2 : Option Nat) (x3 : Int32) (x4 : Int32) (x6 : Int32) (G : GS) {a : ((Unit) ⊕ String) × GS} (h : flX4_factor_141 t x2 x3 x4 x6 G = some a) (hk : zKXV F a) : J mX4_factor F G 141 [(0, vR (some t)), (2, vR x2), (3, vI x3), (4, vI x4), (6, vI x6)] [] := by
  unfold flX4_factor_141 at h
  exact zloop_walk (P := (fun s : Int32 × GS => J mX4_factor F s.2 141 [(0, vR (some t)), (2, vR x2), (3, vI x3), (4, vI x4), (6, vI s.1)] [])) (fun s b e hk => wfbX4_factor_141 hd t x2 x3 x4 s.1 s.2 e hk) (x6, G) _ h hk
def fX4_factor_84 (t : Nat) (x1 : Option Nat) (x2 : Option Nat) (x3 : Int32)  (G : GS) : Option (((Unit) ⊕ String) × GS) :=
  zk [4] G t <| zb3 (fX4_unused_0 t G) (fun v3 G4 => (zgR G4 4 t 0).bind fun r7 => r7.bind fun a9 => zk [12] G4 a9 <| (fJ2_indexOf_0 a9 x1 G4).bind fun v13 => (zgR G4 4 t 0).bind fun r14 => zl (al G4 3 0 2) fun G16 => x1.bind fun a18 => (zgI G16 3 a18 0).bind fun v20 => (zgR G16 3 a18 1).bind fun r22 => zb2 (fJ15_copyOf_3_0 r22 x3 G16) fun r25 G26 => (fX3_init_0 (gz G4) v20 r25 G26).bind fun G28 => zk [3] G28 (gz G4) <| zb2 (fX3_with_0 (gz G4) v3 G28) fun r31 G32 => r14.bind fun a33 => zk [12] G32 a33 <| zb2 (fJ2_set_0 a33 v13 r31 G32) fun r37 G38 => flX4_factor_141 t x2 x3 v3 1 G38) (fun X5 G6 => some (.inr X5, G6))
theorem wfX4_factor_84 {F : zF} (hd : 9 ≤ F.2.2.2) (t : Nat) (x1 : Option Nat) (x2 : Option Nat) (x3 : Int32)  (G : GS) {a : ((Unit) ⊕ String) × GS} (h : fX4_factor_84 t x1 x2 x3  G = some a) (hk : zKXV F a) : J mX4_factor F G 84 [(0, vR (some t)), (1, vR x1), (2, vR x2), (3, vI x3)] [] := by
  unfold fX4_factor_84 at h
  refine j_aload_n (j := 0) dX4_factor_84 rfl rfl ?_
  replace h := zkE h
  obtain ⟨e1, h⟩ := h
  replace h := zb3E h
  rcases h with ⟨v3, G4, e2, h⟩ | ⟨X5, G6, e2, h⟩
  · refine j_cont (zrV (As := []) msX4_107 (yX4_unused_ok e2) (Nat.le_trans (Nat.le_of_ble_eq_true rfl) hd) (zk_4 _ e1) rfl rfl (Nat.le_of_ble_eq_true rfl) dX4_factor_85) ?_
    refine j_istore (lv' := [(4, vI v3), (0, vR (some t)), (1, vR x1), (2, vR x2), (3, vI x3)]) dX4_factor_88 (Nat.le_of_ble_eq_true rfl) rfl ?_
    refine j_aload_n (j := 1) dX4_factor_90 rfl rfl ?_
    replace h := zbE h
    obtain ⟨r7, e8, h⟩ := h
    refine j_getR fgX4_14 (fun _ _ _ => rfl) dX4_factor_91 e8 ?_
    refine j_aload_n (j := 2) dX4_factor_94 rfl rfl ?_
    replace h := zbE h
    obtain ⟨a9, e10, h⟩ := h
    subst e10
    replace h := zkE h
    obtain ⟨e11, h⟩ := h
    replace h := zbE h
    obtain ⟨v13, e12, h⟩ := h
    refine j_cont (zrF (As := [vR x1]) msX4_132_J2 (yJ2_indexOf_ok e12) (Nat.le_trans (Nat.le_of_ble_eq_true rfl) hd) (zk_12 _ e11) rfl rfl (Nat.le_of_ble_eq_true rfl) dX4_factor_95) ?_
    refine j_istore (lv' := [(5, vI v13), (4, vI v3), (0, vR (some t)), (1, vR x1), (2, vR x2), (3, vI x3)]) dX4_factor_100 (Nat.le_of_ble_eq_true rfl) rfl ?_
    refine j_aload_n (j := 2) dX4_factor_102 rfl rfl ?_
    replace h := zbE h
    obtain ⟨r14, e15, h⟩ := h
    refine j_getR fgX4_14 (fun _ _ _ => rfl) dX4_factor_103 e15 ?_
    refine j_iload (j := 0) dX4_factor_106 rfl ?_
    replace h := zlE h
    obtain ⟨G16, e17, h⟩ := h
    refine j_new (c := 2) (n := 2) (r := (RX3, TX3, 2, tyX3)) rfl rfl in_X3 tyX3_ok nwX3 q399 q1727 q138 dX4_factor_108 ?_
    rw [show al G4 (2 + 1) 0 2 = G16 from e17.symm]
    refine j_dup dX4_factor_111 rfl ?_
    refine j_aload_n (j := 3) dX4_factor_112 rfl rfl ?_
    replace h := zbE h
    obtain ⟨a18, e19, h⟩ := h
    subst e19
    replace h := zbE h
    obtain ⟨v20, e21, h⟩ := h
    refine j_getI fgX4_38 (fun _ _ _ => rfl) dX4_factor_113 e21 ?_
    refine j_aload_n (j := 3) dX4_factor_116 rfl rfl ?_
    replace h := zbE h
    obtain ⟨r22, e23, h⟩ := h
    refine j_getR fgX4_42 (fun _ _ _ => rfl) dX4_factor_117 e23 ?_
    refine j_iload_n (j := 5) dX4_factor_120 rfl rfl ?_
    replace h := zb2E h
    obtain ⟨r25, G26, e24, h⟩ := h
    refine j_cont (zrS (As := [vR r22, vI x3]) msX4_136 (yJ15_copyOf_3_ok e24) (Nat.le_trans (Nat.le_of_ble_eq_true rfl) hd) rfl rfl (Nat.le_of_ble_eq_true rfl) dX4_factor_121) ?_
    replace h := zbE h
    obtain ⟨G28, e27, h⟩ := h
    refine j_cont (zrI (As := [vI v20, vR r25]) msX4_98 (yX3_init_ok e27) (Nat.le_trans (Nat.le_of_ble_eq_true rfl) hd) rfl rfl (Nat.le_of_ble_eq_true rfl) dX4_factor_124) ?_
    refine j_iload (j := 1) dX4_factor_127 rfl ?_
    replace h := zkE h
    obtain ⟨e29, h⟩ := h
    replace h := zb2E h
    obtain ⟨r31, G32, e30, h⟩ := h
    refine j_cont (zrV (As := [vI v3]) msX4_110 (yX3_with_ok e30) (Nat.le_trans (Nat.le_of_ble_eq_true rfl) hd) (zk_3 _ e29) rfl rfl (Nat.le_of_ble_eq_true rfl) dX4_factor_129) ?_
    replace h := zbE h
    obtain ⟨a33, e34, h⟩ := h
    subst e34
    replace h := zkE h
    obtain ⟨e35, h⟩ := h
    replace h := zb2E h
    obtain ⟨r37, G38, e36, h⟩ := h
    refine j_cont (zrF (As := [vI v13, vR r31]) msX4_142_J2 (yJ2_set_ok e36) (Nat.le_trans (Nat.le_of_ble_eq_true rfl) hd) (zk_12 _ e35) rfl rfl (Nat.le_of_ble_eq_true rfl) dX4_factor_132) ?_
    refine j_pop dX4_factor_137 rfl ?_
    refine j_iconst (v := 1) dX4_factor_138 (by decide) ?_
    refine j_istore (lv' := [(6, vI 1), (5, vI v13), (4, vI v3), (0, vR (some t)), (1, vR (some a18)), (2, vR x2), (3, vI x3)]) dX4_factor_139 (Nat.le_of_ble_eq_true rfl) rfl ?_
    exact J.sub (zall [3, 5, 6, 2, 0] rfl) (wflX4_factor_141 hd t x2 x3 v3 1  G38 h hk)
  · refine j_thr (zrV (As := []) msX4_107 (yX4_unused_ok e2) (Nat.le_trans (Nat.le_of_ble_eq_true rfl) hd) (zk_4 _ e1) rfl rfl (Nat.le_of_ble_eq_true rfl) dX4_factor_85) ?_
    obtain rfl := Option.some.inj h
    exact jx_out hk.1 hk.2 (by decide)
def fbX4_factor_70 (t : Nat) (x1 : Option Nat) (x2 : Option Nat) (x3 : Int32)  (G : GS) : Option ((Int32 × GS) ⊕ (((Unit) ⊕ String) × GS)) :=
  zb2 (fX4_isCommon_0 x2 x3 G) fun v2 G3 => if v2 = 0 then (zo (fX4_factor_84 t x1 x2 x3 G3)) else (some (.inl ((x3 + 1), G3)))
def flX4_factor_70 (t : Nat) (x1 : Option Nat) (x2 : Option Nat) (x3 : Int32) (G : GS) : Option (((Unit) ⊕ String) × GS) := zloop (fun s : Int32 × GS => fbX4_factor_70 t x1 x2 s.1 s.2) (x3, G)
theorem wfbX4_factor_70 {F : zF} (hd : 9 ≤ F.2.2.2) (t : Nat) (x1 : Option Nat) (x2 : Option Nat) (x3 : Int32) (G : GS) {a : (Int32 × GS) ⊕ (((Unit) ⊕ String) × GS)} (h : fbX4_factor_70 t x1 x2 x3 G = some a) (hk : (zcase (fun s : Int32 × GS => J mX4_factor F s.2 70 [(0, vR (some t)), (1, vR x1), (2, vR x2), (3, vI s.1)] []) (zKXV F)) a) : J mX4_factor F G 70 [(0, vR (some t)), (1, vR x1), (2, vR x2), (3, vI x3)] [] := by
  unfold fbX4_factor_70 at h
  refine j_aload_n (j := 2) dX4_factor_70 rfl rfl ?_
  refine j_iload_n (j := 3) dX4_factor_71 rfl rfl ?_
  replace h := zb2E h
  obtain ⟨v2, G3, e1, h⟩ := h
  refine j_cont (zrS (As := [vR x2, vI x3]) msX4_128 (yX4_isCommon_ok e1) (Nat.le_trans (Nat.le_of_ble_eq_true rfl) hd) rfl rfl (Nat.le_of_ble_eq_true rfl) dX4_factor_72) ?_
  refine j_if_eq (tgt := 84) dX4_factor_75 (by decide) (fun c4 => ?_) (fun c4 => ?_)
  · rw [if_pos c4] at h
    replace h := zoE h
    obtain ⟨a, h, rfl⟩ := h
    replace hk := hk
    exact J.sub (zall [0, 1, 2, 3] rfl) (wfX4_factor_84 hd t x1 x2 x3  G3 h hk)
  · rw [if_neg c4] at h
    refine j_iinc (j := 3) (v := (x3 + 1)) (lv' := [(3, vI (x3 + 1)), (0, vR (some t)), (1, vR x1), (2, vR x2)]) dX4_factor_78 rfl rfl (Nat.le_of_ble_eq_true rfl) rfl ?_
    refine j_goto (tgt := 70) dX4_factor_81 (by decide) ?_
    obtain rfl := Option.some.inj h
    exact J.sub (zall [1, 2, 3, 0] rfl) hk
theorem wflX4_factor_70 {F : zF} (hd : 9 ≤ F.2.2.2) (t : Nat) (x1 : Option Nat) (x2 : Option Nat) (x3 : Int32) (G : GS) {a : ((Unit) ⊕ String) × GS} (h : flX4_factor_70 t x1 x2 x3 G = some a) (hk : zKXV F a) : J mX4_factor F G 70 [(0, vR (some t)), (1, vR x1), (2, vR x2), (3, vI x3)] [] := by
  unfold flX4_factor_70 at h
  exact zloop_walk (P := (fun s : Int32 × GS => J mX4_factor F s.2 70 [(0, vR (some t)), (1, vR x1), (2, vR x2), (3, vI s.1)] [])) (fun s b e hk => wfbX4_factor_70 hd t x1 x2 s.1 s.2 e hk) (x3, G) _ h hk
def fX4_factor_68 (t : Nat) (x1 : Option Nat) (x2 : Option Nat)  (G : GS) : Option (((Unit) ⊕ String) × GS) :=
  flX4_factor_70 t x1 x2 1 G
theorem wfX4_factor_68 {F : zF} (hd : 9 ≤ F.2.2.2) (t : Nat) (x1 : Option Nat) (x2 : Option Nat)  (G : GS) {a : ((Unit) ⊕ String) × GS} (h : fX4_factor_68 t x1 x2  G = some a) (hk : zKXV F a) : J mX4_factor F G 68 [(0, vR (some t)), (1, vR x1), (2, vR x2)] [] := by
  unfold fX4_factor_68 at h
  refine j_iconst (v := 1) dX4_factor_68 (by decide) ?_
  refine j_istore_n (lv' := [(3, vI 1), (0, vR (some t)), (1, vR x1), (2, vR x2)]) dX4_factor_69 rfl (Nat.le_of_ble_eq_true rfl) rfl ?_
  exact J.sub (zall [1, 2, 3, 0] rfl) (wflX4_factor_70 hd t x1 x2 1  G h hk)
def fX4_factor_65 (t : Nat) (x1 : Option Nat) (x2 : Option Nat) (x3 : Option Nat)  (G : GS) : Option ((GS) ⊕ (((Unit) ⊕ String) × GS)) :=
  some (.inl (G))
theorem wfX4_factor_65 {F : zF} (hd : 9 ≤ F.2.2.2) (t : Nat) (x1 : Option Nat) (x2 : Option Nat) (x3 : Option Nat)  (G : GS) {a : (GS) ⊕ (((Unit) ⊕ String) × GS)} (h : fX4_factor_65 t x1 x2 x3  G = some a) (hk : (zcase (fun s : GS => J mX4_factor F s 22 [(0, vR (some t)), (1, vR x1), (2, vR x2), (3, vR x3)] []) (zKXV F)) a) : J mX4_factor F G 65 [(0, vR (some t)), (1, vR x1), (2, vR x2), (3, vR x3)] [] := by
  unfold fX4_factor_65 at h
  refine j_goto (tgt := 22) dX4_factor_65 (by decide) ?_
  obtain rfl := Option.some.inj h
  exact J.sub (zall [0, 1, 2, 3] rfl) hk
def fbX4_factor_22 (t : Nat) (x1 : Option Nat) (x2 : Option Nat) (x3 : Option Nat)  (G : GS) : Option ((GS) ⊕ (((Unit) ⊕ String) × GS)) :=
  x3.bind fun a1 => zk [13] G a1 <| (fJ19_hasNext_0 a1 G).bind fun v5 => if v5 = 0 then (zo (fX4_factor_68 t x1 x2 G)) else (zk [13] G a1 <| zb2 (fJ19_next_0 a1 G) fun r9 G10 => zkq [3] G10 r9 (x1.bind fun a12 => (zgR G10 3 a12 1).bind fun r14 => r14.bind fun a16 => (zaI G10 50 a16 (0 : Int32)).bind fun v18 => r9.bind fun a20 => zk [3] G10 a20 <| (fX3_beginsWith_0 a20 v18 G10).bind fun v24 => if v24 = 0 then (fX4_factor_65 t (some a12) x2 (some a1) G10) else (x2.bind fun a26 => zk [12] G10 a26 <| zb2 (fJ2_add_0 a26 (some a20) G10) fun v30 G31 => fX4_factor_65 t (some a12) (some a26) (some a1) G31)))
def flX4_factor_22 (t : Nat) (x1 : Option Nat) (x2 : Option Nat) (x3 : Option Nat) (G : GS) : Option (((Unit) ⊕ String) × GS) := zloop (fun s : GS => fbX4_factor_22 t x1 x2 x3 s) (G)
theorem wfbX4_factor_22 {F : zF} (hd : 9 ≤ F.2.2.2) (t : Nat) (x1 : Option Nat) (x2 : Option Nat) (x3 : Option Nat) (G : GS) {a : (GS) ⊕ (((Unit) ⊕ String) × GS)} (h : fbX4_factor_22 t x1 x2 x3 G = some a) (hk : (zcase (fun s : GS => J mX4_factor F s 22 [(0, vR (some t)), (1, vR x1), (2, vR x2), (3, vR x3)] []) (zKXV F)) a) : J mX4_factor F G 22 [(0, vR (some t)), (1, vR x1), (2, vR x2), (3, vR x3)] [] := by
  unfold fbX4_factor_22 at h
  refine j_aload_n (j := 3) dX4_factor_22 rfl rfl ?_
  replace h := zbE h
  obtain ⟨a1, e2, h⟩ := h
  subst e2
  replace h := zkE h
  obtain ⟨e3, h⟩ := h
  replace h := zbE h
  obtain ⟨v5, e4, h⟩ := h
  refine j_cont (zrF (As := []) msX4_26_J19 (yJ19_hasNext_ok e4) (Nat.le_trans (Nat.le_of_ble_eq_true rfl) hd) (zk_13 _ e3) rfl rfl (Nat.le_of_ble_eq_true rfl) dX4_factor_23) ?_
  refine j_if_eq (tgt := 68) dX4_factor_28 (by decide) (fun c6 => ?_) (fun c6 => ?_)
  · rw [if_pos c6] at h
    replace h := zoE h
    obtain ⟨a, h, rfl⟩ := h
    replace hk := hk
    exact J.sub (zall [0, 1, 2] rfl) (wfX4_factor_68 hd t x1 x2  G h hk)
  · rw [if_neg c6] at h
    refine j_aload_n (j := 3) dX4_factor_31 rfl rfl ?_
    replace h := zkE h
    obtain ⟨e7, h⟩ := h
    replace h := zb2E h
    obtain ⟨r9, G10, e8, h⟩ := h
    refine j_cont (zrF (As := []) msX4_32_J19 (yJ19_next_ok e8) (Nat.le_trans (Nat.le_of_ble_eq_true rfl) hd) (zk_13 _ e7) rfl rfl (Nat.le_of_ble_eq_true rfl) dX4_factor_32) ?_
    replace h := zkqE h
    obtain ⟨e11, h⟩ := h
    refine j_castq (fun k => j_castN dX4_factor_37 k) (fun b q32 k => j_castS (zk_3 _ (e11 b q32)) ⟨2, _, rfl, rfl⟩ q399 dX4_factor_37 k) ?_
    refine j_astore (lv' := [(4, vR r9), (0, vR (some t)), (1, vR x1), (2, vR x2), (3, vR (some a1))]) dX4_factor_40 (Nat.le_of_ble_eq_true rfl) rfl ?_
    refine j_aload (j := 0) dX4_factor_42 rfl ?_
    refine j_aload_n (j := 2) dX4_factor_44 rfl rfl ?_
    replace h := zbE h
    obtain ⟨a12, e13, h⟩ := h
    subst e13
    replace h := zbE h
    obtain ⟨r14, e15, h⟩ := h
    refine j_getR fgX4_42 (fun _ _ _ => rfl) dX4_factor_45 e15 ?_
    refine j_iconst (v := 0) dX4_factor_48 (by decide) ?_
    replace h := zbE h
    obtain ⟨a16, e17, h⟩ := h
    subst e17
    replace h := zbE h
    obtain ⟨v18, e19, h⟩ := h
    refine j_iald (Or.inl rfl) e19 dX4_factor_49 ?_
    replace h := zbE h
    obtain ⟨a20, e21, h⟩ := h
    subst e21
    replace h := zkE h
    obtain ⟨e22, h⟩ := h
    replace h := zbE h
    obtain ⟨v24, e23, h⟩ := h
    refine j_cont (zrV (As := [vI v18]) msX4_104 (yX3_beginsWith_ok e23) (Nat.le_trans (Nat.le_of_ble_eq_true rfl) hd) (zk_3 _ e22) rfl rfl (Nat.le_of_ble_eq_true rfl) dX4_factor_50) ?_
    refine j_if_eq (tgt := 65) dX4_factor_53 (by decide) (fun c25 => ?_) (fun c25 => ?_)
    · rw [if_pos c25] at h
      exact J.sub (zall [1, 2, 3, 4] rfl) (wfX4_factor_65 hd t (some a12) x2 (some a1)  G10 h hk)
    · rw [if_neg c25] at h
      refine j_aload_n (j := 3) dX4_factor_56 rfl rfl ?_
      refine j_aload (j := 0) dX4_factor_57 rfl ?_
      replace h := zbE h
      obtain ⟨a26, e27, h⟩ := h
      subst e27
      replace h := zkE h
      obtain ⟨e28, h⟩ := h
      replace h := zb2E h
      obtain ⟨v30, G31, e29, h⟩ := h
      refine j_cont (zrF (As := [vR (some a20)]) msX4_65_J2 (yJ2_add_ok e29) (Nat.le_trans (Nat.le_of_ble_eq_true rfl) hd) (zk_12 _ e28) rfl rfl (Nat.le_of_ble_eq_true rfl) dX4_factor_59) ?_
      refine j_pop dX4_factor_64 rfl ?_
      exact J.sub (zall [1, 2, 3, 4] rfl) (wfX4_factor_65 hd t (some a12) (some a26) (some a1)  G31 h hk)
theorem wflX4_factor_22 {F : zF} (hd : 9 ≤ F.2.2.2) (t : Nat) (x1 : Option Nat) (x2 : Option Nat) (x3 : Option Nat) (G : GS) {a : ((Unit) ⊕ String) × GS} (h : flX4_factor_22 t x1 x2 x3 G = some a) (hk : zKXV F a) : J mX4_factor F G 22 [(0, vR (some t)), (1, vR x1), (2, vR x2), (3, vR x3)] [] := by
  unfold flX4_factor_22 at h
  exact zloop_walk (P := (fun s : GS => J mX4_factor F s 22 [(0, vR (some t)), (1, vR x1), (2, vR x2), (3, vR x3)] [])) (fun s b e hk => wfbX4_factor_22 hd t x1 x2 x3 s e hk) (G) _ h hk
def fX4_factor_0 (t : Nat) (x1 : Option Nat)  (G : GS) : Option (((Unit) ⊕ String) × GS) :=
  zl (al G 12 0 3) fun G1 => (fJ2_init_0 (gz G) G1).bind fun G4 => x1.bind fun a5 => (zgI G4 3 a5 0).bind fun v7 => zk [4] G4 t <| zb2 (fX4_of_0 t v7 G4) fun r11 G12 => r11.bind fun a13 => zk [12] G12 a13 <| zb2 (fJ2_iterator_0 a13 G12) fun r17 G18 => flX4_factor_22 t (some a5) (some (gz G)) r17 G18
theorem wfX4_factor_0 {F : zF} (hd : 9 ≤ F.2.2.2) (t : Nat) (x1 : Option Nat)  (G : GS) {a : ((Unit) ⊕ String) × GS} (h : fX4_factor_0 t x1  G = some a) (hk : zKXV F a) : J mX4_factor F G 0 [(0, vR (some t)), (1, vR x1)] [] := by
  unfold fX4_factor_0 at h
  replace h := zlE h
  obtain ⟨G1, e2, h⟩ := h
  refine j_new (c := 11) (n := 3) (r := (RJ2, TJ2, 3, tyJ2)) rfl rfl in_J2 tyJ2_ok nwJ2 q1975 q184 q126 dX4_factor_0 ?_
  rw [show al G (11 + 1) 0 3 = G1 from e2.symm]
  refine j_dup dX4_factor_3 rfl ?_
  replace h := zbE h
  obtain ⟨G4, e3, h⟩ := h
  refine j_cont (zrI (As := []) msX4_64 (yJ2_init_ok e3) (Nat.le_trans (Nat.le_of_ble_eq_true rfl) hd) rfl rfl (Nat.le_of_ble_eq_true rfl) dX4_factor_4) ?_
  refine j_astore_n (lv' := [(2, vR (some (gz G))), (0, vR (some t)), (1, vR x1)]) dX4_factor_7 rfl (Nat.le_of_ble_eq_true rfl) rfl ?_
  refine j_aload_n (j := 1) dX4_factor_8 rfl rfl ?_
  refine j_aload_n (j := 2) dX4_factor_9 rfl rfl ?_
  replace h := zbE h
  obtain ⟨a5, e6, h⟩ := h
  subst e6
  replace h := zbE h
  obtain ⟨v7, e8, h⟩ := h
  refine j_getI fgX4_38 (fun _ _ _ => rfl) dX4_factor_10 e8 ?_
  replace h := zkE h
  obtain ⟨e9, h⟩ := h
  replace h := zb2E h
  obtain ⟨r11, G12, e10, h⟩ := h
  refine j_cont (zrV (As := [vI v7]) msX4_87 (yX4_of_ok e10) (Nat.le_trans (Nat.le_of_ble_eq_true rfl) hd) (zk_4 _ e9) rfl rfl (Nat.le_of_ble_eq_true rfl) dX4_factor_13) ?_
  replace h := zbE h
  obtain ⟨a13, e14, h⟩ := h
  subst e14
  replace h := zkE h
  obtain ⟨e15, h⟩ := h
  replace h := zb2E h
  obtain ⟨r17, G18, e16, h⟩ := h
  refine j_cont (zrF (As := []) msX4_20_J2 (yJ2_iterator_ok e16) (Nat.le_trans (Nat.le_of_ble_eq_true rfl) hd) (zk_12 _ e15) rfl rfl (Nat.le_of_ble_eq_true rfl) dX4_factor_16) ?_
  refine j_astore_n (lv' := [(3, vR r17), (2, vR (some (gz G))), (0, vR (some t)), (1, vR (some a5))]) dX4_factor_21 rfl (Nat.le_of_ble_eq_true rfl) rfl ?_
  exact J.sub (zall [2, 3, 1, 0] rfl) (wflX4_factor_22 hd t (some a5) (some (gz G)) r17  G18 h hk)
theorem yX4_factor_ok {t : Nat} {x1 : Option Nat} {G : GS} {r : (Unit) ⊕ String} {G1 : GS} (h : fX4_factor_0 t x1 G = some (r, G1)) : zRuns yX4_factor (ws_ yX4_factor cX4_factor 8 none) [vR (some t), vR x1] (zout (fun _ => none) r, G, G1, 9) :=
  zentry (M := mX4_factor) (plainFor_of_name (by decide +kernel)) ⟨rfl, rfl, rfl, rfl⟩ (Nat.le_of_ble_eq_true rfl) (wfX4_factor_0 (Nat.le_refl _) t x1 G h ⟨rfl, rfl⟩)
abbrev mX4_check : zM := (cX4_check, RX4, 3, none, "check", [], "()V")
def fX4_check_61   (G : GS) : Option (((Unit) ⊕ String) × GS) :=
  zl (al G 0 0 6) fun G1 => some (.inr "SelahGenerator$Failed", G1)
theorem wfX4_check_61 {F : zF} (hd : 7 ≤ F.2.2.2)   (G : GS) {a : ((Unit) ⊕ String) × GS} (h : fX4_check_61   G = some a) (hk : zKXV F a) : J mX4_check F G 61 [] [] := by
  unfold fX4_check_61 at h
  replace h := zlE h
  obtain ⟨G1, e2, h⟩ := h
  refine j_throwN exX4_54_56 dX4_check_61 dX4_check_64 dX4_check_65 dX4_check_68 (Nat.le_trans (Nat.le_of_ble_eq_true rfl) hd) (Nat.le_of_ble_eq_true rfl) ?_
  rw [show al G 0 0 6 = G1 from e2.symm]
  obtain rfl := Option.some.inj h
  exact jx_out hk.1 hk.2 (by decide)
def fbX4_check_32 (x1 : Option Nat)  (G : GS) : Option ((GS) ⊕ (((Unit) ⊕ String) × GS)) :=
  x1.bind fun a1 => zk [13] G a1 <| (fJ19_hasNext_0 a1 G).bind fun v5 => if v5 = 0 then (zo (some (.inl (), G))) else (zk [13] G a1 <| zb2 (fJ19_next_0 a1 G) fun r9 G10 => zkq [3] G10 r9 (r9.bind fun a12 => (zgR G10 3 a12 1).bind fun r14 => r14.bind fun a16 => (zln G10 a16).bind fun v18 => if v18 ≤ 10 then (some (.inl (G10))) else (zo (fX4_check_61 G10))))
def flX4_check_32 (x1 : Option Nat) (G : GS) : Option (((Unit) ⊕ String) × GS) := zloop (fun s : GS => fbX4_check_32 x1 s) (G)
theorem wfbX4_check_32 {F : zF} (hd : 7 ≤ F.2.2.2) (x1 : Option Nat) (G : GS) {a : (GS) ⊕ (((Unit) ⊕ String) × GS)} (h : fbX4_check_32 x1 G = some a) (hk : (zcase (fun s : GS => J mX4_check F s 32 [(1, vR x1)] []) (zKXV F)) a) : J mX4_check F G 32 [(1, vR x1)] [] := by
  unfold fbX4_check_32 at h
  refine j_aload_n (j := 0) dX4_check_32 rfl rfl ?_
  replace h := zbE h
  obtain ⟨a1, e2, h⟩ := h
  subst e2
  replace h := zkE h
  obtain ⟨e3, h⟩ := h
  replace h := zbE h
  obtain ⟨v5, e4, h⟩ := h
  refine j_cont (zrF (As := []) msX4_26_J19 (yJ19_hasNext_ok e4) (Nat.le_trans (Nat.le_of_ble_eq_true rfl) hd) (zk_13 _ e3) rfl rfl (Nat.le_of_ble_eq_true rfl) dX4_check_33) ?_
  refine j_if_eq (tgt := 72) dX4_check_38 (by decide) (fun c6 => ?_) (fun c6 => ?_)
  · rw [if_pos c6] at h
    replace h := zoE h
    obtain ⟨a, h, rfl⟩ := h
    replace hk := hk
    obtain rfl := Option.some.inj h
    exact j_vret hk.1 hk.2 rfl dX4_check_72
  · rw [if_neg c6] at h
    refine j_aload_n (j := 0) dX4_check_41 rfl rfl ?_
    replace h := zkE h
    obtain ⟨e7, h⟩ := h
    replace h := zb2E h
    obtain ⟨r9, G10, e8, h⟩ := h
    refine j_cont (zrF (As := []) msX4_32_J19 (yJ19_next_ok e8) (Nat.le_trans (Nat.le_of_ble_eq_true rfl) hd) (zk_13 _ e7) rfl rfl (Nat.le_of_ble_eq_true rfl) dX4_check_42) ?_
    replace h := zkqE h
    obtain ⟨e11, h⟩ := h
    refine j_castq (fun k => j_castN dX4_check_47 k) (fun b q21 k => j_castS (zk_3 _ (e11 b q21)) ⟨2, _, rfl, rfl⟩ q399 dX4_check_47 k) ?_
    refine j_astore_n (lv' := [(2, vR r9), (1, vR (some a1))]) dX4_check_50 rfl (Nat.le_of_ble_eq_true rfl) rfl ?_
    refine j_aload_n (j := 0) dX4_check_51 rfl rfl ?_
    replace h := zbE h
    obtain ⟨a12, e13, h⟩ := h
    subst e13
    replace h := zbE h
    obtain ⟨r14, e15, h⟩ := h
    refine j_getR fgX4_42 (fun _ _ _ => rfl) dX4_check_52 e15 ?_
    replace h := zbE h
    obtain ⟨a16, e17, h⟩ := h
    subst e17
    replace h := zbE h
    obtain ⟨v18, e19, h⟩ := h
    refine j_alen e19 dX4_check_55 ?_
    refine j_bipush (v := 10) dX4_check_56 (by decide) ?_
    refine j_icmp_le (tgt := 69) dX4_check_58 (by decide) (fun c20 => ?_) (fun c20 => ?_)
    · rw [if_pos c20] at h
      refine j_goto (tgt := 32) dX4_check_69 (by decide) ?_
      obtain rfl := Option.some.inj h
      exact J.sub (zall [1] rfl) hk
    · rw [if_neg c20] at h
      replace h := zoE h
      obtain ⟨a, h, rfl⟩ := h
      replace hk := hk
      exact J.sub (zall [] rfl) (wfX4_check_61 hd   G10 h hk)
theorem wflX4_check_32 {F : zF} (hd : 7 ≤ F.2.2.2) (x1 : Option Nat) (G : GS) {a : ((Unit) ⊕ String) × GS} (h : flX4_check_32 x1 G = some a) (hk : zKXV F a) : J mX4_check F G 32 [(1, vR x1)] [] := by
  unfold flX4_check_32 at h
  exact zloop_walk (P := (fun s : GS => J mX4_check F s 32 [(1, vR x1)] [])) (fun s b e hk => wfbX4_check_32 hd x1 s e hk) (G) _ h hk
def fX4_check_0 (t : Nat)  (G : GS) : Option (((Unit) ⊕ String) × GS) :=
  (zgR G 4 t 0).bind fun r1 => r1.bind fun a3 => zk [12] G a3 <| (fJ2_size_0 a3 G).bind fun v7 => if v7 ≤ 48 then ((zgR G 4 t 0).bind fun r9 => r9.bind fun a11 => zk [12] G a11 <| zb2 (fJ2_iterator_0 a11 G) fun r15 G16 => flX4_check_32 r15 G16) else (zl (al G 0 0 6) fun G17 => some (.inr "SelahGenerator$Failed", G17))
theorem wfX4_check_0 {F : zF} (hd : 7 ≤ F.2.2.2) (t : Nat)  (G : GS) {a : ((Unit) ⊕ String) × GS} (h : fX4_check_0 t  G = some a) (hk : zKXV F a) : J mX4_check F G 0 [(0, vR (some t))] [] := by
  unfold fX4_check_0 at h
  refine j_aload_n (j := 0) dX4_check_0 rfl rfl ?_
  replace h := zbE h
  obtain ⟨r1, e2, h⟩ := h
  refine j_getR fgX4_14 (fun _ _ _ => rfl) dX4_check_1 e2 ?_
  replace h := zbE h
  obtain ⟨a3, e4, h⟩ := h
  subst e4
  replace h := zkE h
  obtain ⟨e5, h⟩ := h
  replace h := zbE h
  obtain ⟨v7, e6, h⟩ := h
  refine j_cont (zrF (As := []) msX4_60_J2 (yJ2_size_ok e6) (Nat.le_trans (Nat.le_of_ble_eq_true rfl) hd) (zk_12 _ e5) rfl rfl (Nat.le_of_ble_eq_true rfl) dX4_check_4) ?_
  refine j_bipush (v := 48) dX4_check_9 (by decide) ?_
  refine j_icmp_le (tgt := 22) dX4_check_11 (by decide) (fun c8 => ?_) (fun c8 => ?_)
  · rw [if_pos c8] at h
    refine j_aload_n (j := 0) dX4_check_22 rfl rfl ?_
    replace h := zbE h
    obtain ⟨r9, e10, h⟩ := h
    refine j_getR fgX4_14 (fun _ _ _ => rfl) dX4_check_23 e10 ?_
    replace h := zbE h
    obtain ⟨a11, e12, h⟩ := h
    subst e12
    replace h := zkE h
    obtain ⟨e13, h⟩ := h
    replace h := zb2E h
    obtain ⟨r15, G16, e14, h⟩ := h
    refine j_cont (zrF (As := []) msX4_20_J2 (yJ2_iterator_ok e14) (Nat.le_trans (Nat.le_of_ble_eq_true rfl) hd) (zk_12 _ e13) rfl rfl (Nat.le_of_ble_eq_true rfl) dX4_check_26) ?_
    refine j_astore_n (lv' := [(1, vR r15), (0, vR (some t))]) dX4_check_31 rfl (Nat.le_of_ble_eq_true rfl) rfl ?_
    exact J.sub (zall [0] rfl) (wflX4_check_32 hd r15  G16 h hk)
  · rw [if_neg c8] at h
    replace h := zlE h
    obtain ⟨G17, e18, h⟩ := h
    refine j_throwN exX4_54_56 dX4_check_14 dX4_check_17 dX4_check_18 dX4_check_21 (Nat.le_trans (Nat.le_of_ble_eq_true rfl) hd) (Nat.le_of_ble_eq_true rfl) ?_
    rw [show al G 0 0 6 = G17 from e18.symm]
    obtain rfl := Option.some.inj h
    exact jx_out hk.1 hk.2 (by decide)
theorem yX4_check_ok {t : Nat} {G : GS} {r : (Unit) ⊕ String} {G1 : GS} (h : fX4_check_0 t G = some (r, G1)) : zRuns yX4_check (ws_ yX4_check cX4_check 3 none) [vR (some t)] (zout (fun _ => none) r, G, G1, 7) :=
  zentry (M := mX4_check) (plainFor_of_name (by decide +kernel)) ⟨rfl, rfl, rfl, rfl⟩ (Nat.le_of_ble_eq_true rfl) (wfX4_check_0 (Nat.le_refl _) t G h ⟨rfl, rfl⟩)
theorem msX4_121 : zSV RX4 121 RX4 yX4_sharing cX4_sharing 6 (some (Jvm.ClassFile.FieldType.object "SelahGenerator$Rule")) 1 := ⟨lw_V q2331 q2333 qs48 q146 q2334, (by decide +kernel), (by decide)⟩
theorem msX4_124 : zSV RX4 124 RX4 yX4_factor cX4_factor 8 none 1 := ⟨lw_V q2335 q2337 qs49 q146 q2338, (by decide +kernel), (by decide)⟩
theorem msX4_73 : zSV RX4 73 RX4 yX4_check cX4_check 3 none 0 := ⟨lw_V q2280 q2282 qs44 q146 q2283, (by decide +kernel), (by decide)⟩
abbrev mX4_factorOut : zM := (cX4_factorOut, RX4, 3, none, "factorOut", [], "()V")
def fX4_factorOut_38 (t : Nat) (x1 : Int32)  (G : GS) : Option ((Int32 × GS) ⊕ (((Unit) ⊕ String) × GS)) :=
  some (.inl (x1, G))
theorem wfX4_factorOut_38 {F : zF} (hd : 10 ≤ F.2.2.2) (t : Nat) (x1 : Int32)  (G : GS) {a : (Int32 × GS) ⊕ (((Unit) ⊕ String) × GS)} (h : fX4_factorOut_38 t x1  G = some a) (hk : (zcase (fun s : Int32 × GS => J mX4_factorOut F s.2 3 [(0, vR (some t)), (1, vI s.1)] []) (zKXV F)) a) : J mX4_factorOut F G 38 [(0, vR (some t)), (1, vI x1)] [] := by
  unfold fX4_factorOut_38 at h
  refine j_goto (tgt := 3) dX4_factorOut_38 (by decide) ?_
  obtain rfl := Option.some.inj h
  exact J.sub (zall [0, 1] rfl) hk
def fbX4_factorOut_3 (t : Nat) (x1 : Int32)  (G : GS) : Option ((Int32 × GS) ⊕ (((Unit) ⊕ String) × GS)) :=
  (fX1_isNonterminal_0 x1 G).bind fun v2 => if v2 = 0 then (zo (some (.inl (), G))) else (zk [4] G t <| zb2 (fX4_sharing_0 t x1 G) fun r6 G7 => zopt r6 (fX4_factorOut_38 t (x1 + 1) G7) (fun a8 => zk [4] G7 t <| zb3 (fX4_factor_0 t (some a8) G7) (fun u14 G11 => zk [4] G11 t <| zb3 (fX4_check_0 t G11) (fun u20 G17 => fX4_factorOut_38 t 20 G17) (fun X18 G19 => zo (some (.inr X18, G19)))) (fun X12 G13 => zo (some (.inr X12, G13)))))
def flX4_factorOut_3 (t : Nat) (x1 : Int32) (G : GS) : Option (((Unit) ⊕ String) × GS) := zloop (fun s : Int32 × GS => fbX4_factorOut_3 t s.1 s.2) (x1, G)
theorem wfbX4_factorOut_3 {F : zF} (hd : 10 ≤ F.2.2.2) (t : Nat) (x1 : Int32) (G : GS) {a : (Int32 × GS) ⊕ (((Unit) ⊕ String) × GS)} (h : fbX4_factorOut_3 t x1 G = some a) (hk : (zcase (fun s : Int32 × GS => J mX4_factorOut F s.2 3 [(0, vR (some t)), (1, vI s.1)] []) (zKXV F)) a) : J mX4_factorOut F G 3 [(0, vR (some t)), (1, vI x1)] [] := by
  unfold fbX4_factorOut_3 at h
  refine j_iload_n (j := 1) dX4_factorOut_3 rfl rfl ?_
  replace h := zbE h
  obtain ⟨v2, e1, h⟩ := h
  refine j_cont (zrSN (As := [vI x1]) msX4_46 q401 (yX1_isNonterminal_ok e1) (Nat.le_trans (Nat.le_of_ble_eq_true rfl) hd) rfl rfl (Nat.le_of_ble_eq_true rfl) dX4_factorOut_4) ?_
  refine j_if_eq (tgt := 41) dX4_factorOut_7 (by decide) (fun c3 => ?_) (fun c3 => ?_)
  · rw [if_pos c3] at h
    replace h := zoE h
    obtain ⟨a, h, rfl⟩ := h
    replace hk := hk
    obtain rfl := Option.some.inj h
    exact j_vret hk.1 hk.2 rfl dX4_factorOut_41
  · rw [if_neg c3] at h
    refine j_aload_n (j := 0) dX4_factorOut_10 rfl rfl ?_
    refine j_iload_n (j := 1) dX4_factorOut_11 rfl rfl ?_
    replace h := zkE h
    obtain ⟨e4, h⟩ := h
    replace h := zb2E h
    obtain ⟨r6, G7, e5, h⟩ := h
    refine j_cont (zrV (As := [vI x1]) msX4_121 (yX4_sharing_ok e5) (Nat.le_trans (Nat.le_of_ble_eq_true rfl) hd) (zk_4 _ e4) rfl rfl (Nat.le_of_ble_eq_true rfl) dX4_factorOut_12) ?_
    refine j_astore_n (lv' := [(2, vR r6), (0, vR (some t)), (1, vI x1)]) dX4_factorOut_15 rfl (Nat.le_of_ble_eq_true rfl) rfl ?_
    refine j_aload_n (j := 0) dX4_factorOut_16 rfl rfl ?_
    rcases r6 with _ | a8
    · replace h := zopt_n h
      refine j_ifnonnull0 dX4_factorOut_17 ?_
      refine j_iinc (j := 2) (v := (x1 + 1)) (lv' := [(1, vI (x1 + 1)), (2, vR none), (0, vR (some t))]) dX4_factorOut_20 rfl rfl (Nat.le_of_ble_eq_true rfl) rfl ?_
      refine j_goto (tgt := 38) dX4_factorOut_23 (by decide) ?_
      exact J.sub (zall [2, 0] rfl) (wfX4_factorOut_38 hd t (x1 + 1)  G7 h hk)
    · replace h := zopt_s h
      refine j_ifnonnull1 (tgt := 26) dX4_factorOut_17 (by decide) ?_
      refine j_aload_n (j := 1) dX4_factorOut_26 rfl rfl ?_
      refine j_aload_n (j := 0) dX4_factorOut_27 rfl rfl ?_
      replace h := zkE h
      obtain ⟨e9, h⟩ := h
      replace h := zb3E h
      rcases h with ⟨u14, G11, e10, h⟩ | ⟨X12, G13, e10, h⟩
      · refine j_cont (zrV (As := [vR (some a8)]) msX4_124 (yX4_factor_ok e10) (Nat.le_trans (Nat.le_of_ble_eq_true rfl) hd) (zk_4 _ e9) rfl rfl (Nat.le_of_ble_eq_true rfl) dX4_factorOut_28) ?_
        refine j_aload_n (j := 1) dX4_factorOut_31 rfl rfl ?_
        replace h := zkE h
        obtain ⟨e15, h⟩ := h
        replace h := zb3E h
        rcases h with ⟨u20, G17, e16, h⟩ | ⟨X18, G19, e16, h⟩
        · refine j_cont (zrV (As := []) msX4_73 (yX4_check_ok e16) (Nat.le_trans (Nat.le_of_ble_eq_true rfl) hd) (zk_4 _ e15) rfl rfl (Nat.le_of_ble_eq_true rfl) dX4_factorOut_32) ?_
          refine j_bipush (v := 20) dX4_factorOut_35 (by decide) ?_
          refine j_istore_n (lv' := [(1, vI 20), (2, vR (some a8)), (0, vR (some t))]) dX4_factorOut_37 rfl (Nat.le_of_ble_eq_true rfl) rfl ?_
          exact J.sub (zall [2, 0] rfl) (wfX4_factorOut_38 hd t 20  G17 h hk)
        · refine j_thr (zrV (As := []) msX4_73 (yX4_check_ok e16) (Nat.le_trans (Nat.le_of_ble_eq_true rfl) hd) (zk_4 _ e15) rfl rfl (Nat.le_of_ble_eq_true rfl) dX4_factorOut_32) ?_
          replace h := zoE h
          obtain ⟨a, h, rfl⟩ := h
          replace hk := hk
          obtain rfl := Option.some.inj h
          exact jx_out hk.1 hk.2 (by decide)
      · refine j_thr (zrV (As := [vR (some a8)]) msX4_124 (yX4_factor_ok e10) (Nat.le_trans (Nat.le_of_ble_eq_true rfl) hd) (zk_4 _ e9) rfl rfl (Nat.le_of_ble_eq_true rfl) dX4_factorOut_28) ?_
        replace h := zoE h
        obtain ⟨a, h, rfl⟩ := h
        replace hk := hk
        obtain rfl := Option.some.inj h
        exact jx_out hk.1 hk.2 (by decide)
theorem wflX4_factorOut_3 {F : zF} (hd : 10 ≤ F.2.2.2) (t : Nat) (x1 : Int32) (G : GS) {a : ((Unit) ⊕ String) × GS} (h : flX4_factorOut_3 t x1 G = some a) (hk : zKXV F a) : J mX4_factorOut F G 3 [(0, vR (some t)), (1, vI x1)] [] := by
  unfold flX4_factorOut_3 at h
  exact zloop_walk (P := (fun s : Int32 × GS => J mX4_factorOut F s.2 3 [(0, vR (some t)), (1, vI s.1)] [])) (fun s b e hk => wfbX4_factorOut_3 hd t s.1 s.2 e hk) (x1, G) _ h hk
def fX4_factorOut_0 (t : Nat)  (G : GS) : Option (((Unit) ⊕ String) × GS) :=
  flX4_factorOut_3 t 20 G
theorem wfX4_factorOut_0 {F : zF} (hd : 10 ≤ F.2.2.2) (t : Nat)  (G : GS) {a : ((Unit) ⊕ String) × GS} (h : fX4_factorOut_0 t  G = some a) (hk : zKXV F a) : J mX4_factorOut F G 0 [(0, vR (some t))] [] := by
  unfold fX4_factorOut_0 at h
  refine j_bipush (v := 20) dX4_factorOut_0 (by decide) ?_
  refine j_istore_n (lv' := [(1, vI 20), (0, vR (some t))]) dX4_factorOut_2 rfl (Nat.le_of_ble_eq_true rfl) rfl ?_
  exact J.sub (zall [1, 0] rfl) (wflX4_factorOut_3 hd t 20  G h hk)
theorem yX4_factorOut_ok {t : Nat} {G : GS} {r : (Unit) ⊕ String} {G1 : GS} (h : fX4_factorOut_0 t G = some (r, G1)) : zRuns yX4_factorOut (ws_ yX4_factorOut cX4_factorOut 3 none) [vR (some t)] (zout (fun _ => none) r, G, G1, 10) :=
  zentry (M := mX4_factorOut) (plainFor_of_name (by decide +kernel)) ⟨rfl, rfl, rfl, rfl⟩ (Nat.le_of_ble_eq_true rfl) (wfX4_factorOut_0 (Nat.le_refl _) t G h ⟨rfl, rfl⟩)
theorem fgX1_175 : zFG RX1 175 3 0 (.object "java/util/List") := ⟨(RX4, TX4, 3, tyX4), rfl, by decide, in_X4, rfl, "SelahGenerator$Workshop", Or.inl rfl, Or.inr ⟨_, zxw 65 rfl⟩⟩
theorem fgX1_176 : zFG RX1 176 3 1 (.int) := ⟨(RX4, TX4, 3, tyX4), rfl, by decide, in_X4, rfl, "SelahGenerator$Workshop", Or.inl rfl, Or.inr ⟨_, zxw 66 rfl⟩⟩
abbrev mX1_kept : zM := (cX1_kept, RX1, 2, (some Jvm.ClassFile.FieldType.int), "kept", [], "(LSelahGenerator$Workshop;)I")
def fX1_kept_0 (t : Nat) (x1 : Option Nat)  (G : GS) : Option ((Int32) × GS) :=
  x1.bind fun a1 => (zgR G 4 a1 0).bind fun r3 => (zpR G 1 t 0 r3).bind fun G5 => (zgI G5 4 a1 1).bind fun v7 => zk [1] G5 t <| zb2 (fX1_changed_0 t v7 G5) fun v11 G12 => some (v11, G12)
theorem wfX1_kept_0 {F : zF} (hd : 2 ≤ F.2.2.2) (t : Nat) (x1 : Option Nat)  (G : GS) {a : (Int32) × GS} (h : fX1_kept_0 t x1  G = some a) (hk : zKI F a) : J mX1_kept F G 0 [(0, vR (some t)), (1, vR x1)] [] := by
  unfold fX1_kept_0 at h
  refine j_aload_n (j := 0) dX1_kept_0 rfl rfl ?_
  refine j_aload_n (j := 1) dX1_kept_1 rfl rfl ?_
  replace h := zbE h
  obtain ⟨a1, e2, h⟩ := h
  subst e2
  replace h := zbE h
  obtain ⟨r3, e4, h⟩ := h
  refine j_getR fgX1_175 (fun _ _ _ => rfl) dX1_kept_2 e4 ?_
  replace h := zbE h
  obtain ⟨G5, e6, h⟩ := h
  refine j_putR fpX1_16_X1 (Or.inl rfl) (Or.inl ⟨_, rfl⟩) dX1_kept_5 e6 ?_
  refine j_aload_n (j := 0) dX1_kept_8 rfl rfl ?_
  refine j_aload_n (j := 1) dX1_kept_9 rfl rfl ?_
  replace h := zbE h
  obtain ⟨v7, e8, h⟩ := h
  refine j_getI fgX1_176 (fun _ _ _ => rfl) dX1_kept_10 e8 ?_
  replace h := zkE h
  obtain ⟨e9, h⟩ := h
  replace h := zb2E h
  obtain ⟨v11, G12, e10, h⟩ := h
  refine j_cont (zrV (As := [vI v7]) msX1_90 (yX1_changed_ok e10) (Nat.le_trans (Nat.le_of_ble_eq_true rfl) hd) (zk_1 _ e9) rfl rfl (Nat.le_of_ble_eq_true rfl) dX1_kept_13) ?_
  obtain rfl := Option.some.inj h
  exact j_iret hk.1 hk.2 rfl dX1_kept_16
theorem yX1_kept_ok {t : Nat} {x1 : Option Nat} {G : GS} {r : Int32} {G1 : GS} (h : fX1_kept_0 t x1 G = some (r, G1)) : zRuns yX1_kept (ws_ yX1_kept cX1_kept 2 (some Jvm.ClassFile.FieldType.int)) [vR (some t), vR x1] (.inl (some (vI r)), G, G1, 2) :=
  zentry (M := mX1_kept) (plainFor_of_name (by decide +kernel)) ⟨rfl, rfl, rfl, rfl⟩ (Nat.le_of_ble_eq_true rfl) (wfX1_kept_0 (Nat.le_refl _) t x1 G h ⟨rfl, rfl⟩)
theorem msX1_179 : zSI RX1 179 yX4_init cX4_init 2 1 := ⟨q1973, q146, q1971, q1972, rfl, (by decide +kernel), (by decide)⟩
theorem msX1_185 : zSV RX1 185 RX1 yX1_kept cX1_kept 2 (some Jvm.ClassFile.FieldType.int) 1 := ⟨lw_V q2316 q2318 qs47 q123 q2319, (by decide +kernel), (by decide)⟩
theorem msX1_189 : zSV RX1 189 RX4 yX4_factorOut cX4_factorOut 3 none 0 := ⟨lw_V q2327 q2328 q2329 q146 q2330, (by decide +kernel), (by decide)⟩
abbrev mX1_factorOut : zM := (cX1_factorOut, RX1, 3, (some Jvm.ClassFile.FieldType.int), "factorOut", [(12, 16, 19, 183)], "()I")
def fX1_factorOut_0 (t : Nat)  (G : GS) : Option (((Int32) ⊕ String) × GS) :=
  zl (al G 4 0 3) fun G1 => (zgR G1 1 t 0).bind fun r3 => (fX4_init_0 (gz G) r3 G1).bind fun G6 => zk [4] G6 (gz G) <| zb3 (fX4_factorOut_0 (gz G) G6) (fun u12 G9 => zk [1] G9 t <| zb2 (fX1_kept_0 t (some (gz G)) G9) fun v15 G16 => some (.inl v15, G16)) (fun X10 G11 => if X10 = "SelahGenerator$Failed" then (zl (al G11 0 0 6) fun G19 => some (.inr "java/lang/IllegalStateException", G19)) else none)
theorem wfX1_factorOut_0 {F : zF} (hd : 11 ≤ F.2.2.2) (t : Nat)  (G : GS) {a : ((Int32) ⊕ String) × GS} (h : fX1_factorOut_0 t  G = some a) (hk : zKXI F a) : J mX1_factorOut F G 0 [(0, vR (some t))] [] := by
  unfold fX1_factorOut_0 at h
  replace h := zlE h
  obtain ⟨G1, e2, h⟩ := h
  refine j_new (c := 3) (n := 3) (r := (RX4, TX4, 3, tyX4)) rfl rfl in_X4 tyX4_ok nwX4 q1969 q1970 q146 dX1_factorOut_0 ?_
  rw [show al G (3 + 1) 0 3 = G1 from e2.symm]
  refine j_dup dX1_factorOut_3 rfl ?_
  refine j_aload_n (j := 0) dX1_factorOut_4 rfl rfl ?_
  replace h := zbE h
  obtain ⟨r3, e4, h⟩ := h
  refine j_getR fgX1_16 (fun _ _ _ => rfl) dX1_factorOut_5 e4 ?_
  replace h := zbE h
  obtain ⟨G6, e5, h⟩ := h
  refine j_cont (zrI (As := [vR r3]) msX1_179 (yX4_init_ok e5) (Nat.le_trans (Nat.le_of_ble_eq_true rfl) hd) rfl rfl (Nat.le_of_ble_eq_true rfl) dX1_factorOut_8) ?_
  refine j_astore_n (lv' := [(1, vR (some (gz G))), (0, vR (some t))]) dX1_factorOut_11 rfl (Nat.le_of_ble_eq_true rfl) rfl ?_
  refine j_aload_n (j := 0) dX1_factorOut_12 rfl rfl ?_
  replace h := zkE h
  obtain ⟨e7, h⟩ := h
  replace h := zb3E h
  rcases h with ⟨u12, G9, e8, h⟩ | ⟨X10, G11, e8, h⟩
  · refine j_cont (zrV (As := []) msX1_189 (yX4_factorOut_ok e8) (Nat.le_trans (Nat.le_of_ble_eq_true rfl) hd) (zk_4 _ e7) rfl rfl (Nat.le_of_ble_eq_true rfl) dX1_factorOut_13) ?_
    refine j_goto (tgt := 28) dX1_factorOut_16 (by decide) ?_
    refine j_aload_n (j := 1) dX1_factorOut_28 rfl rfl ?_
    refine j_aload_n (j := 0) dX1_factorOut_29 rfl rfl ?_
    replace h := zkE h
    obtain ⟨e13, h⟩ := h
    replace h := zb2E h
    obtain ⟨v15, G16, e14, h⟩ := h
    refine j_cont (zrV (As := [vR (some (gz G))]) msX1_185 (yX1_kept_ok e14) (Nat.le_trans (Nat.le_of_ble_eq_true rfl) hd) (zk_1 _ e13) rfl rfl (Nat.le_of_ble_eq_true rfl) dX1_factorOut_30) ?_
    obtain rfl := Option.some.inj h
    exact j_iret hk.1 hk.2 rfl dX1_factorOut_33
  · refine j_thr (zrV (As := []) msX1_189 (yX4_factorOut_ok e8) (Nat.le_trans (Nat.le_of_ble_eq_true rfl) hd) (zk_4 _ e7) rfl rfl (Nat.le_of_ble_eq_true rfl) dX1_factorOut_13) ?_
    by_cases c21 : X10 = "SelahGenerator$Failed"
    · rw [if_pos c21] at h
      subst c21
      refine jx_catch (n := 19) [] ⟨12, 16, 19, 183⟩ [] rfl (fun z hz => nomatch hz) rfl (by decide) q1968 (zxw 113 rfl) rfl (fun q18 => ?_)
      refine j_astore_n (lv' := [(2, vR (some q18)), (1, vR (some (gz G))), (0, vR (some t))]) dX1_factorOut_19 rfl (Nat.le_of_ble_eq_true rfl) rfl ?_
      replace h := zlE h
      obtain ⟨G19, e20, h⟩ := h
      refine j_throw exX1_73_75 dX1_factorOut_20 dX1_factorOut_23 dX1_factorOut_24 dX1_factorOut_27 (Nat.le_trans (Nat.le_of_ble_eq_true rfl) hd) (Nat.le_of_ble_eq_true rfl) ?_
      rw [show al G11 0 0 6 = G19 from e20.symm]
      obtain rfl := Option.some.inj h
      exact jx_out hk.1 hk.2 (by decide)
    · rw [if_neg c21] at h
      cases h
theorem yX1_factorOut_ok {t : Nat} {G : GS} {r : (Int32) ⊕ String} {G1 : GS} (h : fX1_factorOut_0 t G = some (r, G1)) : zRuns yX1_factorOut (wsW_ yX1_factorOut cX1_factorOut 3 (some Jvm.ClassFile.FieldType.int) [(12, 16, 19, 183)]) [vR (some t)] (zout (fun v => some (vI v)) r, G, G1, 11) :=
  zentryW (M := mX1_factorOut) (by decide +kernel) ⟨rfl, rfl, rfl⟩ (Nat.le_of_ble_eq_true rfl) (wfX1_factorOut_0 (Nat.le_refl _) t G h ⟨rfl, rfl⟩)
theorem fgX1_134 : zFG RX1 134 4 1 (.array (.int)) := ⟨(RX5, TX5, 10, tyX5), rfl, by decide, in_X5, rfl, "SelahGenerator$Sets", Or.inl rfl, Or.inr ⟨_, zxw 56 rfl⟩⟩
abbrev mX1_firstOf : zM := (cX1_firstOf, RX1, 2, (some Jvm.ClassFile.FieldType.int), "firstOf", [], "(I)I")
def fX1_firstOf_0 (t : Nat) (x1 : Int32)  (G : GS) : Option (((Int32) ⊕ String) × GS) :=
  zk [1] G t <| zb2 (fX1_sets_0 t G) fun r3 G4 => r3.bind fun a5 => (zgR G4 5 a5 1).bind fun r7 => zb3 (fX1_index_0 x1 G4) (fun v10 G11 => r7.bind fun a14 => (zaI G11 50 a14 v10).bind fun v16 => some (.inl v16, G11)) (fun X12 G13 => some (.inr X12, G13))
theorem wfX1_firstOf_0 {F : zF} (hd : 52 ≤ F.2.2.2) (t : Nat) (x1 : Int32)  (G : GS) {a : ((Int32) ⊕ String) × GS} (h : fX1_firstOf_0 t x1  G = some a) (hk : zKXI F a) : J mX1_firstOf F G 0 [(0, vR (some t)), (1, vI x1)] [] := by
  unfold fX1_firstOf_0 at h
  refine j_aload_n (j := 0) dX1_firstOf_0 rfl rfl ?_
  replace h := zkE h
  obtain ⟨e1, h⟩ := h
  replace h := zb2E h
  obtain ⟨r3, G4, e2, h⟩ := h
  refine j_cont (zrV (As := []) msX1_128 (yX1_sets_ok e2) (Nat.le_trans (Nat.le_of_ble_eq_true rfl) hd) (zk_1 _ e1) rfl rfl (Nat.le_of_ble_eq_true rfl) dX1_firstOf_1) ?_
  replace h := zbE h
  obtain ⟨a5, e6, h⟩ := h
  subst e6
  replace h := zbE h
  obtain ⟨r7, e8, h⟩ := h
  refine j_getR fgX1_134 (fun _ _ _ => rfl) dX1_firstOf_4 e8 ?_
  refine j_iload_n (j := 1) dX1_firstOf_7 rfl rfl ?_
  replace h := zb3E h
  rcases h with ⟨v10, G11, e9, h⟩ | ⟨X12, G13, e9, h⟩
  · refine j_cont (zrS (As := [vI x1]) msX1_76 (yX1_index_ok e9) (Nat.le_trans (Nat.le_of_ble_eq_true rfl) hd) rfl rfl (Nat.le_of_ble_eq_true rfl) dX1_firstOf_8) ?_
    replace h := zbE h
    obtain ⟨a14, e15, h⟩ := h
    subst e15
    replace h := zbE h
    obtain ⟨v16, e17, h⟩ := h
    refine j_iald (Or.inl rfl) e17 dX1_firstOf_11 ?_
    obtain rfl := Option.some.inj h
    exact j_iret hk.1 hk.2 rfl dX1_firstOf_12
  · refine j_thr (zrS (As := [vI x1]) msX1_76 (yX1_index_ok e9) (Nat.le_trans (Nat.le_of_ble_eq_true rfl) hd) rfl rfl (Nat.le_of_ble_eq_true rfl) dX1_firstOf_8) ?_
    obtain rfl := Option.some.inj h
    exact jx_out hk.1 hk.2 (by decide)
theorem yX1_firstOf_ok {t : Nat} {x1 : Int32} {G : GS} {r : (Int32) ⊕ String} {G1 : GS} (h : fX1_firstOf_0 t x1 G = some (r, G1)) : zRuns yX1_firstOf (ws_ yX1_firstOf cX1_firstOf 2 (some Jvm.ClassFile.FieldType.int)) [vR (some t), vI x1] (zout (fun v => some (vI v)) r, G, G1, 52) :=
  zentry (M := mX1_firstOf) (plainFor_of_name (by decide +kernel)) ⟨rfl, rfl, rfl, rfl⟩ (Nat.le_of_ble_eq_true rfl) (wfX1_firstOf_0 (Nat.le_refl _) t x1 G h ⟨rfl, rfl⟩)
theorem fgX1_140 : zFG RX1 140 4 9 (.int) := ⟨(RX5, TX5, 10, tyX5), rfl, by decide, in_X5, rfl, "SelahGenerator$Sets", Or.inl rfl, Or.inr ⟨_, zxw 61 rfl⟩⟩
abbrev mX1_firstRounds : zM := (cX1_firstRounds, RX1, 1, (some Jvm.ClassFile.FieldType.int), "firstRounds", [], "()I")
def fX1_firstRounds_0 (t : Nat)  (G : GS) : Option ((Int32) × GS) :=
  zk [1] G t <| zb2 (fX1_sets_0 t G) fun r3 G4 => r3.bind fun a5 => (zgI G4 5 a5 9).bind fun v7 => some (v7, G4)
theorem wfX1_firstRounds_0 {F : zF} (hd : 52 ≤ F.2.2.2) (t : Nat)  (G : GS) {a : (Int32) × GS} (h : fX1_firstRounds_0 t  G = some a) (hk : zKI F a) : J mX1_firstRounds F G 0 [(0, vR (some t))] [] := by
  unfold fX1_firstRounds_0 at h
  refine j_aload_n (j := 0) dX1_firstRounds_0 rfl rfl ?_
  replace h := zkE h
  obtain ⟨e1, h⟩ := h
  replace h := zb2E h
  obtain ⟨r3, G4, e2, h⟩ := h
  refine j_cont (zrV (As := []) msX1_128 (yX1_sets_ok e2) (Nat.le_trans (Nat.le_of_ble_eq_true rfl) hd) (zk_1 _ e1) rfl rfl (Nat.le_of_ble_eq_true rfl) dX1_firstRounds_1) ?_
  replace h := zbE h
  obtain ⟨a5, e6, h⟩ := h
  subst e6
  replace h := zbE h
  obtain ⟨v7, e8, h⟩ := h
  refine j_getI fgX1_140 (fun _ _ _ => rfl) dX1_firstRounds_4 e8 ?_
  obtain rfl := Option.some.inj h
  exact j_iret hk.1 hk.2 rfl dX1_firstRounds_7
theorem yX1_firstRounds_ok {t : Nat} {G : GS} {r : Int32} {G1 : GS} (h : fX1_firstRounds_0 t G = some (r, G1)) : zRuns yX1_firstRounds (ws_ yX1_firstRounds cX1_firstRounds 1 (some Jvm.ClassFile.FieldType.int)) [vR (some t)] (.inl (some (vI r)), G, G1, 52) :=
  zentry (M := mX1_firstRounds) (plainFor_of_name (by decide +kernel)) ⟨rfl, rfl, rfl, rfl⟩ (Nat.le_of_ble_eq_true rfl) (wfX1_firstRounds_0 (Nat.le_refl _) t G h ⟨rfl, rfl⟩)
theorem fgX1_137 : zFG RX1 137 4 2 (.array (.int)) := ⟨(RX5, TX5, 10, tyX5), rfl, by decide, in_X5, rfl, "SelahGenerator$Sets", Or.inl rfl, Or.inr ⟨_, zxw 57 rfl⟩⟩
abbrev mX1_followOf : zM := (cX1_followOf, RX1, 2, (some Jvm.ClassFile.FieldType.int), "followOf", [], "(I)I")
def fX1_followOf_0 (t : Nat) (x1 : Int32)  (G : GS) : Option (((Int32) ⊕ String) × GS) :=
  zk [1] G t <| zb2 (fX1_sets_0 t G) fun r3 G4 => r3.bind fun a5 => (zgR G4 5 a5 2).bind fun r7 => zb3 (fX1_index_0 x1 G4) (fun v10 G11 => r7.bind fun a14 => (zaI G11 50 a14 v10).bind fun v16 => some (.inl v16, G11)) (fun X12 G13 => some (.inr X12, G13))
theorem wfX1_followOf_0 {F : zF} (hd : 52 ≤ F.2.2.2) (t : Nat) (x1 : Int32)  (G : GS) {a : ((Int32) ⊕ String) × GS} (h : fX1_followOf_0 t x1  G = some a) (hk : zKXI F a) : J mX1_followOf F G 0 [(0, vR (some t)), (1, vI x1)] [] := by
  unfold fX1_followOf_0 at h
  refine j_aload_n (j := 0) dX1_followOf_0 rfl rfl ?_
  replace h := zkE h
  obtain ⟨e1, h⟩ := h
  replace h := zb2E h
  obtain ⟨r3, G4, e2, h⟩ := h
  refine j_cont (zrV (As := []) msX1_128 (yX1_sets_ok e2) (Nat.le_trans (Nat.le_of_ble_eq_true rfl) hd) (zk_1 _ e1) rfl rfl (Nat.le_of_ble_eq_true rfl) dX1_followOf_1) ?_
  replace h := zbE h
  obtain ⟨a5, e6, h⟩ := h
  subst e6
  replace h := zbE h
  obtain ⟨r7, e8, h⟩ := h
  refine j_getR fgX1_137 (fun _ _ _ => rfl) dX1_followOf_4 e8 ?_
  refine j_iload_n (j := 1) dX1_followOf_7 rfl rfl ?_
  replace h := zb3E h
  rcases h with ⟨v10, G11, e9, h⟩ | ⟨X12, G13, e9, h⟩
  · refine j_cont (zrS (As := [vI x1]) msX1_76 (yX1_index_ok e9) (Nat.le_trans (Nat.le_of_ble_eq_true rfl) hd) rfl rfl (Nat.le_of_ble_eq_true rfl) dX1_followOf_8) ?_
    replace h := zbE h
    obtain ⟨a14, e15, h⟩ := h
    subst e15
    replace h := zbE h
    obtain ⟨v16, e17, h⟩ := h
    refine j_iald (Or.inl rfl) e17 dX1_followOf_11 ?_
    obtain rfl := Option.some.inj h
    exact j_iret hk.1 hk.2 rfl dX1_followOf_12
  · refine j_thr (zrS (As := [vI x1]) msX1_76 (yX1_index_ok e9) (Nat.le_trans (Nat.le_of_ble_eq_true rfl) hd) rfl rfl (Nat.le_of_ble_eq_true rfl) dX1_followOf_8) ?_
    obtain rfl := Option.some.inj h
    exact jx_out hk.1 hk.2 (by decide)
theorem yX1_followOf_ok {t : Nat} {x1 : Int32} {G : GS} {r : (Int32) ⊕ String} {G1 : GS} (h : fX1_followOf_0 t x1 G = some (r, G1)) : zRuns yX1_followOf (ws_ yX1_followOf cX1_followOf 2 (some Jvm.ClassFile.FieldType.int)) [vR (some t), vI x1] (zout (fun v => some (vI v)) r, G, G1, 52) :=
  zentry (M := mX1_followOf) (plainFor_of_name (by decide +kernel)) ⟨rfl, rfl, rfl, rfl⟩ (Nat.le_of_ble_eq_true rfl) (wfX1_followOf_0 (Nat.le_refl _) t x1 G h ⟨rfl, rfl⟩)
abbrev mX1_token : zM := (cX1_token, RX1, 1, (some Jvm.ClassFile.FieldType.int), "token", [], "(I)I")
def fX1_token_0 (x0 : Int32)  (G : GS) : Option (((Int32) ⊕ String) × GS) :=
  zb3 (fX1_valid_0 x0 0 12 G) (fun v2 G3 => some (.inl v2, G3)) (fun X4 G5 => some (.inr X4, G5))
theorem wfX1_token_0 {F : zF} (hd : 8 ≤ F.2.2.2) (x0 : Int32)  (G : GS) {a : ((Int32) ⊕ String) × GS} (h : fX1_token_0 x0  G = some a) (hk : zKXI F a) : J mX1_token F G 0 [(0, vI x0)] [] := by
  unfold fX1_token_0 at h
  refine j_iload_n (j := 0) dX1_token_0 rfl rfl ?_
  refine j_iconst (v := 0) dX1_token_1 (by decide) ?_
  refine j_bipush (v := 12) dX1_token_2 (by decide) ?_
  replace h := zb3E h
  rcases h with ⟨v2, G3, e1, h⟩ | ⟨X4, G5, e1, h⟩
  · refine j_cont (zrS (As := [vI x0, vI 0, vI 12]) msX1_50 (yX1_valid_ok e1) (Nat.le_trans (Nat.le_of_ble_eq_true rfl) hd) rfl rfl (Nat.le_of_ble_eq_true rfl) dX1_token_4) ?_
    obtain rfl := Option.some.inj h
    exact j_iret hk.1 hk.2 rfl dX1_token_7
  · refine j_thr (zrS (As := [vI x0, vI 0, vI 12]) msX1_50 (yX1_valid_ok e1) (Nat.le_trans (Nat.le_of_ble_eq_true rfl) hd) rfl rfl (Nat.le_of_ble_eq_true rfl) dX1_token_4) ?_
    obtain rfl := Option.some.inj h
    exact jx_out hk.1 hk.2 (by decide)
theorem yX1_token_ok {x0 : Int32} {G : GS} {r : (Int32) ⊕ String} {G1 : GS} (h : fX1_token_0 x0 G = some (r, G1)) : zRuns yX1_token (ws_ yX1_token cX1_token 1 (some Jvm.ClassFile.FieldType.int)) [vI x0] (zout (fun v => some (vI v)) r, G, G1, 8) :=
  zentry (M := mX1_token) (plainFor_of_name (by decide +kernel)) ⟨rfl, rfl, rfl, rfl⟩ (Nat.le_of_ble_eq_true rfl) (wfX1_token_0 (Nat.le_refl _) x0 G h ⟨rfl, rfl⟩)
theorem fpX11_13_X11 : zFP RX11 13 9 1 (.int) true := ⟨(RX11, TX11, 3, tyX11), rfl, by decide, in_X11, tyX11_ok, nmX11, rfl, rfl, (by intro _; rfl), "SelahGenerator$Fault", Or.inl rfl, q2528⟩
theorem fpX11_16_X11 : zFP RX11 16 9 2 (.boolean) true := ⟨(RX11, TX11, 3, tyX11), rfl, by decide, in_X11, tyX11_ok, nmX11, rfl, rfl, (by intro _; rfl), "SelahGenerator$Fault", Or.inl rfl, q2530⟩
theorem fpX11_7_X11 : zFP RX11 7 9 0 (.int) true := ⟨(RX11, TX11, 3, tyX11), rfl, by decide, in_X11, tyX11_ok, nmX11, rfl, rfl, (by intro _; rfl), "SelahGenerator$Fault", Or.inl rfl, q2526⟩
abbrev mX11_init : zM := (cX11_init, RX11, 4, none, "<init>", [], "(IIZ)V")
def fX11_init_0 (t : Nat) (x1 : Int32) (x2 : Int32) (x3 : Int32)  (G : GS) : Option (GS) :=
  (zpI G 10 t 0 x1).bind fun G1 => (zpI G1 10 t 1 x2).bind fun G3 => (zpZ G3 10 t 2 x3).bind fun G5 => some G5
theorem wfX11_init_0 {F : zF} (hd : 2 ≤ F.2.2.2) (t : Nat) (x1 : Int32) (x2 : Int32) (x3 : Int32)  (G : GS) {a : GS} (h : fX11_init_0 t x1 x2 x3  G = some a) (hk : zKV F a) : J mX11_init F G 0 [(0, vR (some t)), (1, vI x1), (2, vI x2), (3, vI x3)] [] := by
  unfold fX11_init_0 at h
  refine j_aload_n (j := 0) dX11_init_0 rfl rfl ?_
  refine j_objinit q2525 q181 q182 (Nat.le_trans (Nat.le_of_ble_eq_true rfl) hd) (Nat.le_of_ble_eq_true rfl) dX11_init_1 ?_
  refine j_aload_n (j := 0) dX11_init_4 rfl rfl ?_
  refine j_iload_n (j := 1) dX11_init_5 rfl rfl ?_
  replace h := zbE h
  obtain ⟨G1, e2, h⟩ := h
  refine j_putI fpX11_7_X11 (Or.inr rfl) rfl dX11_init_6 e2 ?_
  refine j_aload_n (j := 0) dX11_init_9 rfl rfl ?_
  refine j_iload_n (j := 2) dX11_init_10 rfl rfl ?_
  replace h := zbE h
  obtain ⟨G3, e4, h⟩ := h
  refine j_putI fpX11_13_X11 (Or.inr rfl) rfl dX11_init_11 e4 ?_
  refine j_aload_n (j := 0) dX11_init_14 rfl rfl ?_
  refine j_iload_n (j := 3) dX11_init_15 rfl rfl ?_
  replace h := zbE h
  obtain ⟨G5, e6, h⟩ := h
  refine j_putZ fpX11_16_X11 (Or.inr rfl) rfl dX11_init_16 e6 ?_
  obtain rfl := Option.some.inj h
  exact j_vret hk.1 hk.2 rfl dX11_init_19
theorem yX11_init_ok {t : Nat} {x1 : Int32} {x2 : Int32} {x3 : Int32} {G : GS} {G1 : GS} (h : fX11_init_0 t x1 x2 x3 G = some G1) : zRuns yX11_init (ws_ yX11_init cX11_init 4 none) [vR (some t), vI x1, vI x2, vI x3] (.inl none, G, G1, 2) :=
  zentry (M := mX11_init) (plainFor_of_name (by decide +kernel)) ⟨rfl, rfl, rfl, rfl⟩ (Nat.le_of_ble_eq_true rfl) (wfX11_init_0 (Nat.le_refl _) t x1 x2 x3 G h ⟨rfl, rfl⟩)
theorem fgX10_32 : zFG RX10 32 8 4 (.object "java/util/List") := ⟨(RX10, TX10, 8, tyX10), rfl, by decide, in_X10, rfl, "SelahGenerator$Parse", Or.inl rfl, Or.inl q2472⟩
theorem fgX10_62 : zFG RX10 62 8 6 (.int) := ⟨(RX10, TX10, 8, tyX10), rfl, by decide, in_X10, rfl, "SelahGenerator$Parse", Or.inl rfl, Or.inl q2476⟩
theorem msX10_105 : zSI RX10 105 yX11_init cX11_init 4 3 := ⟨q2524, q172, q2522, q2523, rfl, (by decide +kernel), (by decide)⟩
theorem msX10_58_J2 : zSF RX10 58 RJ2 ⟨"java/util/List", "add", "(Ljava/lang/Object;)Z"⟩ yJ2_add cJ2_add 2 (some Jvm.ClassFile.FieldType.boolean) 1 := ⟨lw_F q2507 q1755 q1757 q126 q1759, zfw 5 rfl, ⟨11, _, rfl, rfl⟩, (by decide +kernel), (by decide)⟩
abbrev mX10_fault : zM := (cX10_fault, RX10, 3, none, "fault", [], "(IZ)V")
def fX10_fault_0 (t : Nat) (x1 : Int32) (x2 : Int32)  (G : GS) : Option (GS) :=
  (zgR G 9 t 4).bind fun r1 => zl (al G 10 0 3) fun G3 => (zgI G3 9 t 6).bind fun v5 => (fX11_init_0 (gz G) v5 x1 x2 G3).bind fun G8 => r1.bind fun a9 => zk [12] G8 a9 <| zb2 (fJ2_add_0 a9 (some (gz G)) G8) fun v13 G14 => some G14
theorem wfX10_fault_0 {F : zF} (hd : 8 ≤ F.2.2.2) (t : Nat) (x1 : Int32) (x2 : Int32)  (G : GS) {a : GS} (h : fX10_fault_0 t x1 x2  G = some a) (hk : zKV F a) : J mX10_fault F G 0 [(0, vR (some t)), (1, vI x1), (2, vI x2)] [] := by
  unfold fX10_fault_0 at h
  refine j_aload_n (j := 0) dX10_fault_0 rfl rfl ?_
  replace h := zbE h
  obtain ⟨r1, e2, h⟩ := h
  refine j_getR fgX10_32 (fun _ _ _ => rfl) dX10_fault_1 e2 ?_
  replace h := zlE h
  obtain ⟨G3, e4, h⟩ := h
  refine j_new (c := 9) (n := 3) (r := (RX11, TX11, 3, tyX11)) rfl rfl in_X11 tyX11_ok nwX11 q2520 q2521 q172 dX10_fault_4 ?_
  rw [show al G (9 + 1) 0 3 = G3 from e4.symm]
  refine j_dup dX10_fault_7 rfl ?_
  refine j_aload_n (j := 0) dX10_fault_8 rfl rfl ?_
  replace h := zbE h
  obtain ⟨v5, e6, h⟩ := h
  refine j_getI fgX10_62 (fun _ _ _ => rfl) dX10_fault_9 e6 ?_
  refine j_iload_n (j := 1) dX10_fault_12 rfl rfl ?_
  refine j_iload_n (j := 2) dX10_fault_13 rfl rfl ?_
  replace h := zbE h
  obtain ⟨G8, e7, h⟩ := h
  refine j_cont (zrI (As := [vI v5, vI x1, vI x2]) msX10_105 (yX11_init_ok e7) (Nat.le_trans (Nat.le_of_ble_eq_true rfl) hd) rfl rfl (Nat.le_of_ble_eq_true rfl) dX10_fault_14) ?_
  replace h := zbE h
  obtain ⟨a9, e10, h⟩ := h
  subst e10
  replace h := zkE h
  obtain ⟨e11, h⟩ := h
  replace h := zb2E h
  obtain ⟨v13, G14, e12, h⟩ := h
  refine j_cont (zrF (As := [vR (some (gz G))]) msX10_58_J2 (yJ2_add_ok e12) (Nat.le_trans (Nat.le_of_ble_eq_true rfl) hd) (zk_12 _ e11) rfl rfl (Nat.le_of_ble_eq_true rfl) dX10_fault_17) ?_
  refine j_pop dX10_fault_22 rfl ?_
  obtain rfl := Option.some.inj h
  exact j_vret hk.1 hk.2 rfl dX10_fault_23
theorem yX10_fault_ok {t : Nat} {x1 : Int32} {x2 : Int32} {G : GS} {G1 : GS} (h : fX10_fault_0 t x1 x2 G = some G1) : zRuns yX10_fault (ws_ yX10_fault cX10_fault 3 none) [vR (some t), vI x1, vI x2] (.inl none, G, G1, 8) :=
  zentry (M := mX10_fault) (plainFor_of_name (by decide +kernel)) ⟨rfl, rfl, rfl, rfl⟩ (Nat.le_of_ble_eq_true rfl) (wfX10_fault_0 (Nat.le_refl _) t x1 x2 G h ⟨rfl, rfl⟩)
abbrev mJ22_getEntryUsingComparator : zM := (cJ22_getEntryUsingComparator, RJ22, 6, (some (Jvm.ClassFile.FieldType.object "java/util/TreeMap$Entry")), "getEntryUsingComparator", [], "(Ljava/lang/Object;)Ljava/util/TreeMap$Entry;")
def fbJ22_getEntryUsingComparator_17 (x2 : Option Nat) (x3 : Option Nat) (x4 : Option Nat)  (G : GS) : Option (((Option Nat)) ⊕ (Option Nat)) :=
  zopt x4 (zo (some none)) (fun a1 => (zgR G 17 a1 0).bind fun r2 => none)
def flJ22_getEntryUsingComparator_17 (x2 : Option Nat) (x3 : Option Nat) (x4 : Option Nat) (G : GS) : Option (Option Nat) := zloop (fun s : (Option Nat) => fbJ22_getEntryUsingComparator_17 x2 x3 s G) (x4)
theorem wfbJ22_getEntryUsingComparator_17 {F : zF} (hd : 1 ≤ F.2.2.2) (x2 : Option Nat) (x3 : Option Nat) (x4 : Option Nat) (G : GS) {a : ((Option Nat)) ⊕ (Option Nat)} (h : fbJ22_getEntryUsingComparator_17 x2 x3 x4 G = some a) (hk : (zcase (fun s : (Option Nat) => J mJ22_getEntryUsingComparator F G 17 [(2, vR x2), (3, vR x3), (4, vR s)] []) (zKPR F G)) a) : J mJ22_getEntryUsingComparator F G 17 [(2, vR x2), (3, vR x3), (4, vR x4)] [] := by
  unfold fbJ22_getEntryUsingComparator_17 at h
  refine j_aload (j := 2) dJ22_getEntryUsingComparator_17 rfl ?_
  rcases x4 with _ | a1
  · replace h := zopt_n h
    refine j_ifnull0 (tgt := 72) dJ22_getEntryUsingComparator_19 (by decide) ?_
    replace h := zoE h
    obtain ⟨a, h, rfl⟩ := h
    replace hk := hk
    refine j_null dJ22_getEntryUsingComparator_72 ?_
    obtain rfl := Option.some.inj h
    exact j_aret hk.1 hk.2 rfl (Or.inl ⟨_, rfl⟩) dJ22_getEntryUsingComparator_73
  · replace h := zopt_s h
    refine j_ifnull1 dJ22_getEntryUsingComparator_19 ?_
    refine j_aload_n (j := 1) dJ22_getEntryUsingComparator_22 rfl rfl ?_
    refine j_aload_n (j := 0) dJ22_getEntryUsingComparator_23 rfl rfl ?_
    refine j_aload (j := 2) dJ22_getEntryUsingComparator_24 rfl ?_
    replace h := zbE h
    obtain ⟨r2, e3, h⟩ := h
    refine j_getR fgJ22_105 (fun _ _ _ => rfl) dJ22_getEntryUsingComparator_26 e3 ?_
    cases h
theorem wflJ22_getEntryUsingComparator_17 {F : zF} (hd : 1 ≤ F.2.2.2) (x2 : Option Nat) (x3 : Option Nat) (x4 : Option Nat) (G : GS) {a : Option Nat} (h : flJ22_getEntryUsingComparator_17 x2 x3 x4 G = some a) (hk : zKPR F G a) : J mJ22_getEntryUsingComparator F G 17 [(2, vR x2), (3, vR x3), (4, vR x4)] [] := by
  unfold flJ22_getEntryUsingComparator_17 at h
  exact zloop_walk (P := (fun s : (Option Nat) => J mJ22_getEntryUsingComparator F G 17 [(2, vR x2), (3, vR x3), (4, vR s)] [])) (fun s b e hk => wfbJ22_getEntryUsingComparator_17 hd x2 x3 s G e hk) (x4) _ h hk
def fJ22_getEntryUsingComparator_0 (t : Nat) (x1 : Option Nat)  (G : GS) : Option (Option Nat) :=
  (zgR G 16 t 2).bind fun r1 => zopt r1 (some none) (fun a3 => (zgR G 16 t 3).bind fun r4 => flJ22_getEntryUsingComparator_17 x1 (some a3) r4 G)
theorem wfJ22_getEntryUsingComparator_0 {F : zF} (hd : 1 ≤ F.2.2.2) (t : Nat) (x1 : Option Nat)  (G : GS) {a : Option Nat} (h : fJ22_getEntryUsingComparator_0 t x1  G = some a) (hk : zKPR F G a) : J mJ22_getEntryUsingComparator F G 0 [(0, vR (some t)), (1, vR x1)] [] := by
  unfold fJ22_getEntryUsingComparator_0 at h
  refine j_aload_n (j := 1) dJ22_getEntryUsingComparator_0 rfl rfl ?_
  refine j_astore_n (lv' := [(2, vR x1), (0, vR (some t)), (1, vR x1)]) dJ22_getEntryUsingComparator_1 rfl (Nat.le_of_ble_eq_true rfl) rfl ?_
  refine j_aload_n (j := 1) dJ22_getEntryUsingComparator_2 rfl rfl ?_
  replace h := zbE h
  obtain ⟨r1, e2, h⟩ := h
  refine j_getR fgJ22_16 (fun _ _ _ => rfl) dJ22_getEntryUsingComparator_3 e2 ?_
  refine j_astore_n (lv' := [(3, vR r1), (2, vR x1), (0, vR (some t)), (1, vR x1)]) dJ22_getEntryUsingComparator_6 rfl (Nat.le_of_ble_eq_true rfl) rfl ?_
  refine j_aload_n (j := 0) dJ22_getEntryUsingComparator_7 rfl rfl ?_
  rcases r1 with _ | a3
  · replace h := zopt_n h
    refine j_ifnull0 (tgt := 72) dJ22_getEntryUsingComparator_8 (by decide) ?_
    refine j_null dJ22_getEntryUsingComparator_72 ?_
    obtain rfl := Option.some.inj h
    exact j_aret hk.1 hk.2 rfl (Or.inl ⟨_, rfl⟩) dJ22_getEntryUsingComparator_73
  · replace h := zopt_s h
    refine j_ifnull1 dJ22_getEntryUsingComparator_8 ?_
    refine j_aload_n (j := 2) dJ22_getEntryUsingComparator_11 rfl rfl ?_
    replace h := zbE h
    obtain ⟨r4, e5, h⟩ := h
    refine j_getR fgJ22_101 (fun _ _ _ => rfl) dJ22_getEntryUsingComparator_12 e5 ?_
    refine j_astore (lv' := [(4, vR r4), (3, vR (some a3)), (2, vR x1), (0, vR (some t)), (1, vR x1)]) dJ22_getEntryUsingComparator_15 (Nat.le_of_ble_eq_true rfl) rfl ?_
    exact J.sub (zall [2, 1, 0] rfl) (wflJ22_getEntryUsingComparator_17 hd x1 (some a3) r4  G h hk)
theorem yJ22_getEntryUsingComparator_ok {t : Nat} {x1 : Option Nat} {G : GS} {r : Option Nat} (h : fJ22_getEntryUsingComparator_0 t x1 G = some r) : zRuns yJ22_getEntryUsingComparator (ws_ yJ22_getEntryUsingComparator cJ22_getEntryUsingComparator 6 (some (Jvm.ClassFile.FieldType.object "java/util/TreeMap$Entry"))) [vR (some t), vR x1] (.inl (some (vR r)), G, G, 1) :=
  zentry (M := mJ22_getEntryUsingComparator) (plainFor_of_name (by decide +kernel)) ⟨rfl, rfl, rfl, rfl⟩ (Nat.le_of_ble_eq_true rfl) (wfJ22_getEntryUsingComparator_0 (Nat.le_refl _) t x1 G h ⟨rfl, rfl⟩)
theorem msJ22_92 : zSV RJ22 92 RJ22 yJ22_getEntryUsingComparator cJ22_getEntryUsingComparator 6 (some (Jvm.ClassFile.FieldType.object "java/util/TreeMap$Entry")) 1 := ⟨lw_V q1927 q1928 q1929 q150 q1930, (by decide +kernel), (by decide)⟩
abbrev mJ22_getEntry : zM := (cJ22_getEntry, RJ22, 5, (some (Jvm.ClassFile.FieldType.object "java/util/TreeMap$Entry")), "getEntry", [], "(Ljava/lang/Object;)Ljava/util/TreeMap$Entry;")
def fJ22_getEntry_72 (x2 : Option Nat) (x3 : Option Nat)  (G : GS) : Option (((Option Nat)) ⊕ ((Option Nat) × GS)) :=
  some (.inl (x3))
theorem wfJ22_getEntry_72 {F : zF} (hd : 4 ≤ F.2.2.2) (x2 : Option Nat) (x3 : Option Nat)  (G : GS) {a : ((Option Nat)) ⊕ ((Option Nat) × GS)} (h : fJ22_getEntry_72 x2 x3  G = some a) (hk : (zcase (fun s : (Option Nat) => J mJ22_getEntry F G 28 [(2, vR x2), (3, vR s)] []) (zKR F)) a) : J mJ22_getEntry F G 72 [(2, vR x2), (3, vR x3)] [] := by
  unfold fJ22_getEntry_72 at h
  refine j_goto (tgt := 28) dJ22_getEntry_72 (by decide) ?_
  obtain rfl := Option.some.inj h
  exact J.sub (zall [0, 1] rfl) hk
def fbJ22_getEntry_28 (x2 : Option Nat) (x3 : Option Nat)  (G : GS) : Option (((Option Nat)) ⊕ ((Option Nat) × GS)) :=
  zopt x3 (zo (some (none, G))) (fun a1 => (zgR G 17 a1 0).bind fun r2 => x2.bind fun a4 => zk [21, 61] G a4 <| (fJ26_compareTo_0 a4 r2 G).bind fun v8 => if 0 ≤ v8 then (if v8 ≤ 0 then (zo (some ((some a1), G))) else ((zgR G 17 a1 3).bind fun r11 => fJ22_getEntry_72 (some a4) r11 G)) else ((zgR G 17 a1 2).bind fun r13 => fJ22_getEntry_72 (some a4) r13 G))
def flJ22_getEntry_28 (x2 : Option Nat) (x3 : Option Nat) (G : GS) : Option ((Option Nat) × GS) := zloop (fun s : (Option Nat) => fbJ22_getEntry_28 x2 s G) (x3)
theorem wfbJ22_getEntry_28 {F : zF} (hd : 4 ≤ F.2.2.2) (x2 : Option Nat) (x3 : Option Nat) (G : GS) {a : ((Option Nat)) ⊕ ((Option Nat) × GS)} (h : fbJ22_getEntry_28 x2 x3 G = some a) (hk : (zcase (fun s : (Option Nat) => J mJ22_getEntry F G 28 [(2, vR x2), (3, vR s)] []) (zKR F)) a) : J mJ22_getEntry F G 28 [(2, vR x2), (3, vR x3)] [] := by
  unfold fbJ22_getEntry_28 at h
  refine j_aload_n (j := 1) dJ22_getEntry_28 rfl rfl ?_
  rcases x3 with _ | a1
  · replace h := zopt_n h
    refine j_ifnull0 (tgt := 75) dJ22_getEntry_29 (by decide) ?_
    replace h := zoE h
    obtain ⟨a, h, rfl⟩ := h
    replace hk := hk
    refine j_null dJ22_getEntry_75 ?_
    obtain rfl := Option.some.inj h
    exact j_aret hk.1 hk.2 rfl (Or.inl ⟨_, rfl⟩) dJ22_getEntry_76
  · replace h := zopt_s h
    refine j_ifnull1 dJ22_getEntry_29 ?_
    refine j_aload_n (j := 0) dJ22_getEntry_32 rfl rfl ?_
    refine j_aload_n (j := 1) dJ22_getEntry_33 rfl rfl ?_
    replace h := zbE h
    obtain ⟨r2, e3, h⟩ := h
    refine j_getR fgJ22_105 (fun _ _ _ => rfl) dJ22_getEntry_34 e3 ?_
    replace h := zbE h
    obtain ⟨a4, e5, h⟩ := h
    subst e5
    replace h := zkE h
    obtain ⟨e6, h⟩ := h
    replace h := zbE h
    obtain ⟨v8, e7, h⟩ := h
    refine j_cont (zrF (As := [vR r2]) msJ22_107_J26 (yJ26_compareTo_ok e7) (Nat.le_trans (Nat.le_of_ble_eq_true rfl) hd) (zk_21_61 _ e6) rfl rfl (Nat.le_of_ble_eq_true rfl) dJ22_getEntry_37) ?_
    refine j_istore (lv' := [(4, vI v8), (2, vR (some a4)), (3, vR (some a1))]) dJ22_getEntry_42 (Nat.le_of_ble_eq_true rfl) rfl ?_
    refine j_iload (j := 0) dJ22_getEntry_44 rfl ?_
    refine j_if_ge (tgt := 57) dJ22_getEntry_46 (by decide) (fun c9 => ?_) (fun c9 => ?_)
    · rw [if_pos c9] at h
      refine j_iload (j := 0) dJ22_getEntry_57 rfl ?_
      refine j_if_le (tgt := 70) dJ22_getEntry_59 (by decide) (fun c10 => ?_) (fun c10 => ?_)
      · rw [if_pos c10] at h
        replace h := zoE h
        obtain ⟨a, h, rfl⟩ := h
        replace hk := hk
        refine j_aload_n (j := 2) dJ22_getEntry_70 rfl rfl ?_
        obtain rfl := Option.some.inj h
        exact j_aret hk.1 hk.2 rfl (Or.inl ⟨_, rfl⟩) dJ22_getEntry_71
      · rw [if_neg c10] at h
        refine j_aload_n (j := 2) dJ22_getEntry_62 rfl rfl ?_
        replace h := zbE h
        obtain ⟨r11, e12, h⟩ := h
        refine j_getR fgJ22_114 (fun _ _ _ => rfl) dJ22_getEntry_63 e12 ?_
        refine j_astore_n (lv' := [(3, vR r11), (4, vI v8), (2, vR (some a4))]) dJ22_getEntry_66 rfl (Nat.le_of_ble_eq_true rfl) rfl ?_
        refine j_goto (tgt := 72) dJ22_getEntry_67 (by decide) ?_
        exact J.sub (zall [2, 0] rfl) (wfJ22_getEntry_72 hd (some a4) r11  G h hk)
    · rw [if_neg c9] at h
      refine j_aload_n (j := 2) dJ22_getEntry_49 rfl rfl ?_
      replace h := zbE h
      obtain ⟨r13, e14, h⟩ := h
      refine j_getR fgJ22_111 (fun _ _ _ => rfl) dJ22_getEntry_50 e14 ?_
      refine j_astore_n (lv' := [(3, vR r13), (4, vI v8), (2, vR (some a4))]) dJ22_getEntry_53 rfl (Nat.le_of_ble_eq_true rfl) rfl ?_
      refine j_goto (tgt := 72) dJ22_getEntry_54 (by decide) ?_
      exact J.sub (zall [2, 0] rfl) (wfJ22_getEntry_72 hd (some a4) r13  G h hk)
theorem wflJ22_getEntry_28 {F : zF} (hd : 4 ≤ F.2.2.2) (x2 : Option Nat) (x3 : Option Nat) (G : GS) {a : (Option Nat) × GS} (h : flJ22_getEntry_28 x2 x3 G = some a) (hk : zKR F a) : J mJ22_getEntry F G 28 [(2, vR x2), (3, vR x3)] [] := by
  unfold flJ22_getEntry_28 at h
  exact zloop_walk (P := (fun s : (Option Nat) => J mJ22_getEntry F G 28 [(2, vR x2), (3, vR s)] [])) (fun s b e hk => wfbJ22_getEntry_28 hd x2 s G e hk) (x3) _ h hk
def fJ22_getEntry_0 (t : Nat) (x1 : Option Nat)  (G : GS) : Option ((Option Nat) × GS) :=
  (zgR G 16 t 2).bind fun r1 => zopt r1 (zb2 (fJ16_requireNonNull_0 x1 G) fun r5 G6 => zkq [21, 61] G6 x1 ((zgR G6 16 t 3).bind fun r8 => flJ22_getEntry_28 x1 r8 G6)) (fun a3 => zk [16] G t <| (fJ22_getEntryUsingComparator_0 t x1 G).bind fun r13 => some (r13, G))
theorem wfJ22_getEntry_0 {F : zF} (hd : 4 ≤ F.2.2.2) (t : Nat) (x1 : Option Nat)  (G : GS) {a : (Option Nat) × GS} (h : fJ22_getEntry_0 t x1  G = some a) (hk : zKR F a) : J mJ22_getEntry F G 0 [(0, vR (some t)), (1, vR x1)] [] := by
  unfold fJ22_getEntry_0 at h
  refine j_aload_n (j := 0) dJ22_getEntry_0 rfl rfl ?_
  replace h := zbE h
  obtain ⟨r1, e2, h⟩ := h
  refine j_getR fgJ22_16 (fun _ _ _ => rfl) dJ22_getEntry_1 e2 ?_
  rcases r1 with _ | a3
  · replace h := zopt_n h
    refine j_ifnull0 (tgt := 13) dJ22_getEntry_4 (by decide) ?_
    refine j_aload_n (j := 1) dJ22_getEntry_13 rfl rfl ?_
    replace h := zb2E h
    obtain ⟨r5, G6, e4, h⟩ := h
    refine j_cont (zrS (As := [vR x1]) msJ22_95 (yJ16_requireNonNull_ok e4) (Nat.le_trans (Nat.le_of_ble_eq_true rfl) hd) rfl rfl (Nat.le_of_ble_eq_true rfl) dJ22_getEntry_14) ?_
    refine j_pop dJ22_getEntry_17 rfl ?_
    refine j_aload_n (j := 1) dJ22_getEntry_18 rfl rfl ?_
    replace h := zkqE h
    obtain ⟨e7, h⟩ := h
    refine j_castq (fun k => j_castN dJ22_getEntry_19 k) (fun b q10 k => j_cast (zk_21_61 _ (e7 b q10)) q1075 (zxw 25 rfl) dJ22_getEntry_19 k) ?_
    refine j_astore_n (lv' := [(2, vR x1), (0, vR (some t)), (1, vR x1)]) dJ22_getEntry_22 rfl (Nat.le_of_ble_eq_true rfl) rfl ?_
    refine j_aload_n (j := 1) dJ22_getEntry_23 rfl rfl ?_
    replace h := zbE h
    obtain ⟨r8, e9, h⟩ := h
    refine j_getR fgJ22_101 (fun _ _ _ => rfl) dJ22_getEntry_24 e9 ?_
    refine j_astore_n (lv' := [(3, vR r8), (2, vR x1), (0, vR (some t)), (1, vR x1)]) dJ22_getEntry_27 rfl (Nat.le_of_ble_eq_true rfl) rfl ?_
    exact J.sub (zall [1, 0] rfl) (wflJ22_getEntry_28 hd x1 r8  G6 h hk)
  · replace h := zopt_s h
    refine j_ifnull1 dJ22_getEntry_4 ?_
    refine j_aload_n (j := 0) dJ22_getEntry_7 rfl rfl ?_
    refine j_aload_n (j := 1) dJ22_getEntry_8 rfl rfl ?_
    replace h := zkE h
    obtain ⟨e11, h⟩ := h
    replace h := zbE h
    obtain ⟨r13, e12, h⟩ := h
    refine j_cont (zrV (As := [vR x1]) msJ22_92 (yJ22_getEntryUsingComparator_ok e12) (Nat.le_trans (Nat.le_of_ble_eq_true rfl) hd) (zk_16 _ e11) rfl rfl (Nat.le_of_ble_eq_true rfl) dJ22_getEntry_9) ?_
    obtain rfl := Option.some.inj h
    exact j_aret hk.1 hk.2 rfl (Or.inl ⟨_, rfl⟩) dJ22_getEntry_12
theorem yJ22_getEntry_ok {t : Nat} {x1 : Option Nat} {G : GS} {r : Option Nat} {G1 : GS} (h : fJ22_getEntry_0 t x1 G = some (r, G1)) : zRuns yJ22_getEntry (ws_ yJ22_getEntry cJ22_getEntry 5 (some (Jvm.ClassFile.FieldType.object "java/util/TreeMap$Entry"))) [vR (some t), vR x1] (.inl (some (vR r)), G, G1, 4) :=
  zentry (M := mJ22_getEntry) (plainFor_of_name (by decide +kernel)) ⟨rfl, rfl, rfl, rfl⟩ (Nat.le_of_ble_eq_true rfl) (wfJ22_getEntry_0 (Nat.le_refl _) t x1 G h ⟨rfl, rfl⟩)
theorem msJ22_50 : zSV RJ22 50 RJ22 yJ22_getEntry cJ22_getEntry 5 (some (Jvm.ClassFile.FieldType.object "java/util/TreeMap$Entry")) 1 := ⟨lw_V q1923 q1924 q1925 q150 q1926, (by decide +kernel), (by decide)⟩
abbrev mJ22_get : zM := (cJ22_get, RJ22, 3, (some (Jvm.ClassFile.FieldType.object "java/lang/Object")), "get", [], "(Ljava/lang/Object;)Ljava/lang/Object;")
def fJ22_get_0 (t : Nat) (x1 : Option Nat)  (G : GS) : Option ((Option Nat) × GS) :=
  zk [16] G t <| zb2 (fJ22_getEntry_0 t x1 G) fun r3 G4 => zopt r3 (some (none, G4)) (fun a5 => (zgR G4 17 a5 1).bind fun r6 => some (r6, G4))
theorem wfJ22_get_0 {F : zF} (hd : 5 ≤ F.2.2.2) (t : Nat) (x1 : Option Nat)  (G : GS) {a : (Option Nat) × GS} (h : fJ22_get_0 t x1  G = some a) (hk : zKR F a) : J mJ22_get F G 0 [(0, vR (some t)), (1, vR x1)] [] := by
  unfold fJ22_get_0 at h
  refine j_aload_n (j := 0) dJ22_get_0 rfl rfl ?_
  refine j_aload_n (j := 1) dJ22_get_1 rfl rfl ?_
  replace h := zkE h
  obtain ⟨e1, h⟩ := h
  replace h := zb2E h
  obtain ⟨r3, G4, e2, h⟩ := h
  refine j_cont (zrV (As := [vR x1]) msJ22_50 (yJ22_getEntry_ok e2) (Nat.le_trans (Nat.le_of_ble_eq_true rfl) hd) (zk_16 _ e1) rfl rfl (Nat.le_of_ble_eq_true rfl) dJ22_get_2) ?_
  refine j_astore_n (lv' := [(2, vR r3), (0, vR (some t)), (1, vR x1)]) dJ22_get_5 rfl (Nat.le_of_ble_eq_true rfl) rfl ?_
  refine j_aload_n (j := 0) dJ22_get_6 rfl rfl ?_
  rcases r3 with _ | a5
  · replace h := zopt_n h
    refine j_ifnonnull0 dJ22_get_7 ?_
    refine j_null dJ22_get_10 ?_
    refine j_goto (tgt := 18) dJ22_get_11 (by decide) ?_
    obtain rfl := Option.some.inj h
    exact j_aret hk.1 hk.2 rfl (Or.inl ⟨_, rfl⟩) dJ22_get_18
  · replace h := zopt_s h
    refine j_ifnonnull1 (tgt := 14) dJ22_get_7 (by decide) ?_
    refine j_aload_n (j := 0) dJ22_get_14 rfl rfl ?_
    replace h := zbE h
    obtain ⟨r6, e7, h⟩ := h
    refine j_getR fgJ22_58 (fun _ _ _ => rfl) dJ22_get_15 e7 ?_
    obtain rfl := Option.some.inj h
    exact j_aret hk.1 hk.2 rfl (Or.inl ⟨_, rfl⟩) dJ22_get_18
theorem yJ22_get_ok {t : Nat} {x1 : Option Nat} {G : GS} {r : Option Nat} {G1 : GS} (h : fJ22_get_0 t x1 G = some (r, G1)) : zRuns yJ22_get (ws_ yJ22_get cJ22_get 3 (some (Jvm.ClassFile.FieldType.object "java/lang/Object"))) [vR (some t), vR x1] (.inl (some (vR r)), G, G1, 5) :=
  zentry (M := mJ22_get) (plainFor_of_name (by decide +kernel)) ⟨rfl, rfl, rfl, rfl⟩ (Nat.le_of_ble_eq_true rfl) (wfJ22_get_0 (Nat.le_refl _) t x1 G h ⟨rfl, rfl⟩)
theorem msX5_191_J22 : zSF RX5 191 RJ22 ⟨"java/util/Map", "get", "(Ljava/lang/Object;)Ljava/lang/Object;"⟩ yJ22_get cJ22_get 3 (some (Jvm.ClassFile.FieldType.object "java/lang/Object")) 1 := ⟨lw_F q1915 q1918 q1920 q150 q1922, zfw 18 rfl, ⟨15, _, rfl, rfl⟩, (by decide +kernel), (by decide)⟩
abbrev mX5_predicted : zM := (cX5_predicted, RX5, 4, (some Jvm.ClassFile.FieldType.int), "predicted", [], "(II)I")
def fX5_predicted_0 (t : Nat) (x1 : Int32) (x2 : Int32)  (G : GS) : Option ((Int32) × GS) :=
  (zgR G 5 t 6).bind fun r1 => zb2 (fJ26_valueOf_0 ((13 * x1) + x2) G) fun r4 G5 => r1.bind fun a6 => zk [16] G5 a6 <| zb2 (fJ22_get_0 a6 r4 G5) fun r10 G11 => zkq [21, 61] G11 r10 (zopt r10 (some ((-1), G11)) (fun a13 => zk [21, 61] G11 a13 <| (fJ26_intValue_0 a13 G11).bind fun v16 => some (v16, G11)))
theorem wfX5_predicted_0 {F : zF} (hd : 6 ≤ F.2.2.2) (t : Nat) (x1 : Int32) (x2 : Int32)  (G : GS) {a : (Int32) × GS} (h : fX5_predicted_0 t x1 x2  G = some a) (hk : zKI F a) : J mX5_predicted F G 0 [(0, vR (some t)), (1, vI x1), (2, vI x2)] [] := by
  unfold fX5_predicted_0 at h
  refine j_aload_n (j := 0) dX5_predicted_0 rfl rfl ?_
  replace h := zbE h
  obtain ⟨r1, e2, h⟩ := h
  refine j_getR fgX5_27 (fun _ _ _ => rfl) dX5_predicted_1 e2 ?_
  refine j_bipush (v := 13) dX5_predicted_4 (by decide) ?_
  refine j_iload_n (j := 1) dX5_predicted_6 rfl rfl ?_
  refine j_imul dX5_predicted_7 ?_
  refine j_iload_n (j := 2) dX5_predicted_8 rfl rfl ?_
  refine j_iadd dX5_predicted_9 ?_
  replace h := zb2E h
  obtain ⟨r4, G5, e3, h⟩ := h
  refine j_cont (zrS (As := [vI ((13 * x1) + x2)]) msX5_179 (yJ26_valueOf_ok e3) (Nat.le_trans (Nat.le_of_ble_eq_true rfl) hd) rfl rfl (Nat.le_of_ble_eq_true rfl) dX5_predicted_10) ?_
  replace h := zbE h
  obtain ⟨a6, e7, h⟩ := h
  subst e7
  replace h := zkE h
  obtain ⟨e8, h⟩ := h
  replace h := zb2E h
  obtain ⟨r10, G11, e9, h⟩ := h
  refine j_cont (zrF (As := [vR r4]) msX5_191_J22 (yJ22_get_ok e9) (Nat.le_trans (Nat.le_of_ble_eq_true rfl) hd) (zk_16 _ e8) rfl rfl (Nat.le_of_ble_eq_true rfl) dX5_predicted_13) ?_
  replace h := zkqE h
  obtain ⟨e12, h⟩ := h
  refine j_castq (fun k => j_castN dX5_predicted_18 k) (fun b q17 k => j_castS (zk_21_61 _ (e12 b q17)) ⟨20, _, rfl, rfl⟩ q1144 dX5_predicted_18 k) ?_
  refine j_astore_n (lv' := [(3, vR r10), (0, vR (some t)), (1, vI x1), (2, vI x2)]) dX5_predicted_21 rfl (Nat.le_of_ble_eq_true rfl) rfl ?_
  refine j_aload_n (j := 0) dX5_predicted_22 rfl rfl ?_
  rcases r10 with _ | a13
  · replace h := zopt_n h
    refine j_ifnonnull0 dX5_predicted_23 ?_
    refine j_iconst (v := (-1)) dX5_predicted_26 (by decide) ?_
    refine j_goto (tgt := 34) dX5_predicted_27 (by decide) ?_
    obtain rfl := Option.some.inj h
    exact j_iret hk.1 hk.2 rfl dX5_predicted_34
  · replace h := zopt_s h
    refine j_ifnonnull1 (tgt := 30) dX5_predicted_23 (by decide) ?_
    refine j_aload_n (j := 0) dX5_predicted_30 rfl rfl ?_
    replace h := zkE h
    obtain ⟨e14, h⟩ := h
    replace h := zbE h
    obtain ⟨v16, e15, h⟩ := h
    refine j_cont (zrV (As := []) msX5_194 (yJ26_intValue_ok e15) (Nat.le_trans (Nat.le_of_ble_eq_true rfl) hd) (zk_21_61 _ e14) rfl rfl (Nat.le_of_ble_eq_true rfl) dX5_predicted_31) ?_
    obtain rfl := Option.some.inj h
    exact j_iret hk.1 hk.2 rfl dX5_predicted_34
theorem yX5_predicted_ok {t : Nat} {x1 : Int32} {x2 : Int32} {G : GS} {r : Int32} {G1 : GS} (h : fX5_predicted_0 t x1 x2 G = some (r, G1)) : zRuns yX5_predicted (ws_ yX5_predicted cX5_predicted 4 (some Jvm.ClassFile.FieldType.int)) [vR (some t), vI x1, vI x2] (.inl (some (vI r)), G, G1, 6) :=
  zentry (M := mX5_predicted) (plainFor_of_name (by decide +kernel)) ⟨rfl, rfl, rfl, rfl⟩ (Nat.le_of_ble_eq_true rfl) (wfX5_predicted_0 (Nat.le_refl _) t x1 x2 G h ⟨rfl, rfl⟩)
theorem msX7_117 : zSV RX7 117 RX8 yX8_has cX8_has 2 (some Jvm.ClassFile.FieldType.boolean) 1 := ⟨lw_V q1953 q1376 q1377 q169 q1378, (by decide +kernel), (by decide)⟩
abbrev mX7_predicted : zM := (cX7_predicted, RX7, 6, (some Jvm.ClassFile.FieldType.int), "predicted", [], "(III)I")
def fX7_predicted_70 (t : Nat) (x1 : Int32) (x2 : Int32) (x3 : Int32) (x4 : Int32) (x5 : Int32)  (G : GS) : Option ((Int32 × Int32) ⊕ (Int32)) :=
  some (.inl (x4, (x5 + 1)))
theorem wfX7_predicted_70 {F : zF} (hd : 4 ≤ F.2.2.2) (t : Nat) (x1 : Int32) (x2 : Int32) (x3 : Int32) (x4 : Int32) (x5 : Int32)  (G : GS) {a : (Int32 × Int32) ⊕ (Int32)} (h : fX7_predicted_70 t x1 x2 x3 x4 x5  G = some a) (hk : (zcase (fun s : Int32 × Int32 => J mX7_predicted F G 6 [(0, vR (some t)), (1, vI x1), (2, vI x2), (3, vI x3), (4, vI s.1), (5, vI s.2)] []) (zKPI F G)) a) : J mX7_predicted F G 70 [(0, vR (some t)), (1, vI x1), (2, vI x2), (3, vI x3), (4, vI x4), (5, vI x5)] [] := by
  unfold fX7_predicted_70 at h
  refine j_iinc (j := 5) (v := (x5 + 1)) (lv' := [(5, vI (x5 + 1)), (0, vR (some t)), (1, vI x1), (2, vI x2), (3, vI x3), (4, vI x4)]) dX7_predicted_70 rfl rfl (Nat.le_of_ble_eq_true rfl) rfl ?_
  refine j_goto (tgt := 6) dX7_predicted_73 (by decide) ?_
  obtain rfl := Option.some.inj h
  exact J.sub (zall [1, 2, 3, 4, 5, 0] rfl) hk
def fX7_predicted_68 (t : Nat) (x1 : Int32) (x2 : Int32) (x3 : Int32) (x5 : Int32) (s0 : Int32) (G : GS) : Option ((Int32 × Int32) ⊕ (Int32)) :=
  fX7_predicted_70 t x1 x2 x3 s0 x5 G
theorem wfX7_predicted_68 {F : zF} (hd : 4 ≤ F.2.2.2) (t : Nat) (x1 : Int32) (x2 : Int32) (x3 : Int32) (x5 : Int32) (s0 : Int32) (G : GS) {a : (Int32 × Int32) ⊕ (Int32)} (h : fX7_predicted_68 t x1 x2 x3 x5 s0 G = some a) (hk : (zcase (fun s : Int32 × Int32 => J mX7_predicted F G 6 [(0, vR (some t)), (1, vI x1), (2, vI x2), (3, vI x3), (4, vI s.1), (5, vI s.2)] []) (zKPI F G)) a) : J mX7_predicted F G 68 [(0, vR (some t)), (1, vI x1), (2, vI x2), (3, vI x3), (5, vI x5)] [vI s0] := by
  unfold fX7_predicted_68 at h
  refine j_istore (lv' := [(4, vI s0), (0, vR (some t)), (1, vI x1), (2, vI x2), (3, vI x3), (5, vI x5)]) dX7_predicted_68 (Nat.le_of_ble_eq_true rfl) rfl ?_
  exact J.sub (zall [1, 2, 3, 4, 0, 5] rfl) (wfX7_predicted_70 hd t x1 x2 x3 s0 x5  G h hk)
def fbX7_predicted_6 (t : Nat) (x1 : Int32) (x2 : Int32) (x3 : Int32) (x4 : Int32) (x5 : Int32)  (G : GS) : Option ((Int32 × Int32) ⊕ (Int32)) :=
  (zgR G 7 t 3).bind fun r1 => r1.bind fun a3 => (zln G a3).bind fun v5 => if v5 ≤ x5 then (zo (some x4)) else ((zgR G 7 t 0).bind fun r8 => r8.bind fun a10 => zk [12] G a10 <| (fJ2_get_0 a10 x5 G).bind fun r14 => zkq [3] G r14 (r14.bind fun a16 => (zgI G 3 a16 0).bind fun v18 => if v18 = x1 then ((zgR G 7 t 3).bind fun r21 => r21.bind fun a23 => (zaR G 55 a23 x5).bind fun r25 => (fX8_pair_0 x2 x3 G).bind fun v28 => r25.bind fun a29 => zk [8] G a29 <| (fX8_has_0 a29 v28 G).bind fun v33 => if v33 = 0 then (fX7_predicted_70 t x1 x2 x3 x4 x5 G) else (if x4 = (-1) then (fX7_predicted_68 t x1 x2 x3 x5 x5 G) else (fX7_predicted_68 t x1 x2 x3 x5 (-2) G))) else (fX7_predicted_70 t x1 x2 x3 x4 x5 G)))
def flX7_predicted_6 (t : Nat) (x1 : Int32) (x2 : Int32) (x3 : Int32) (x4 : Int32) (x5 : Int32) (G : GS) : Option (Int32) := zloop (fun s : Int32 × Int32 => fbX7_predicted_6 t x1 x2 x3 s.1 s.2 G) (x4, x5)
theorem wfbX7_predicted_6 {F : zF} (hd : 4 ≤ F.2.2.2) (t : Nat) (x1 : Int32) (x2 : Int32) (x3 : Int32) (x4 : Int32) (x5 : Int32) (G : GS) {a : (Int32 × Int32) ⊕ (Int32)} (h : fbX7_predicted_6 t x1 x2 x3 x4 x5 G = some a) (hk : (zcase (fun s : Int32 × Int32 => J mX7_predicted F G 6 [(0, vR (some t)), (1, vI x1), (2, vI x2), (3, vI x3), (4, vI s.1), (5, vI s.2)] []) (zKPI F G)) a) : J mX7_predicted F G 6 [(0, vR (some t)), (1, vI x1), (2, vI x2), (3, vI x3), (4, vI x4), (5, vI x5)] [] := by
  unfold fbX7_predicted_6 at h
  refine j_iload (j := 5) dX7_predicted_6 rfl ?_
  refine j_aload_n (j := 0) dX7_predicted_8 rfl rfl ?_
  replace h := zbE h
  obtain ⟨r1, e2, h⟩ := h
  refine j_getR fgX7_41 (fun _ _ _ => rfl) dX7_predicted_9 e2 ?_
  replace h := zbE h
  obtain ⟨a3, e4, h⟩ := h
  subst e4
  replace h := zbE h
  obtain ⟨v5, e6, h⟩ := h
  refine j_alen e6 dX7_predicted_12 ?_
  refine j_icmp_ge (tgt := 76) dX7_predicted_13 (by decide) (fun c7 => ?_) (fun c7 => ?_)
  · rw [if_pos c7] at h
    replace h := zoE h
    obtain ⟨a, h, rfl⟩ := h
    replace hk := hk
    refine j_iload (j := 4) dX7_predicted_76 rfl ?_
    obtain rfl := Option.some.inj h
    exact j_iret hk.1 hk.2 rfl dX7_predicted_78
  · rw [if_neg c7] at h
    refine j_aload_n (j := 0) dX7_predicted_16 rfl rfl ?_
    replace h := zbE h
    obtain ⟨r8, e9, h⟩ := h
    refine j_getR fgX7_31 (fun _ _ _ => rfl) dX7_predicted_17 e9 ?_
    refine j_iload (j := 5) dX7_predicted_20 rfl ?_
    replace h := zbE h
    obtain ⟨a10, e11, h⟩ := h
    subst e11
    replace h := zkE h
    obtain ⟨e12, h⟩ := h
    replace h := zbE h
    obtain ⟨r14, e13, h⟩ := h
    refine j_cont (zrF (As := [vI x5]) msX7_50_J2 (yJ2_get_ok e13) (Nat.le_trans (Nat.le_of_ble_eq_true rfl) hd) (zk_12 _ e12) rfl rfl (Nat.le_of_ble_eq_true rfl) dX7_predicted_22) ?_
    replace h := zkqE h
    obtain ⟨e15, h⟩ := h
    refine j_castq (fun k => j_castN dX7_predicted_27 k) (fun b q36 k => j_castS (zk_3 _ (e15 b q36)) ⟨2, _, rfl, rfl⟩ q1352 dX7_predicted_27 k) ?_
    replace h := zbE h
    obtain ⟨a16, e17, h⟩ := h
    subst e17
    replace h := zbE h
    obtain ⟨v18, e19, h⟩ := h
    refine j_getI fgX7_60 (fun _ _ _ => rfl) dX7_predicted_30 e19 ?_
    refine j_iload_n (j := 1) dX7_predicted_33 rfl rfl ?_
    refine j_icmp_ne (tgt := 70) dX7_predicted_34 (by decide) (fun c20 => ?_) (fun c20 => ?_)
    · rw [if_pos c20] at h
      refine j_aload_n (j := 0) dX7_predicted_37 rfl rfl ?_
      replace h := zbE h
      obtain ⟨r21, e22, h⟩ := h
      refine j_getR fgX7_41 (fun _ _ _ => rfl) dX7_predicted_38 e22 ?_
      refine j_iload (j := 5) dX7_predicted_41 rfl ?_
      replace h := zbE h
      obtain ⟨a23, e24, h⟩ := h
      subst e24
      replace h := zbE h
      obtain ⟨r25, e26, h⟩ := h
      refine j_aald (Or.inr (Or.inl rfl)) e26 dX7_predicted_43 ?_
      refine j_iload_n (j := 2) dX7_predicted_44 rfl rfl ?_
      refine j_iload_n (j := 3) dX7_predicted_45 rfl rfl ?_
      replace h := zbE h
      obtain ⟨v28, e27, h⟩ := h
      refine j_cont (zrS (As := [vI x2, vI x3]) msX7_109 (yX8_pair_ok e27) (Nat.le_trans (Nat.le_of_ble_eq_true rfl) hd) rfl rfl (Nat.le_of_ble_eq_true rfl) dX7_predicted_46) ?_
      replace h := zbE h
      obtain ⟨a29, e30, h⟩ := h
      subst e30
      replace h := zkE h
      obtain ⟨e31, h⟩ := h
      replace h := zbE h
      obtain ⟨v33, e32, h⟩ := h
      refine j_cont (zrV (As := [vI v28]) msX7_117 (yX8_has_ok e32) (Nat.le_trans (Nat.le_of_ble_eq_true rfl) hd) (zk_8 _ e31) rfl rfl (Nat.le_of_ble_eq_true rfl) dX7_predicted_49) ?_
      refine j_if_eq (tgt := 70) dX7_predicted_52 (by decide) (fun c34 => ?_) (fun c34 => ?_)
      · rw [if_pos c34] at h
        exact J.sub (zall [0, 1, 2, 3, 4, 5] rfl) (wfX7_predicted_70 hd t x1 x2 x3 x4 x5  G h hk)
      · rw [if_neg c34] at h
        refine j_iload (j := 4) dX7_predicted_55 rfl ?_
        refine j_iconst (v := (-1)) dX7_predicted_57 (by decide) ?_
        refine j_icmp_ne (tgt := 66) dX7_predicted_58 (by decide) (fun c35 => ?_) (fun c35 => ?_)
        · rw [if_pos c35] at h
          refine j_iload (j := 5) dX7_predicted_61 rfl ?_
          refine j_goto (tgt := 68) dX7_predicted_63 (by decide) ?_
          exact J.sub (zall [0, 1, 2, 3, 5] rfl) (wfX7_predicted_68 hd t x1 x2 x3 x5 x5 G h hk)
        · rw [if_neg c35] at h
          refine j_bipush (v := (-2)) dX7_predicted_66 (by decide) ?_
          exact J.sub (zall [0, 1, 2, 3, 5] rfl) (wfX7_predicted_68 hd t x1 x2 x3 x5 (-2) G h hk)
    · rw [if_neg c20] at h
      exact J.sub (zall [0, 1, 2, 3, 4, 5] rfl) (wfX7_predicted_70 hd t x1 x2 x3 x4 x5  G h hk)
theorem wflX7_predicted_6 {F : zF} (hd : 4 ≤ F.2.2.2) (t : Nat) (x1 : Int32) (x2 : Int32) (x3 : Int32) (x4 : Int32) (x5 : Int32) (G : GS) {a : Int32} (h : flX7_predicted_6 t x1 x2 x3 x4 x5 G = some a) (hk : zKPI F G a) : J mX7_predicted F G 6 [(0, vR (some t)), (1, vI x1), (2, vI x2), (3, vI x3), (4, vI x4), (5, vI x5)] [] := by
  unfold flX7_predicted_6 at h
  exact zloop_walk (P := (fun s : Int32 × Int32 => J mX7_predicted F G 6 [(0, vR (some t)), (1, vI x1), (2, vI x2), (3, vI x3), (4, vI s.1), (5, vI s.2)] [])) (fun s b e hk => wfbX7_predicted_6 hd t x1 x2 x3 s.1 s.2 G e hk) (x4, x5) _ h hk
def fX7_predicted_0 (t : Nat) (x1 : Int32) (x2 : Int32) (x3 : Int32)  (G : GS) : Option (Int32) :=
  flX7_predicted_6 t x1 x2 x3 (-1) 0 G
theorem wfX7_predicted_0 {F : zF} (hd : 4 ≤ F.2.2.2) (t : Nat) (x1 : Int32) (x2 : Int32) (x3 : Int32)  (G : GS) {a : Int32} (h : fX7_predicted_0 t x1 x2 x3  G = some a) (hk : zKPI F G a) : J mX7_predicted F G 0 [(0, vR (some t)), (1, vI x1), (2, vI x2), (3, vI x3)] [] := by
  unfold fX7_predicted_0 at h
  refine j_iconst (v := (-1)) dX7_predicted_0 (by decide) ?_
  refine j_istore (lv' := [(4, vI (-1)), (0, vR (some t)), (1, vI x1), (2, vI x2), (3, vI x3)]) dX7_predicted_1 (Nat.le_of_ble_eq_true rfl) rfl ?_
  refine j_iconst (v := 0) dX7_predicted_3 (by decide) ?_
  refine j_istore (lv' := [(5, vI 0), (4, vI (-1)), (0, vR (some t)), (1, vI x1), (2, vI x2), (3, vI x3)]) dX7_predicted_4 (Nat.le_of_ble_eq_true rfl) rfl ?_
  exact J.sub (zall [2, 3, 4, 5, 1, 0] rfl) (wflX7_predicted_6 hd t x1 x2 x3 (-1) 0  G h hk)
theorem yX7_predicted_ok {t : Nat} {x1 : Int32} {x2 : Int32} {x3 : Int32} {G : GS} {r : Int32} (h : fX7_predicted_0 t x1 x2 x3 G = some r) : zRuns yX7_predicted (ws_ yX7_predicted cX7_predicted 6 (some Jvm.ClassFile.FieldType.int)) [vR (some t), vI x1, vI x2, vI x3] (.inl (some (vI r)), G, G, 4) :=
  zentry (M := mX7_predicted) (plainFor_of_name (by decide +kernel)) ⟨rfl, rfl, rfl, rfl⟩ (Nat.le_of_ble_eq_true rfl) (wfX7_predicted_0 (Nat.le_refl _) t x1 x2 x3 G h ⟨rfl, rfl⟩)
abbrev mJ20_inc : zM := (cJ20_inc, RJ20, 2, (some Jvm.ClassFile.FieldType.int), "inc", [], "(II)I")
def fJ20_inc_0 (x0 : Int32) (x1 : Int32)  (G : GS) : Option (Int32) :=
  if (x0 + 1) < x1 then (some (x0 + 1)) else (some 0)
theorem wfJ20_inc_0 {F : zF} (hd : 1 ≤ F.2.2.2) (x0 : Int32) (x1 : Int32)  (G : GS) {a : Int32} (h : fJ20_inc_0 x0 x1  G = some a) (hk : zKPI F G a) : J mJ20_inc F G 0 [(0, vI x0), (1, vI x1)] [] := by
  unfold fJ20_inc_0 at h
  refine j_iinc (j := 0) (v := (x0 + 1)) (lv' := [(0, vI (x0 + 1)), (1, vI x1)]) dJ20_inc_0 rfl rfl (Nat.le_of_ble_eq_true rfl) rfl ?_
  refine j_iload_n (j := 0) dJ20_inc_3 rfl rfl ?_
  refine j_iload_n (j := 1) dJ20_inc_4 rfl rfl ?_
  refine j_icmp_lt (tgt := 10) dJ20_inc_5 (by decide) (fun c1 => ?_) (fun c1 => ?_)
  · rw [if_pos c1] at h
    refine j_iload_n (j := 0) dJ20_inc_10 rfl rfl ?_
    obtain rfl := Option.some.inj h
    exact j_iret hk.1 hk.2 rfl dJ20_inc_11
  · rw [if_neg c1] at h
    refine j_iconst (v := 0) dJ20_inc_8 (by decide) ?_
    refine j_istore_n (lv' := [(0, vI 0), (1, vI x1)]) dJ20_inc_9 rfl (Nat.le_of_ble_eq_true rfl) rfl ?_
    refine j_iload_n (j := 0) dJ20_inc_10 rfl rfl ?_
    obtain rfl := Option.some.inj h
    exact j_iret hk.1 hk.2 rfl dJ20_inc_11
theorem yJ20_inc_ok {x0 : Int32} {x1 : Int32} {G : GS} {r : Int32} (h : fJ20_inc_0 x0 x1 G = some r) : zRuns yJ20_inc (ws_ yJ20_inc cJ20_inc 2 (some Jvm.ClassFile.FieldType.int)) [vI x0, vI x1] (.inl (some (vI r)), G, G, 1) :=
  zentry (M := mJ20_inc) (plainFor_of_name (by decide +kernel)) ⟨rfl, rfl, rfl, rfl⟩ (Nat.le_of_ble_eq_true rfl) (wfJ20_inc_0 (Nat.le_refl _) x0 x1 G h ⟨rfl, rfl⟩)
theorem fpJ20_24_J20 : zFP RJ20 24 13 1 (.int) false := ⟨(RJ20, TJ20, 3, tyJ20), rfl, by decide, in_J20, tyJ20_ok, nmJ20, rfl, rfl, (by decide), "java/util/ArrayDeque", Or.inl rfl, q2425⟩
theorem msJ20_74 : zSS RJ20 74 yJ20_inc cJ20_inc 2 (some Jvm.ClassFile.FieldType.int) 2 := ⟨lw_S q384 q357 q148 q358, (by decide +kernel), (by decide)⟩
abbrev mJ20_pollFirst : zM := (cJ20_pollFirst, RJ20, 4, (some (Jvm.ClassFile.FieldType.object "java/lang/Object")), "pollFirst", [], "()Ljava/lang/Object;")
def fJ20_pollFirst_0 (t : Nat)  (G : GS) : Option ((Option Nat) × GS) :=
  (zgR G 14 t 0).bind fun r1 => (zgI G 14 t 1).bind fun v3 => (fJ20_elementAt_0 r1 v3 G).bind fun r6 => zopt r6 (some (none, G)) (fun a7 => r1.bind fun a8 => (zsR G 54 a8 v3 (none : Option Nat) [3]).bind fun G10 => (zln G10 a8).bind fun v12 => (fJ20_inc_0 v3 v12 G10).bind fun v15 => (zpI G10 14 t 1 v15).bind fun G16 => some ((some a7), G16))
theorem wfJ20_pollFirst_0 {F : zF} (hd : 2 ≤ F.2.2.2) (t : Nat)  (G : GS) {a : (Option Nat) × GS} (h : fJ20_pollFirst_0 t  G = some a) (hk : zKR F a) : J mJ20_pollFirst F G 0 [(0, vR (some t))] [] := by
  unfold fJ20_pollFirst_0 at h
  refine j_aload_n (j := 0) dJ20_pollFirst_0 rfl rfl ?_
  replace h := zbE h
  obtain ⟨r1, e2, h⟩ := h
  refine j_getR fgJ20_3 (fun _ _ _ => rfl) dJ20_pollFirst_1 e2 ?_
  refine j_dup dJ20_pollFirst_4 rfl ?_
  refine j_astore_n (lv' := [(1, vR r1), (0, vR (some t))]) dJ20_pollFirst_5 rfl (Nat.le_of_ble_eq_true rfl) rfl ?_
  refine j_aload_n (j := 1) dJ20_pollFirst_6 rfl rfl ?_
  replace h := zbE h
  obtain ⟨v3, e4, h⟩ := h
  refine j_getI fgJ20_24 (fun _ _ _ => rfl) dJ20_pollFirst_7 e4 ?_
  refine j_dup dJ20_pollFirst_10 rfl ?_
  refine j_istore_n (lv' := [(2, vI v3), (1, vR r1), (0, vR (some t))]) dJ20_pollFirst_11 rfl (Nat.le_of_ble_eq_true rfl) rfl ?_
  replace h := zbE h
  obtain ⟨r6, e5, h⟩ := h
  refine j_cont (zrS (As := [vR r1, vI v3]) msJ20_103 (yJ20_elementAt_ok e5) (Nat.le_trans (Nat.le_of_ble_eq_true rfl) hd) rfl rfl (Nat.le_of_ble_eq_true rfl) dJ20_pollFirst_12) ?_
  refine j_astore_n (lv' := [(3, vR r6), (2, vI v3), (1, vR r1), (0, vR (some t))]) dJ20_pollFirst_15 rfl (Nat.le_of_ble_eq_true rfl) rfl ?_
  refine j_aload_n (j := 0) dJ20_pollFirst_16 rfl rfl ?_
  rcases r6 with _ | a7
  · replace h := zopt_n h
    refine j_ifnull0 (tgt := 34) dJ20_pollFirst_17 (by decide) ?_
    refine j_aload_n (j := 0) dJ20_pollFirst_34 rfl rfl ?_
    obtain rfl := Option.some.inj h
    exact j_aret hk.1 hk.2 rfl (Or.inl ⟨_, rfl⟩) dJ20_pollFirst_35
  · replace h := zopt_s h
    refine j_ifnull1 dJ20_pollFirst_17 ?_
    refine j_aload_n (j := 2) dJ20_pollFirst_20 rfl rfl ?_
    refine j_iload_n (j := 1) dJ20_pollFirst_21 rfl rfl ?_
    refine j_null dJ20_pollFirst_22 ?_
    replace h := zbE h
    obtain ⟨a8, e9, h⟩ := h
    subst e9
    replace h := zbE h
    obtain ⟨G10, e11, h⟩ := h
    refine j_aast (t := 4) rfl e11 (fun k hk => ⟨_, zk_3 k hk, (Or.inl (zxw 93 rfl))⟩) dJ20_pollFirst_23 ?_
    refine j_aload_n (j := 3) dJ20_pollFirst_24 rfl rfl ?_
    refine j_iload_n (j := 1) dJ20_pollFirst_25 rfl rfl ?_
    refine j_aload_n (j := 2) dJ20_pollFirst_26 rfl rfl ?_
    replace h := zbE h
    obtain ⟨v12, e13, h⟩ := h
    refine j_alen e13 dJ20_pollFirst_27 ?_
    replace h := zbE h
    obtain ⟨v15, e14, h⟩ := h
    refine j_cont (zrS (As := [vI v3, vI v12]) msJ20_74 (yJ20_inc_ok e14) (Nat.le_trans (Nat.le_of_ble_eq_true rfl) hd) rfl rfl (Nat.le_of_ble_eq_true rfl) dJ20_pollFirst_28) ?_
    replace h := zbE h
    obtain ⟨G16, e17, h⟩ := h
    refine j_putI fpJ20_24_J20 (Or.inl rfl) rfl dJ20_pollFirst_31 e17 ?_
    refine j_aload_n (j := 0) dJ20_pollFirst_34 rfl rfl ?_
    obtain rfl := Option.some.inj h
    exact j_aret hk.1 hk.2 rfl (Or.inl ⟨_, rfl⟩) dJ20_pollFirst_35
theorem yJ20_pollFirst_ok {t : Nat} {G : GS} {r : Option Nat} {G1 : GS} (h : fJ20_pollFirst_0 t G = some (r, G1)) : zRuns yJ20_pollFirst (ws_ yJ20_pollFirst cJ20_pollFirst 4 (some (Jvm.ClassFile.FieldType.object "java/lang/Object"))) [vR (some t)] (.inl (some (vR r)), G, G1, 2) :=
  zentry (M := mJ20_pollFirst) (plainFor_of_name (by decide +kernel)) ⟨rfl, rfl, rfl, rfl⟩ (Nat.le_of_ble_eq_true rfl) (wfJ20_pollFirst_0 (Nat.le_refl _) t G h ⟨rfl, rfl⟩)
theorem msJ20_93 : zSV RJ20 93 RJ20 yJ20_pollFirst cJ20_pollFirst 4 (some (Jvm.ClassFile.FieldType.object "java/lang/Object")) 0 := ⟨lw_V q377 q378 q379 q148 q380, (by decide +kernel), (by decide)⟩
abbrev mJ20_removeFirst : zM := (cJ20_removeFirst, RJ20, 2, (some (Jvm.ClassFile.FieldType.object "java/lang/Object")), "removeFirst", [], "()Ljava/lang/Object;")
def fJ20_removeFirst_0 (t : Nat)  (G : GS) : Option ((Option Nat) × GS) :=
  zk [14] G t <| zb2 (fJ20_pollFirst_0 t G) fun r3 G4 => zopt r3 none (fun a5 => some ((some a5), G4))
theorem wfJ20_removeFirst_0 {F : zF} (hd : 3 ≤ F.2.2.2) (t : Nat)  (G : GS) {a : (Option Nat) × GS} (h : fJ20_removeFirst_0 t  G = some a) (hk : zKR F a) : J mJ20_removeFirst F G 0 [(0, vR (some t))] [] := by
  unfold fJ20_removeFirst_0 at h
  refine j_aload_n (j := 0) dJ20_removeFirst_0 rfl rfl ?_
  replace h := zkE h
  obtain ⟨e1, h⟩ := h
  replace h := zb2E h
  obtain ⟨r3, G4, e2, h⟩ := h
  refine j_cont (zrV (As := []) msJ20_93 (yJ20_pollFirst_ok e2) (Nat.le_trans (Nat.le_of_ble_eq_true rfl) hd) (zk_14 _ e1) rfl rfl (Nat.le_of_ble_eq_true rfl) dJ20_removeFirst_1) ?_
  refine j_astore_n (lv' := [(1, vR r3), (0, vR (some t))]) dJ20_removeFirst_4 rfl (Nat.le_of_ble_eq_true rfl) rfl ?_
  refine j_aload_n (j := 0) dJ20_removeFirst_5 rfl rfl ?_
  rcases r3 with _ | a5
  · replace h := zopt_n h
    refine j_ifnonnull0 dJ20_removeFirst_6 ?_
    cases h
  · replace h := zopt_s h
    refine j_ifnonnull1 (tgt := 17) dJ20_removeFirst_6 (by decide) ?_
    refine j_aload_n (j := 0) dJ20_removeFirst_17 rfl rfl ?_
    obtain rfl := Option.some.inj h
    exact j_aret hk.1 hk.2 rfl (Or.inl ⟨_, rfl⟩) dJ20_removeFirst_18
theorem yJ20_removeFirst_ok {t : Nat} {G : GS} {r : Option Nat} {G1 : GS} (h : fJ20_removeFirst_0 t G = some (r, G1)) : zRuns yJ20_removeFirst (ws_ yJ20_removeFirst cJ20_removeFirst 2 (some (Jvm.ClassFile.FieldType.object "java/lang/Object"))) [vR (some t)] (.inl (some (vR r)), G, G1, 3) :=
  zentry (M := mJ20_removeFirst) (plainFor_of_name (by decide +kernel)) ⟨rfl, rfl, rfl, rfl⟩ (Nat.le_of_ble_eq_true rfl) (wfJ20_removeFirst_0 (Nat.le_refl _) t G h ⟨rfl, rfl⟩)
theorem msJ20_118 : zSV RJ20 118 RJ20 yJ20_removeFirst cJ20_removeFirst 2 (some (Jvm.ClassFile.FieldType.object "java/lang/Object")) 0 := ⟨lw_V q2553 q2554 q2555 q148 q2556, (by decide +kernel), (by decide)⟩
abbrev mJ20_pop : zM := (cJ20_pop, RJ20, 1, (some (Jvm.ClassFile.FieldType.object "java/lang/Object")), "pop", [], "()Ljava/lang/Object;")
def fJ20_pop_0 (t : Nat)  (G : GS) : Option ((Option Nat) × GS) :=
  zk [14] G t <| zb2 (fJ20_removeFirst_0 t G) fun r3 G4 => some (r3, G4)
theorem wfJ20_pop_0 {F : zF} (hd : 4 ≤ F.2.2.2) (t : Nat)  (G : GS) {a : (Option Nat) × GS} (h : fJ20_pop_0 t  G = some a) (hk : zKR F a) : J mJ20_pop F G 0 [(0, vR (some t))] [] := by
  unfold fJ20_pop_0 at h
  refine j_aload_n (j := 0) dJ20_pop_0 rfl rfl ?_
  replace h := zkE h
  obtain ⟨e1, h⟩ := h
  replace h := zb2E h
  obtain ⟨r3, G4, e2, h⟩ := h
  refine j_cont (zrV (As := []) msJ20_118 (yJ20_removeFirst_ok e2) (Nat.le_trans (Nat.le_of_ble_eq_true rfl) hd) (zk_14 _ e1) rfl rfl (Nat.le_of_ble_eq_true rfl) dJ20_pop_1) ?_
  obtain rfl := Option.some.inj h
  exact j_aret hk.1 hk.2 rfl (Or.inl ⟨_, rfl⟩) dJ20_pop_4
theorem yJ20_pop_ok {t : Nat} {G : GS} {r : Option Nat} {G1 : GS} (h : fJ20_pop_0 t G = some (r, G1)) : zRuns yJ20_pop (ws_ yJ20_pop cJ20_pop 1 (some (Jvm.ClassFile.FieldType.object "java/lang/Object"))) [vR (some t)] (.inl (some (vR r)), G, G1, 4) :=
  zentry (M := mJ20_pop) (plainFor_of_name (by decide +kernel)) ⟨rfl, rfl, rfl, rfl⟩ (Nat.le_of_ble_eq_true rfl) (wfJ20_pop_0 (Nat.le_refl _) t G h ⟨rfl, rfl⟩)
abbrev mJ20_dec : zM := (cJ20_dec, RJ20, 2, (some Jvm.ClassFile.FieldType.int), "dec", [], "(II)I")
def fJ20_dec_0 (x0 : Int32) (x1 : Int32)  (G : GS) : Option (Int32) :=
  if 0 ≤ (x0 + (-1)) then (some (x0 + (-1))) else (some (x1 - 1))
theorem wfJ20_dec_0 {F : zF} (hd : 1 ≤ F.2.2.2) (x0 : Int32) (x1 : Int32)  (G : GS) {a : Int32} (h : fJ20_dec_0 x0 x1  G = some a) (hk : zKPI F G a) : J mJ20_dec F G 0 [(0, vI x0), (1, vI x1)] [] := by
  unfold fJ20_dec_0 at h
  refine j_iinc (j := 0) (v := (x0 + (-1))) (lv' := [(0, vI (x0 + (-1))), (1, vI x1)]) dJ20_dec_0 rfl rfl (Nat.le_of_ble_eq_true rfl) rfl ?_
  refine j_iload_n (j := 0) dJ20_dec_3 rfl rfl ?_
  refine j_if_ge (tgt := 11) dJ20_dec_4 (by decide) (fun c1 => ?_) (fun c1 => ?_)
  · rw [if_pos c1] at h
    refine j_iload_n (j := 0) dJ20_dec_11 rfl rfl ?_
    obtain rfl := Option.some.inj h
    exact j_iret hk.1 hk.2 rfl dJ20_dec_12
  · rw [if_neg c1] at h
    refine j_iload_n (j := 1) dJ20_dec_7 rfl rfl ?_
    refine j_iconst (v := 1) dJ20_dec_8 (by decide) ?_
    refine j_isub dJ20_dec_9 ?_
    refine j_istore_n (lv' := [(0, vI (x1 - 1)), (1, vI x1)]) dJ20_dec_10 rfl (Nat.le_of_ble_eq_true rfl) rfl ?_
    refine j_iload_n (j := 0) dJ20_dec_11 rfl rfl ?_
    obtain rfl := Option.some.inj h
    exact j_iret hk.1 hk.2 rfl dJ20_dec_12
theorem yJ20_dec_ok {x0 : Int32} {x1 : Int32} {G : GS} {r : Int32} (h : fJ20_dec_0 x0 x1 G = some r) : zRuns yJ20_dec (ws_ yJ20_dec cJ20_dec 2 (some Jvm.ClassFile.FieldType.int)) [vI x0, vI x1] (.inl (some (vI r)), G, G, 1) :=
  zentry (M := mJ20_dec) (plainFor_of_name (by decide +kernel)) ⟨rfl, rfl, rfl, rfl⟩ (Nat.le_of_ble_eq_true rfl) (wfJ20_dec_0 (Nat.le_refl _) x0 x1 G h ⟨rfl, rfl⟩)
abbrev mJ20_newCapacity : zM := (cJ20_newCapacity, RJ20, 5, (some Jvm.ClassFile.FieldType.int), "newCapacity", [], "(II)I")
def fJ20_newCapacity_0 (t : Nat) (x1 : Int32) (x2 : Int32)  (G : GS) : Option ((Int32) × GS) :=
  (zgR G 14 t 0).bind fun r1 => r1.bind fun a3 => (zln G a3).bind fun v5 => if ((v5 + x1) - 2147483639) ≤ 0 then (if x1 ≤ x2 then (if 0 ≤ ((v5 + x2) - 2147483639) then (some (2147483639, G)) else (some ((v5 + x2), G))) else (some ((v5 + x1), G))) else (if 0 ≤ (v5 + x1) then (some (2147483647, G)) else none)
theorem wfJ20_newCapacity_0 {F : zF} (hd : 1 ≤ F.2.2.2) (t : Nat) (x1 : Int32) (x2 : Int32)  (G : GS) {a : (Int32) × GS} (h : fJ20_newCapacity_0 t x1 x2  G = some a) (hk : zKI F a) : J mJ20_newCapacity F G 0 [(0, vR (some t)), (1, vI x1), (2, vI x2)] [] := by
  unfold fJ20_newCapacity_0 at h
  refine j_aload_n (j := 0) dJ20_newCapacity_0 rfl rfl ?_
  replace h := zbE h
  obtain ⟨r1, e2, h⟩ := h
  refine j_getR fgJ20_3 (fun _ _ _ => rfl) dJ20_newCapacity_1 e2 ?_
  replace h := zbE h
  obtain ⟨a3, e4, h⟩ := h
  subst e4
  replace h := zbE h
  obtain ⟨v5, e6, h⟩ := h
  refine j_alen e6 dJ20_newCapacity_4 ?_
  refine j_istore_n (lv' := [(3, vI v5), (0, vR (some t)), (1, vI x1), (2, vI x2)]) dJ20_newCapacity_5 rfl (Nat.le_of_ble_eq_true rfl) rfl ?_
  refine j_iload_n (j := 0) dJ20_newCapacity_6 rfl rfl ?_
  refine j_iload_n (j := 2) dJ20_newCapacity_7 rfl rfl ?_
  refine j_iadd dJ20_newCapacity_8 ?_
  refine j_dup dJ20_newCapacity_9 rfl ?_
  refine j_istore (lv' := [(4, vI (v5 + x1)), (3, vI v5), (0, vR (some t)), (1, vI x1), (2, vI x2)]) dJ20_newCapacity_10 (Nat.le_of_ble_eq_true rfl) rfl ?_
  refine j_ldc (v := 2147483639) q2452 dJ20_newCapacity_12 ?_
  refine j_isub dJ20_newCapacity_14 ?_
  refine j_if_le (tgt := 36) dJ20_newCapacity_15 (by decide) (fun c7 => ?_) (fun c7 => ?_)
  · rw [if_pos c7] at h
    refine j_iload_n (j := 3) dJ20_newCapacity_36 rfl rfl ?_
    refine j_iload_n (j := 4) dJ20_newCapacity_37 rfl rfl ?_
    refine j_icmp_le (tgt := 44) dJ20_newCapacity_38 (by decide) (fun c8 => ?_) (fun c8 => ?_)
    · rw [if_pos c8] at h
      refine j_iload_n (j := 1) dJ20_newCapacity_44 rfl rfl ?_
      refine j_iload_n (j := 4) dJ20_newCapacity_45 rfl rfl ?_
      refine j_iadd dJ20_newCapacity_46 ?_
      refine j_ldc (v := 2147483639) q2452 dJ20_newCapacity_47 ?_
      refine j_isub dJ20_newCapacity_49 ?_
      refine j_if_ge (tgt := 59) dJ20_newCapacity_50 (by decide) (fun c9 => ?_) (fun c9 => ?_)
      · rw [if_pos c9] at h
        refine j_ldc (v := 2147483639) q2452 dJ20_newCapacity_59 ?_
        obtain rfl := Option.some.inj h
        exact j_iret hk.1 hk.2 rfl dJ20_newCapacity_61
      · rw [if_neg c9] at h
        refine j_iload_n (j := 1) dJ20_newCapacity_53 rfl rfl ?_
        refine j_iload_n (j := 4) dJ20_newCapacity_54 rfl rfl ?_
        refine j_iadd dJ20_newCapacity_55 ?_
        refine j_goto (tgt := 61) dJ20_newCapacity_56 (by decide) ?_
        obtain rfl := Option.some.inj h
        exact j_iret hk.1 hk.2 rfl dJ20_newCapacity_61
    · rw [if_neg c8] at h
      refine j_iload (j := 0) dJ20_newCapacity_41 rfl ?_
      obtain rfl := Option.some.inj h
      exact j_iret hk.1 hk.2 rfl dJ20_newCapacity_43
  · rw [if_neg c7] at h
    refine j_iload (j := 0) dJ20_newCapacity_18 rfl ?_
    refine j_if_ge (tgt := 33) dJ20_newCapacity_20 (by decide) (fun c10 => ?_) (fun c10 => ?_)
    · rw [if_pos c10] at h
      refine j_ldc (v := 2147483647) q2463 dJ20_newCapacity_33 ?_
      obtain rfl := Option.some.inj h
      exact j_iret hk.1 hk.2 rfl dJ20_newCapacity_35
    · rw [if_neg c10] at h
      cases h
theorem yJ20_newCapacity_ok {t : Nat} {x1 : Int32} {x2 : Int32} {G : GS} {r : Int32} {G1 : GS} (h : fJ20_newCapacity_0 t x1 x2 G = some (r, G1)) : zRuns yJ20_newCapacity (ws_ yJ20_newCapacity cJ20_newCapacity 5 (some Jvm.ClassFile.FieldType.int)) [vR (some t), vI x1, vI x2] (.inl (some (vI r)), G, G1, 1) :=
  zentry (M := mJ20_newCapacity) (plainFor_of_name (by decide +kernel)) ⟨rfl, rfl, rfl, rfl⟩ (Nat.le_of_ble_eq_true rfl) (wfJ20_newCapacity_0 (Nat.le_refl _) t x1 x2 G h ⟨rfl, rfl⟩)
end
