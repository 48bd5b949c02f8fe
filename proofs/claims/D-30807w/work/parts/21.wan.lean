/-! printed: functions and walks -/
set_option maxRecDepth 100000
noncomputable section
abbrev mJ2_addAll : zM := (cJ2_addAll, RJ2, 6, (some Jvm.ClassFile.FieldType.boolean), "addAll", [], "(Ljava/util/Collection;)Z")
def fJ2_addAll_56 (t : Nat) (x2 : Option Nat) (x3 : Int32) (x4 : Option Nat) (x5 : Int32)  (G : GS) : Option ((Int32) × GS) :=
  x2.bind fun a1 => x4.bind fun a3 => (zcpR G a1 (0 : Int32) a3 x5 x3).bind fun G5 => (zpI G5 12 t 2 (x5 + x3)).bind fun G7 => zcond (zbb 1) (some (1, G7))
theorem wfJ2_addAll_56 {F : zF} (hd : 5 ≤ F.2.2.2) (t : Nat) (x2 : Option Nat) (x3 : Int32) (x4 : Option Nat) (x5 : Int32)  (G : GS) {a : (Int32) × GS} (h : fJ2_addAll_56 t x2 x3 x4 x5  G = some a) (hk : zKI F a) : J mJ2_addAll F G 56 [(0, vR (some t)), (2, vR x2), (3, vI x3), (4, vR x4), (5, vI x5)] [] := by
  unfold fJ2_addAll_56 at h
  refine j_aload_n (j := 1) dJ2_addAll_56 rfl rfl ?_
  refine j_iconst (v := 0) dJ2_addAll_57 (by decide) ?_
  refine j_aload (j := 3) dJ2_addAll_58 rfl ?_
  refine j_iload (j := 4) dJ2_addAll_60 rfl ?_
  refine j_iload_n (j := 2) dJ2_addAll_62 rfl rfl ?_
  replace h := zbE h
  obtain ⟨a1, e2, h⟩ := h
  subst e2
  replace h := zbE h
  obtain ⟨a3, e4, h⟩ := h
  subst e4
  replace h := zbE h
  obtain ⟨G5, e6, h⟩ := h
  refine j_cpR e6 q1842 q816 q815 q142 (Nat.le_trans (Nat.le_of_ble_eq_true rfl) hd) (Nat.le_of_ble_eq_true rfl) dJ2_addAll_63 ?_
  refine j_aload_n (j := 0) dJ2_addAll_66 rfl rfl ?_
  refine j_iload (j := 4) dJ2_addAll_67 rfl ?_
  refine j_iload_n (j := 2) dJ2_addAll_69 rfl rfl ?_
  refine j_iadd dJ2_addAll_70 ?_
  replace h := zbE h
  obtain ⟨G7, e8, h⟩ := h
  refine j_putI fpJ2_48_J2 (Or.inl rfl) rfl dJ2_addAll_71 e8 ?_
  refine j_iconst (v := 1) dJ2_addAll_74 (by decide) ?_
  replace h := zcondE h
  obtain ⟨e9, h⟩ := h
  obtain rfl := Option.some.inj h
  exact j_zret hk.1 hk.2 rfl (zbb_n e9) dJ2_addAll_75
def fJ2_addAll_0 (t : Nat) (x1 : Option Nat)  (G : GS) : Option ((Int32) × GS) :=
  x1.bind fun a1 => zk [12] G a1 <| zb2 (fJ2_toArray_0 a1 G) fun r5 G6 => (zgI G6 12 t 0).bind fun v7 => (zpI G6 12 t 0 (v7 + 1)).bind fun G9 => r5.bind fun a11 => (zln G9 a11).bind fun v13 => if v13 = 0 then (zcond (zbb 0) (some (0, G9))) else ((zgR G9 12 t 1).bind fun r17 => r17.bind fun a19 => (zln G9 a19).bind fun v21 => (zgI G9 12 t 2).bind fun v23 => if v13 ≤ (v21 - v23) then (fJ2_addAll_56 t (some a11) v13 (some a19) v23 G9) else (zk [12] G9 t <| zb2 (fJ2_grow_2_0 t (v23 + v13) G9) fun r28 G29 => fJ2_addAll_56 t (some a11) v13 r28 v23 G29))
theorem wfJ2_addAll_0 {F : zF} (hd : 5 ≤ F.2.2.2) (t : Nat) (x1 : Option Nat)  (G : GS) {a : (Int32) × GS} (h : fJ2_addAll_0 t x1  G = some a) (hk : zKI F a) : J mJ2_addAll F G 0 [(0, vR (some t)), (1, vR x1)] [] := by
  unfold fJ2_addAll_0 at h
  refine j_aload_n (j := 1) dJ2_addAll_0 rfl rfl ?_
  replace h := zbE h
  obtain ⟨a1, e2, h⟩ := h
  subst e2
  replace h := zkE h
  obtain ⟨e3, h⟩ := h
  replace h := zb2E h
  obtain ⟨r5, G6, e4, h⟩ := h
  refine j_cont (zrF (As := []) msJ2_42_J2 (yJ2_toArray_ok e4) (Nat.le_trans (Nat.le_of_ble_eq_true rfl) hd) (zk_12 _ e3) rfl rfl (Nat.le_of_ble_eq_true rfl) dJ2_addAll_1) ?_
  refine j_astore_n (lv' := [(2, vR r5), (0, vR (some t)), (1, vR (some a1))]) dJ2_addAll_6 rfl (Nat.le_of_ble_eq_true rfl) rfl ?_
  refine j_aload_n (j := 1) dJ2_addAll_7 rfl rfl ?_
  refine j_dup dJ2_addAll_8 rfl ?_
  replace h := zbE h
  obtain ⟨v7, e8, h⟩ := h
  refine j_getI fgJ2_63 (fun _ _ _ => rfl) dJ2_addAll_9 e8 ?_
  refine j_iconst (v := 1) dJ2_addAll_12 (by decide) ?_
  refine j_iadd dJ2_addAll_13 ?_
  replace h := zbE h
  obtain ⟨G9, e10, h⟩ := h
  refine j_putI fpJ2_63_J2 (Or.inl rfl) rfl dJ2_addAll_14 e10 ?_
  refine j_aload_n (j := 0) dJ2_addAll_17 rfl rfl ?_
  replace h := zbE h
  obtain ⟨a11, e12, h⟩ := h
  subst e12
  replace h := zbE h
  obtain ⟨v13, e14, h⟩ := h
  refine j_alen e14 dJ2_addAll_18 ?_
  refine j_istore_n (lv' := [(3, vI v13), (2, vR (some a11)), (0, vR (some t)), (1, vR (some a1))]) dJ2_addAll_19 rfl (Nat.le_of_ble_eq_true rfl) rfl ?_
  refine j_iload_n (j := 0) dJ2_addAll_20 rfl rfl ?_
  refine j_if_ne (tgt := 26) dJ2_addAll_21 (by decide) (fun c15 => ?_) (fun c15 => ?_)
  · rw [if_pos c15] at h
    refine j_iconst (v := 0) dJ2_addAll_24 (by decide) ?_
    replace h := zcondE h
    obtain ⟨e16, h⟩ := h
    obtain rfl := Option.some.inj h
    exact j_zret hk.1 hk.2 rfl (zbb_n e16) dJ2_addAll_25
  · rw [if_neg c15] at h
    refine j_iload_n (j := 0) dJ2_addAll_26 rfl rfl ?_
    refine j_aload_n (j := 2) dJ2_addAll_27 rfl rfl ?_
    replace h := zbE h
    obtain ⟨r17, e18, h⟩ := h
    refine j_getR fgJ2_9 (fun _ _ _ => rfl) dJ2_addAll_28 e18 ?_
    refine j_dup dJ2_addAll_31 rfl ?_
    refine j_astore (lv' := [(4, vR r17), (3, vI v13), (2, vR (some a11)), (0, vR (some t)), (1, vR (some a1))]) dJ2_addAll_32 (Nat.le_of_ble_eq_true rfl) rfl ?_
    replace h := zbE h
    obtain ⟨a19, e20, h⟩ := h
    subst e20
    replace h := zbE h
    obtain ⟨v21, e22, h⟩ := h
    refine j_alen e22 dJ2_addAll_34 ?_
    refine j_aload_n (j := 3) dJ2_addAll_35 rfl rfl ?_
    replace h := zbE h
    obtain ⟨v23, e24, h⟩ := h
    refine j_getI fgJ2_48 (fun _ _ _ => rfl) dJ2_addAll_36 e24 ?_
    refine j_dup dJ2_addAll_39 rfl ?_
    refine j_istore (lv' := [(5, vI v23), (4, vR (some a19)), (3, vI v13), (2, vR (some a11)), (0, vR (some t)), (1, vR (some a1))]) dJ2_addAll_40 (Nat.le_of_ble_eq_true rfl) rfl ?_
    refine j_isub dJ2_addAll_42 ?_
    refine j_icmp_le (tgt := 56) dJ2_addAll_43 (by decide) (fun c25 => ?_) (fun c25 => ?_)
    · rw [if_pos c25] at h
      exact J.sub (zall [4, 3, 2, 1, 0] rfl) (wfJ2_addAll_56 hd t (some a11) v13 (some a19) v23  G9 h hk)
    · rw [if_neg c25] at h
      refine j_aload_n (j := 4) dJ2_addAll_46 rfl rfl ?_
      refine j_iload (j := 0) dJ2_addAll_47 rfl ?_
      refine j_iload_n (j := 2) dJ2_addAll_49 rfl rfl ?_
      refine j_iadd dJ2_addAll_50 ?_
      replace h := zkE h
      obtain ⟨e26, h⟩ := h
      replace h := zb2E h
      obtain ⟨r28, G29, e27, h⟩ := h
      refine j_cont (zrV (As := [vI (v23 + v13)]) msJ2_69 (yJ2_grow_2_ok e27) (Nat.le_trans (Nat.le_of_ble_eq_true rfl) hd) (zk_12 _ e26) rfl rfl (Nat.le_of_ble_eq_true rfl) dJ2_addAll_51) ?_
      refine j_astore (lv' := [(4, vR r28), (5, vI v23), (3, vI v13), (2, vR (some a11)), (0, vR (some t)), (1, vR (some a1))]) dJ2_addAll_54 (Nat.le_of_ble_eq_true rfl) rfl ?_
      exact J.sub (zall [4, 3, 2, 0, 1] rfl) (wfJ2_addAll_56 hd t (some a11) v13 r28 v23  G29 h hk)
theorem yJ2_addAll_ok {t : Nat} {x1 : Option Nat} {G : GS} {r : Int32} {G1 : GS} (h : fJ2_addAll_0 t x1 G = some (r, G1)) : zRuns yJ2_addAll (ws_ yJ2_addAll cJ2_addAll 6 (some Jvm.ClassFile.FieldType.boolean)) [vR (some t), vR x1] (.inl (some (vI r)), G, G1, 5) :=
  zentry (M := mJ2_addAll) (plainFor_of_name (by decide +kernel)) ⟨rfl, rfl, rfl, rfl⟩ (Nat.le_of_ble_eq_true rfl) (wfJ2_addAll_0 (Nat.le_refl _) t x1 G h ⟨rfl, rfl⟩)
theorem msX4_114_J2 : zSF RX4 114 RJ2 ⟨"java/util/List", "clear", "()V"⟩ yJ2_clear cJ2_clear 4 none 0 := ⟨lw_F q2299 q2302 q2304 q126 q2306, zfw 7 rfl, ⟨11, _, rfl, rfl⟩, (by decide +kernel), (by decide)⟩
theorem msX4_117_J2 : zSF RX4 117 RJ2 ⟨"java/util/List", "addAll", "(Ljava/util/Collection;)Z"⟩ yJ2_addAll cJ2_addAll 6 (some Jvm.ClassFile.FieldType.boolean) 1 := ⟨lw_F q2308 q2311 q2313 q126 q2315, zfw 6 rfl, ⟨11, _, rfl, rfl⟩, (by decide +kernel), (by decide)⟩
abbrev mX4_removeDirect : zM := (cX4_removeDirect, RX4, 8, none, "removeDirect", [], "(I)V")
def fX4_removeDirect_212 (t : Nat) (x3 : Int32) (x4 : Option Nat) (x5 : Option Nat)  (G : GS) : Option (((Unit) ⊕ String) × GS) :=
  (zgR G 4 t 0).bind fun r1 => r1.bind fun a3 => zk [12] G a3 <| (fJ2_clear_0 a3 G).bind fun G7 => (zgR G7 4 t 0).bind fun r8 => r8.bind fun a10 => zk [12] G7 a10 <| zb2 (fJ2_addAll_0 a10 x4 G7) fun v14 G15 => (zgR G15 4 t 0).bind fun r16 => r16.bind fun a18 => zk [12] G15 a18 <| zb2 (fJ2_addAll_0 a18 x5 G15) fun v22 G23 => (zgR G23 4 t 0).bind fun r24 => zl (al G23 3 0 2) fun G26 => (zna G26 50 (0 : Int32)).bind fun G28 => (fX3_init_0 (gz G23) x3 (some (gz G26)) G28).bind fun G31 => r24.bind fun a32 => zk [12] G31 a32 <| zb2 (fJ2_add_0 a32 (some (gz G23)) G31) fun v36 G37 => some (.inl (), G37)
theorem wfX4_removeDirect_212 {F : zF} (hd : 8 ≤ F.2.2.2) (t : Nat) (x3 : Int32) (x4 : Option Nat) (x5 : Option Nat)  (G : GS) {a : ((Unit) ⊕ String) × GS} (h : fX4_removeDirect_212 t x3 x4 x5  G = some a) (hk : zKXV F a) : J mX4_removeDirect F G 212 [(0, vR (some t)), (3, vI x3), (4, vR x4), (5, vR x5)] [] := by
  unfold fX4_removeDirect_212 at h
  refine j_aload_n (j := 0) dX4_removeDirect_212 rfl rfl ?_
  replace h := zbE h
  obtain ⟨r1, e2, h⟩ := h
  refine j_getR fgX4_14 (fun _ _ _ => rfl) dX4_removeDirect_213 e2 ?_
  replace h := zbE h
  obtain ⟨a3, e4, h⟩ := h
  subst e4
  replace h := zkE h
  obtain ⟨e5, h⟩ := h
  replace h := zbE h
  obtain ⟨G7, e6, h⟩ := h
  refine j_cont (zrF (As := []) msX4_114_J2 (yJ2_clear_ok e6) (Nat.le_trans (Nat.le_of_ble_eq_true rfl) hd) (zk_12 _ e5) rfl rfl (Nat.le_of_ble_eq_true rfl) dX4_removeDirect_216) ?_
  refine j_aload_n (j := 0) dX4_removeDirect_221 rfl rfl ?_
  replace h := zbE h
  obtain ⟨r8, e9, h⟩ := h
  refine j_getR fgX4_14 (fun _ _ _ => rfl) dX4_removeDirect_222 e9 ?_
  refine j_aload (j := 2) dX4_removeDirect_225 rfl ?_
  replace h := zbE h
  obtain ⟨a10, e11, h⟩ := h
  subst e11
  replace h := zkE h
  obtain ⟨e12, h⟩ := h
  replace h := zb2E h
  obtain ⟨v14, G15, e13, h⟩ := h
  refine j_cont (zrF (As := [vR x4]) msX4_117_J2 (yJ2_addAll_ok e13) (Nat.le_trans (Nat.le_of_ble_eq_true rfl) hd) (zk_12 _ e12) rfl rfl (Nat.le_of_ble_eq_true rfl) dX4_removeDirect_227) ?_
  refine j_pop dX4_removeDirect_232 rfl ?_
  refine j_aload_n (j := 0) dX4_removeDirect_233 rfl rfl ?_
  replace h := zbE h
  obtain ⟨r16, e17, h⟩ := h
  refine j_getR fgX4_14 (fun _ _ _ => rfl) dX4_removeDirect_234 e17 ?_
  refine j_aload (j := 3) dX4_removeDirect_237 rfl ?_
  replace h := zbE h
  obtain ⟨a18, e19, h⟩ := h
  subst e19
  replace h := zkE h
  obtain ⟨e20, h⟩ := h
  replace h := zb2E h
  obtain ⟨v22, G23, e21, h⟩ := h
  refine j_cont (zrF (As := [vR x5]) msX4_117_J2 (yJ2_addAll_ok e21) (Nat.le_trans (Nat.le_of_ble_eq_true rfl) hd) (zk_12 _ e20) rfl rfl (Nat.le_of_ble_eq_true rfl) dX4_removeDirect_239) ?_
  refine j_pop dX4_removeDirect_244 rfl ?_
  refine j_aload_n (j := 0) dX4_removeDirect_245 rfl rfl ?_
  replace h := zbE h
  obtain ⟨r24, e25, h⟩ := h
  refine j_getR fgX4_14 (fun _ _ _ => rfl) dX4_removeDirect_246 e25 ?_
  replace h := zlE h
  obtain ⟨G26, e27, h⟩ := h
  refine j_new (c := 2) (n := 2) (r := (RX3, TX3, 2, tyX3)) rfl rfl in_X3 tyX3_ok nwX3 q399 q1727 q138 dX4_removeDirect_249 ?_
  rw [show al G23 (2 + 1) 0 2 = G26 from e27.symm]
  refine j_dup dX4_removeDirect_252 rfl ?_
  refine j_iload_n (j := 1) dX4_removeDirect_253 rfl rfl ?_
  refine j_iconst (v := 0) dX4_removeDirect_254 (by decide) ?_
  replace h := zbE h
  obtain ⟨G28, e29, h⟩ := h
  refine j_newa (t := 0) (ty := .int) rfl rfl q455 (fun _ _ _ e1 e2 e3 => by simp only [zfv, e1, e2, e3] <;> rfl) (by decide) (fun _ _ h => h) e29 dX4_removeDirect_255 ?_
  replace h := zbE h
  obtain ⟨G31, e30, h⟩ := h
  refine j_cont (zrI (As := [vI x3, vR (some (gz G26))]) msX4_98 (yX3_init_ok e30) (Nat.le_trans (Nat.le_of_ble_eq_true rfl) hd) rfl rfl (Nat.le_of_ble_eq_true rfl) dX4_removeDirect_257) ?_
  replace h := zbE h
  obtain ⟨a32, e33, h⟩ := h
  subst e33
  replace h := zkE h
  obtain ⟨e34, h⟩ := h
  replace h := zb2E h
  obtain ⟨v36, G37, e35, h⟩ := h
  refine j_cont (zrF (As := [vR (some (gz G23))]) msX4_65_J2 (yJ2_add_ok e35) (Nat.le_trans (Nat.le_of_ble_eq_true rfl) hd) (zk_12 _ e34) rfl rfl (Nat.le_of_ble_eq_true rfl) dX4_removeDirect_260) ?_
  refine j_pop dX4_removeDirect_265 rfl ?_
  obtain rfl := Option.some.inj h
  exact j_vret hk.1 hk.2 rfl dX4_removeDirect_266
def fX4_removeDirect_209 (t : Nat) (x1 : Int32) (x3 : Int32) (x4 : Option Nat) (x5 : Option Nat) (x6 : Option Nat)  (G : GS) : Option ((GS) ⊕ (((Unit) ⊕ String) × GS)) :=
  some (.inl (G))
theorem wfX4_removeDirect_209 {F : zF} (hd : 8 ≤ F.2.2.2) (t : Nat) (x1 : Int32) (x3 : Int32) (x4 : Option Nat) (x5 : Option Nat) (x6 : Option Nat)  (G : GS) {a : (GS) ⊕ (((Unit) ⊕ String) × GS)} (h : fX4_removeDirect_209 t x1 x3 x4 x5 x6  G = some a) (hk : (zcase (fun s : GS => J mX4_removeDirect F s 100 [(0, vR (some t)), (1, vI x1), (3, vI x3), (4, vR x4), (5, vR x5), (6, vR x6)] []) (zKXV F)) a) : J mX4_removeDirect F G 209 [(0, vR (some t)), (1, vI x1), (3, vI x3), (4, vR x4), (5, vR x5), (6, vR x6)] [] := by
  unfold fX4_removeDirect_209 at h
  refine j_goto (tgt := 100) dX4_removeDirect_209 (by decide) ?_
  obtain rfl := Option.some.inj h
  exact J.sub (zall [0, 1, 2, 3, 4, 5] rfl) hk
def fbX4_removeDirect_100 (t : Nat) (x1 : Int32) (x3 : Int32) (x4 : Option Nat) (x5 : Option Nat) (x6 : Option Nat)  (G : GS) : Option ((GS) ⊕ (((Unit) ⊕ String) × GS)) :=
  x6.bind fun a1 => zk [13] G a1 <| (fJ19_hasNext_0 a1 G).bind fun v5 => if v5 = 0 then (zo (fX4_removeDirect_212 t x3 x4 x5 G)) else (zk [13] G a1 <| zb2 (fJ19_next_0 a1 G) fun r9 G10 => zkq [3] G10 r9 (r9.bind fun a12 => (zgI G10 3 a12 0).bind fun v14 => if v14 = x1 then (zk [3] G10 a12 <| (fX3_beginsWith_0 a12 x1 G10).bind fun v19 => if v19 = 0 then (zk [3] G10 a12 <| zb2 (fX3_with_0 a12 x3 G10) fun r23 G24 => x4.bind fun a25 => zk [12] G24 a25 <| zb2 (fJ2_add_0 a25 r23 G24) fun v29 G30 => fX4_removeDirect_209 t x1 x3 (some a25) x5 (some a1) G30) else ((zgR G10 3 a12 1).bind fun r31 => r31.bind fun a33 => (zln G10 a33).bind fun v35 => if v35 ≤ 1 then (fX4_removeDirect_209 t x1 x3 x4 x5 (some a1) G10) else (zl (al G10 3 0 2) fun G38 => (zna G38 50 (0 : Int32)).bind fun G40 => zk [3] G40 a12 <| zb2 (fX3_rest_0 a12 1 (some (gz G38)) G40) fun r44 G45 => (fX3_init_0 (gz G10) x3 r44 G45).bind fun G47 => zk [3] G47 (gz G10) <| zb2 (fX3_with_0 (gz G10) x3 G47) fun r50 G51 => x5.bind fun a52 => zk [12] G51 a52 <| zb2 (fJ2_add_0 a52 r50 G51) fun v56 G57 => fX4_removeDirect_209 t x1 x3 x4 (some a52) (some a1) G57))) else (x4.bind fun a58 => zk [12] G10 a58 <| zb2 (fJ2_add_0 a58 (some a12) G10) fun v62 G63 => fX4_removeDirect_209 t x1 x3 (some a58) x5 (some a1) G63)))
def flX4_removeDirect_100 (t : Nat) (x1 : Int32) (x3 : Int32) (x4 : Option Nat) (x5 : Option Nat) (x6 : Option Nat) (G : GS) : Option (((Unit) ⊕ String) × GS) := zloop (fun s : GS => fbX4_removeDirect_100 t x1 x3 x4 x5 x6 s) (G)
theorem wfbX4_removeDirect_100 {F : zF} (hd : 8 ≤ F.2.2.2) (t : Nat) (x1 : Int32) (x3 : Int32) (x4 : Option Nat) (x5 : Option Nat) (x6 : Option Nat) (G : GS) {a : (GS) ⊕ (((Unit) ⊕ String) × GS)} (h : fbX4_removeDirect_100 t x1 x3 x4 x5 x6 G = some a) (hk : (zcase (fun s : GS => J mX4_removeDirect F s 100 [(0, vR (some t)), (1, vI x1), (3, vI x3), (4, vR x4), (5, vR x5), (6, vR x6)] []) (zKXV F)) a) : J mX4_removeDirect F G 100 [(0, vR (some t)), (1, vI x1), (3, vI x3), (4, vR x4), (5, vR x5), (6, vR x6)] [] := by
  unfold fbX4_removeDirect_100 at h
  refine j_aload (j := 5) dX4_removeDirect_100 rfl ?_
  replace h := zbE h
  obtain ⟨a1, e2, h⟩ := h
  subst e2
  replace h := zkE h
  obtain ⟨e3, h⟩ := h
  replace h := zbE h
  obtain ⟨v5, e4, h⟩ := h
  refine j_cont (zrF (As := []) msX4_26_J19 (yJ19_hasNext_ok e4) (Nat.le_trans (Nat.le_of_ble_eq_true rfl) hd) (zk_13 _ e3) rfl rfl (Nat.le_of_ble_eq_true rfl) dX4_removeDirect_102) ?_
  refine j_if_eq (tgt := 212) dX4_removeDirect_107 (by decide) (fun c6 => ?_) (fun c6 => ?_)
  · rw [if_pos c6] at h
    replace h := zoE h
    obtain ⟨a, h, rfl⟩ := h
    replace hk := hk
    exact J.sub (zall [0, 2, 3, 4] rfl) (wfX4_removeDirect_212 hd t x3 x4 x5  G h hk)
  · rw [if_neg c6] at h
    refine j_aload (j := 5) dX4_removeDirect_110 rfl ?_
    replace h := zkE h
    obtain ⟨e7, h⟩ := h
    replace h := zb2E h
    obtain ⟨r9, G10, e8, h⟩ := h
    refine j_cont (zrF (As := []) msX4_32_J19 (yJ19_next_ok e8) (Nat.le_trans (Nat.le_of_ble_eq_true rfl) hd) (zk_13 _ e7) rfl rfl (Nat.le_of_ble_eq_true rfl) dX4_removeDirect_112) ?_
    replace h := zkqE h
    obtain ⟨e11, h⟩ := h
    refine j_castq (fun k => j_castN dX4_removeDirect_117 k) (fun b q64 k => j_castS (zk_3 _ (e11 b q64)) ⟨2, _, rfl, rfl⟩ q399 dX4_removeDirect_117 k) ?_
    refine j_astore (lv' := [(7, vR r9), (0, vR (some t)), (1, vI x1), (3, vI x3), (4, vR x4), (5, vR x5), (6, vR (some a1))]) dX4_removeDirect_120 (Nat.le_of_ble_eq_true rfl) rfl ?_
    refine j_aload (j := 0) dX4_removeDirect_122 rfl ?_
    replace h := zbE h
    obtain ⟨a12, e13, h⟩ := h
    subst e13
    replace h := zbE h
    obtain ⟨v14, e15, h⟩ := h
    refine j_getI fgX4_38 (fun _ _ _ => rfl) dX4_removeDirect_124 e15 ?_
    refine j_iload_n (j := 2) dX4_removeDirect_127 rfl rfl ?_
    refine j_icmp_eq (tgt := 144) dX4_removeDirect_128 (by decide) (fun c16 => ?_) (fun c16 => ?_)
    · rw [if_pos c16] at h
      refine j_aload (j := 0) dX4_removeDirect_144 rfl ?_
      refine j_iload_n (j := 2) dX4_removeDirect_146 rfl rfl ?_
      replace h := zkE h
      obtain ⟨e17, h⟩ := h
      replace h := zbE h
      obtain ⟨v19, e18, h⟩ := h
      refine j_cont (zrV (As := [vI x1]) msX4_104 (yX3_beginsWith_ok e18) (Nat.le_trans (Nat.le_of_ble_eq_true rfl) hd) (zk_3 _ e17) rfl rfl (Nat.le_of_ble_eq_true rfl) dX4_removeDirect_147) ?_
      refine j_if_ne (tgt := 170) dX4_removeDirect_150 (by decide) (fun c20 => ?_) (fun c20 => ?_)
      · rw [if_pos c20] at h
        refine j_aload (j := 4) dX4_removeDirect_153 rfl ?_
        refine j_aload (j := 0) dX4_removeDirect_155 rfl ?_
        refine j_iload_n (j := 3) dX4_removeDirect_157 rfl rfl ?_
        replace h := zkE h
        obtain ⟨e21, h⟩ := h
        replace h := zb2E h
        obtain ⟨r23, G24, e22, h⟩ := h
        refine j_cont (zrV (As := [vI x3]) msX4_110 (yX3_with_ok e22) (Nat.le_trans (Nat.le_of_ble_eq_true rfl) hd) (zk_3 _ e21) rfl rfl (Nat.le_of_ble_eq_true rfl) dX4_removeDirect_158) ?_
        replace h := zbE h
        obtain ⟨a25, e26, h⟩ := h
        subst e26
        replace h := zkE h
        obtain ⟨e27, h⟩ := h
        replace h := zb2E h
        obtain ⟨v29, G30, e28, h⟩ := h
        refine j_cont (zrF (As := [vR r23]) msX4_65_J2 (yJ2_add_ok e28) (Nat.le_trans (Nat.le_of_ble_eq_true rfl) hd) (zk_12 _ e27) rfl rfl (Nat.le_of_ble_eq_true rfl) dX4_removeDirect_161) ?_
        refine j_pop dX4_removeDirect_166 rfl ?_
        refine j_goto (tgt := 209) dX4_removeDirect_167 (by decide) ?_
        exact J.sub (zall [1, 2, 3, 4, 5, 6] rfl) (wfX4_removeDirect_209 hd t x1 x3 (some a25) x5 (some a1)  G30 h hk)
      · rw [if_neg c20] at h
        refine j_aload (j := 0) dX4_removeDirect_170 rfl ?_
        replace h := zbE h
        obtain ⟨r31, e32, h⟩ := h
        refine j_getR fgX4_42 (fun _ _ _ => rfl) dX4_removeDirect_172 e32 ?_
        replace h := zbE h
        obtain ⟨a33, e34, h⟩ := h
        subst e34
        replace h := zbE h
        obtain ⟨v35, e36, h⟩ := h
        refine j_alen e36 dX4_removeDirect_175 ?_
        refine j_iconst (v := 1) dX4_removeDirect_176 (by decide) ?_
        refine j_icmp_le (tgt := 209) dX4_removeDirect_177 (by decide) (fun c37 => ?_) (fun c37 => ?_)
        · rw [if_pos c37] at h
          exact J.sub (zall [1, 2, 3, 4, 5, 6] rfl) (wfX4_removeDirect_209 hd t x1 x3 x4 x5 (some a1)  G10 h hk)
        · rw [if_neg c37] at h
          refine j_aload (j := 5) dX4_removeDirect_180 rfl ?_
          replace h := zlE h
          obtain ⟨G38, e39, h⟩ := h
          refine j_new (c := 2) (n := 2) (r := (RX3, TX3, 2, tyX3)) rfl rfl in_X3 tyX3_ok nwX3 q399 q1727 q138 dX4_removeDirect_182 ?_
          rw [show al G10 (2 + 1) 0 2 = G38 from e39.symm]
          refine j_dup dX4_removeDirect_185 rfl ?_
          refine j_iload_n (j := 3) dX4_removeDirect_186 rfl rfl ?_
          refine j_aload (j := 0) dX4_removeDirect_187 rfl ?_
          refine j_iconst (v := 1) dX4_removeDirect_189 (by decide) ?_
          refine j_iconst (v := 0) dX4_removeDirect_190 (by decide) ?_
          replace h := zbE h
          obtain ⟨G40, e41, h⟩ := h
          refine j_newa (t := 0) (ty := .int) rfl rfl q455 (fun _ _ _ e1 e2 e3 => by simp only [zfv, e1, e2, e3] <;> rfl) (by decide) (fun _ _ h => h) e41 dX4_removeDirect_191 ?_
          replace h := zkE h
          obtain ⟨e42, h⟩ := h
          replace h := zb2E h
          obtain ⟨r44, G45, e43, h⟩ := h
          refine j_cont (zrV (As := [vI 1, vR (some (gz G38))]) msX4_94 (yX3_rest_ok e43) (Nat.le_trans (Nat.le_of_ble_eq_true rfl) hd) (zk_3 _ e42) rfl rfl (Nat.le_of_ble_eq_true rfl) dX4_removeDirect_193) ?_
          replace h := zbE h
          obtain ⟨G47, e46, h⟩ := h
          refine j_cont (zrI (As := [vI x3, vR r44]) msX4_98 (yX3_init_ok e46) (Nat.le_trans (Nat.le_of_ble_eq_true rfl) hd) rfl rfl (Nat.le_of_ble_eq_true rfl) dX4_removeDirect_196) ?_
          refine j_iload_n (j := 3) dX4_removeDirect_199 rfl rfl ?_
          replace h := zkE h
          obtain ⟨e48, h⟩ := h
          replace h := zb2E h
          obtain ⟨r50, G51, e49, h⟩ := h
          refine j_cont (zrV (As := [vI x3]) msX4_110 (yX3_with_ok e49) (Nat.le_trans (Nat.le_of_ble_eq_true rfl) hd) (zk_3 _ e48) rfl rfl (Nat.le_of_ble_eq_true rfl) dX4_removeDirect_200) ?_
          replace h := zbE h
          obtain ⟨a52, e53, h⟩ := h
          subst e53
          replace h := zkE h
          obtain ⟨e54, h⟩ := h
          replace h := zb2E h
          obtain ⟨v56, G57, e55, h⟩ := h
          refine j_cont (zrF (As := [vR r50]) msX4_65_J2 (yJ2_add_ok e55) (Nat.le_trans (Nat.le_of_ble_eq_true rfl) hd) (zk_12 _ e54) rfl rfl (Nat.le_of_ble_eq_true rfl) dX4_removeDirect_203) ?_
          refine j_pop dX4_removeDirect_208 rfl ?_
          exact J.sub (zall [1, 2, 3, 4, 5, 6] rfl) (wfX4_removeDirect_209 hd t x1 x3 x4 (some a52) (some a1)  G57 h hk)
    · rw [if_neg c16] at h
      refine j_aload (j := 4) dX4_removeDirect_131 rfl ?_
      refine j_aload (j := 0) dX4_removeDirect_133 rfl ?_
      replace h := zbE h
      obtain ⟨a58, e59, h⟩ := h
      subst e59
      replace h := zkE h
      obtain ⟨e60, h⟩ := h
      replace h := zb2E h
      obtain ⟨v62, G63, e61, h⟩ := h
      refine j_cont (zrF (As := [vR (some a12)]) msX4_65_J2 (yJ2_add_ok e61) (Nat.le_trans (Nat.le_of_ble_eq_true rfl) hd) (zk_12 _ e60) rfl rfl (Nat.le_of_ble_eq_true rfl) dX4_removeDirect_135) ?_
      refine j_pop dX4_removeDirect_140 rfl ?_
      refine j_goto (tgt := 209) dX4_removeDirect_141 (by decide) ?_
      exact J.sub (zall [1, 2, 3, 4, 5, 6] rfl) (wfX4_removeDirect_209 hd t x1 x3 (some a58) x5 (some a1)  G63 h hk)
theorem wflX4_removeDirect_100 {F : zF} (hd : 8 ≤ F.2.2.2) (t : Nat) (x1 : Int32) (x3 : Int32) (x4 : Option Nat) (x5 : Option Nat) (x6 : Option Nat) (G : GS) {a : ((Unit) ⊕ String) × GS} (h : flX4_removeDirect_100 t x1 x3 x4 x5 x6 G = some a) (hk : zKXV F a) : J mX4_removeDirect F G 100 [(0, vR (some t)), (1, vI x1), (3, vI x3), (4, vR x4), (5, vR x5), (6, vR x6)] [] := by
  unfold flX4_removeDirect_100 at h
  exact zloop_walk (P := (fun s : GS => J mX4_removeDirect F s 100 [(0, vR (some t)), (1, vI x1), (3, vI x3), (4, vR x4), (5, vR x5), (6, vR x6)] [])) (fun s b e hk => wfbX4_removeDirect_100 hd t x1 x3 x4 x5 x6 s e hk) (G) _ h hk
def fX4_removeDirect_61 (t : Nat) (x1 : Int32) (x2 : Int32)  (G : GS) : Option (((Unit) ⊕ String) × GS) :=
  if x2 = 0 then (some (.inl (), G)) else (zk [4] G t <| zb3 (fX4_unused_0 t G) (fun v4 G5 => zl (al G5 12 0 3) fun G8 => (fJ2_init_0 (gz G5) G8).bind fun G11 => zl (al G11 12 0 3) fun G12 => (fJ2_init_0 (gz G11) G12).bind fun G15 => (zgR G15 4 t 0).bind fun r16 => r16.bind fun a18 => zk [12] G15 a18 <| zb2 (fJ2_iterator_0 a18 G15) fun r22 G23 => flX4_removeDirect_100 t x1 v4 (some (gz G5)) (some (gz G11)) r22 G23) (fun X6 G7 => some (.inr X6, G7)))
theorem wfX4_removeDirect_61 {F : zF} (hd : 8 ≤ F.2.2.2) (t : Nat) (x1 : Int32) (x2 : Int32)  (G : GS) {a : ((Unit) ⊕ String) × GS} (h : fX4_removeDirect_61 t x1 x2  G = some a) (hk : zKXV F a) : J mX4_removeDirect F G 61 [(0, vR (some t)), (1, vI x1), (2, vI x2)] [] := by
  unfold fX4_removeDirect_61 at h
  refine j_iload_n (j := 2) dX4_removeDirect_61 rfl rfl ?_
  refine j_if_ne (tgt := 66) dX4_removeDirect_62 (by decide) (fun c1 => ?_) (fun c1 => ?_)
  · rw [if_pos c1] at h
    obtain rfl := Option.some.inj h
    exact j_vret hk.1 hk.2 rfl dX4_removeDirect_65
  · rw [if_neg c1] at h
    refine j_aload_n (j := 0) dX4_removeDirect_66 rfl rfl ?_
    replace h := zkE h
    obtain ⟨e2, h⟩ := h
    replace h := zb3E h
    rcases h with ⟨v4, G5, e3, h⟩ | ⟨X6, G7, e3, h⟩
    · refine j_cont (zrV (As := []) msX4_107 (yX4_unused_ok e3) (Nat.le_trans (Nat.le_of_ble_eq_true rfl) hd) (zk_4 _ e2) rfl rfl (Nat.le_of_ble_eq_true rfl) dX4_removeDirect_67) ?_
      refine j_istore_n (lv' := [(3, vI v4), (0, vR (some t)), (1, vI x1), (2, vI x2)]) dX4_removeDirect_70 rfl (Nat.le_of_ble_eq_true rfl) rfl ?_
      replace h := zlE h
      obtain ⟨G8, e9, h⟩ := h
      refine j_new (c := 11) (n := 3) (r := (RJ2, TJ2, 3, tyJ2)) rfl rfl in_J2 tyJ2_ok nwJ2 q1975 q184 q126 dX4_removeDirect_71 ?_
      rw [show al G5 (11 + 1) 0 3 = G8 from e9.symm]
      refine j_dup dX4_removeDirect_74 rfl ?_
      replace h := zbE h
      obtain ⟨G11, e10, h⟩ := h
      refine j_cont (zrI (As := []) msX4_64 (yJ2_init_ok e10) (Nat.le_trans (Nat.le_of_ble_eq_true rfl) hd) rfl rfl (Nat.le_of_ble_eq_true rfl) dX4_removeDirect_75) ?_
      refine j_astore (lv' := [(4, vR (some (gz G5))), (3, vI v4), (0, vR (some t)), (1, vI x1), (2, vI x2)]) dX4_removeDirect_78 (Nat.le_of_ble_eq_true rfl) rfl ?_
      replace h := zlE h
      obtain ⟨G12, e13, h⟩ := h
      refine j_new (c := 11) (n := 3) (r := (RJ2, TJ2, 3, tyJ2)) rfl rfl in_J2 tyJ2_ok nwJ2 q1975 q184 q126 dX4_removeDirect_80 ?_
      rw [show al G11 (11 + 1) 0 3 = G12 from e13.symm]
      refine j_dup dX4_removeDirect_83 rfl ?_
      replace h := zbE h
      obtain ⟨G15, e14, h⟩ := h
      refine j_cont (zrI (As := []) msX4_64 (yJ2_init_ok e14) (Nat.le_trans (Nat.le_of_ble_eq_true rfl) hd) rfl rfl (Nat.le_of_ble_eq_true rfl) dX4_removeDirect_84) ?_
      refine j_astore (lv' := [(5, vR (some (gz G11))), (4, vR (some (gz G5))), (3, vI v4), (0, vR (some t)), (1, vI x1), (2, vI x2)]) dX4_removeDirect_87 (Nat.le_of_ble_eq_true rfl) rfl ?_
      refine j_aload_n (j := 3) dX4_removeDirect_89 rfl rfl ?_
      replace h := zbE h
      obtain ⟨r16, e17, h⟩ := h
      refine j_getR fgX4_14 (fun _ _ _ => rfl) dX4_removeDirect_90 e17 ?_
      replace h := zbE h
      obtain ⟨a18, e19, h⟩ := h
      subst e19
      replace h := zkE h
      obtain ⟨e20, h⟩ := h
      replace h := zb2E h
      obtain ⟨r22, G23, e21, h⟩ := h
      refine j_cont (zrF (As := []) msX4_20_J2 (yJ2_iterator_ok e21) (Nat.le_trans (Nat.le_of_ble_eq_true rfl) hd) (zk_12 _ e20) rfl rfl (Nat.le_of_ble_eq_true rfl) dX4_removeDirect_93) ?_
      refine j_astore (lv' := [(6, vR r22), (5, vR (some (gz G11))), (4, vR (some (gz G5))), (3, vI v4), (0, vR (some t)), (1, vI x1), (2, vI x2)]) dX4_removeDirect_98 (Nat.le_of_ble_eq_true rfl) rfl ?_
      exact J.sub (zall [4, 5, 3, 2, 1, 0] rfl) (wflX4_removeDirect_100 hd t x1 v4 (some (gz G5)) (some (gz G11)) r22  G23 h hk)
    · refine j_thr (zrV (As := []) msX4_107 (yX4_unused_ok e3) (Nat.le_trans (Nat.le_of_ble_eq_true rfl) hd) (zk_4 _ e2) rfl rfl (Nat.le_of_ble_eq_true rfl) dX4_removeDirect_67) ?_
      obtain rfl := Option.some.inj h
      exact jx_out hk.1 hk.2 (by decide)
def fX4_removeDirect_56 (t : Nat) (x1 : Int32) (x3 : Option Nat) (s0 : Int32) (s1 : Int32) (G : GS) : Option ((Int32 × GS) ⊕ (((Unit) ⊕ String) × GS)) :=
  some (.inl ((s0 ||| s1), G))
theorem wfX4_removeDirect_56 {F : zF} (hd : 8 ≤ F.2.2.2) (t : Nat) (x1 : Int32) (x3 : Option Nat) (s0 : Int32) (s1 : Int32) (G : GS) {a : (Int32 × GS) ⊕ (((Unit) ⊕ String) × GS)} (h : fX4_removeDirect_56 t x1 x3 s0 s1 G = some a) (hk : (zcase (fun s : Int32 × GS => J mX4_removeDirect F s.2 12 [(0, vR (some t)), (1, vI x1), (2, vI s.1), (3, vR x3)] []) (zKXV F)) a) : J mX4_removeDirect F G 56 [(0, vR (some t)), (1, vI x1), (3, vR x3)] [vI s1, vI s0] := by
  unfold fX4_removeDirect_56 at h
  refine j_ior dX4_removeDirect_56 ?_
  refine j_istore_n (lv' := [(2, vI (s0 ||| s1)), (0, vR (some t)), (1, vI x1), (3, vR x3)]) dX4_removeDirect_57 rfl (Nat.le_of_ble_eq_true rfl) rfl ?_
  refine j_goto (tgt := 12) dX4_removeDirect_58 (by decide) ?_
  obtain rfl := Option.some.inj h
  exact J.sub (zall [1, 2, 0, 3] rfl) hk
def fX4_removeDirect_55 (t : Nat) (x1 : Int32) (x3 : Option Nat) (s0 : Int32) (G : GS) : Option ((Int32 × GS) ⊕ (((Unit) ⊕ String) × GS)) :=
  fX4_removeDirect_56 t x1 x3 s0 0 G
theorem wfX4_removeDirect_55 {F : zF} (hd : 8 ≤ F.2.2.2) (t : Nat) (x1 : Int32) (x3 : Option Nat) (s0 : Int32) (G : GS) {a : (Int32 × GS) ⊕ (((Unit) ⊕ String) × GS)} (h : fX4_removeDirect_55 t x1 x3 s0 G = some a) (hk : (zcase (fun s : Int32 × GS => J mX4_removeDirect F s.2 12 [(0, vR (some t)), (1, vI x1), (2, vI s.1), (3, vR x3)] []) (zKXV F)) a) : J mX4_removeDirect F G 55 [(0, vR (some t)), (1, vI x1), (3, vR x3)] [vI s0] := by
  unfold fX4_removeDirect_55 at h
  refine j_iconst (v := 0) dX4_removeDirect_55 (by decide) ?_
  exact J.sub (zall [0, 1, 2] rfl) (wfX4_removeDirect_56 hd t x1 x3 s0 0 G h hk)
def fbX4_removeDirect_12 (t : Nat) (x1 : Int32) (x2 : Int32) (x3 : Option Nat)  (G : GS) : Option ((Int32 × GS) ⊕ (((Unit) ⊕ String) × GS)) :=
  x3.bind fun a1 => zk [13] G a1 <| (fJ19_hasNext_0 a1 G).bind fun v5 => if v5 = 0 then (zo (fX4_removeDirect_61 t x1 x2 G)) else (zk [13] G a1 <| zb2 (fJ19_next_0 a1 G) fun r9 G10 => zkq [3] G10 r9 (r9.bind fun a12 => (zgI G10 3 a12 0).bind fun v14 => if v14 = x1 then (zk [3] G10 a12 <| (fX3_beginsWith_0 a12 x1 G10).bind fun v19 => if v19 = 0 then (fX4_removeDirect_55 t x1 (some a1) x2 G10) else (fX4_removeDirect_56 t x1 (some a1) x2 1 G10)) else (fX4_removeDirect_55 t x1 (some a1) x2 G10)))
def flX4_removeDirect_12 (t : Nat) (x1 : Int32) (x2 : Int32) (x3 : Option Nat) (G : GS) : Option (((Unit) ⊕ String) × GS) := zloop (fun s : Int32 × GS => fbX4_removeDirect_12 t x1 s.1 x3 s.2) (x2, G)
theorem wfbX4_removeDirect_12 {F : zF} (hd : 8 ≤ F.2.2.2) (t : Nat) (x1 : Int32) (x2 : Int32) (x3 : Option Nat) (G : GS) {a : (Int32 × GS) ⊕ (((Unit) ⊕ String) × GS)} (h : fbX4_removeDirect_12 t x1 x2 x3 G = some a) (hk : (zcase (fun s : Int32 × GS => J mX4_removeDirect F s.2 12 [(0, vR (some t)), (1, vI x1), (2, vI s.1), (3, vR x3)] []) (zKXV F)) a) : J mX4_removeDirect F G 12 [(0, vR (some t)), (1, vI x1), (2, vI x2), (3, vR x3)] [] := by
  unfold fbX4_removeDirect_12 at h
  refine j_aload_n (j := 3) dX4_removeDirect_12 rfl rfl ?_
  replace h := zbE h
  obtain ⟨a1, e2, h⟩ := h
  subst e2
  replace h := zkE h
  obtain ⟨e3, h⟩ := h
  replace h := zbE h
  obtain ⟨v5, e4, h⟩ := h
  refine j_cont (zrF (As := []) msX4_26_J19 (yJ19_hasNext_ok e4) (Nat.le_trans (Nat.le_of_ble_eq_true rfl) hd) (zk_13 _ e3) rfl rfl (Nat.le_of_ble_eq_true rfl) dX4_removeDirect_13) ?_
  refine j_if_eq (tgt := 61) dX4_removeDirect_18 (by decide) (fun c6 => ?_) (fun c6 => ?_)
  · rw [if_pos c6] at h
    replace h := zoE h
    obtain ⟨a, h, rfl⟩ := h
    replace hk := hk
    exact J.sub (zall [0, 1, 2] rfl) (wfX4_removeDirect_61 hd t x1 x2  G h hk)
  · rw [if_neg c6] at h
    refine j_aload_n (j := 3) dX4_removeDirect_21 rfl rfl ?_
    replace h := zkE h
    obtain ⟨e7, h⟩ := h
    replace h := zb2E h
    obtain ⟨r9, G10, e8, h⟩ := h
    refine j_cont (zrF (As := []) msX4_32_J19 (yJ19_next_ok e8) (Nat.le_trans (Nat.le_of_ble_eq_true rfl) hd) (zk_13 _ e7) rfl rfl (Nat.le_of_ble_eq_true rfl) dX4_removeDirect_22) ?_
    replace h := zkqE h
    obtain ⟨e11, h⟩ := h
    refine j_castq (fun k => j_castN dX4_removeDirect_27 k) (fun b q21 k => j_castS (zk_3 _ (e11 b q21)) ⟨2, _, rfl, rfl⟩ q399 dX4_removeDirect_27 k) ?_
    refine j_astore (lv' := [(4, vR r9), (0, vR (some t)), (1, vI x1), (2, vI x2), (3, vR (some a1))]) dX4_removeDirect_30 (Nat.le_of_ble_eq_true rfl) rfl ?_
    refine j_iload_n (j := 3) dX4_removeDirect_32 rfl rfl ?_
    refine j_aload (j := 0) dX4_removeDirect_33 rfl ?_
    replace h := zbE h
    obtain ⟨a12, e13, h⟩ := h
    subst e13
    replace h := zbE h
    obtain ⟨v14, e15, h⟩ := h
    refine j_getI fgX4_38 (fun _ _ _ => rfl) dX4_removeDirect_35 e15 ?_
    refine j_iload_n (j := 2) dX4_removeDirect_38 rfl rfl ?_
    refine j_icmp_ne (tgt := 55) dX4_removeDirect_39 (by decide) (fun c16 => ?_) (fun c16 => ?_)
    · rw [if_pos c16] at h
      refine j_aload (j := 0) dX4_removeDirect_42 rfl ?_
      refine j_iload_n (j := 2) dX4_removeDirect_44 rfl rfl ?_
      replace h := zkE h
      obtain ⟨e17, h⟩ := h
      replace h := zbE h
      obtain ⟨v19, e18, h⟩ := h
      refine j_cont (zrV (As := [vI x1]) msX4_104 (yX3_beginsWith_ok e18) (Nat.le_trans (Nat.le_of_ble_eq_true rfl) hd) (zk_3 _ e17) rfl rfl (Nat.le_of_ble_eq_true rfl) dX4_removeDirect_45) ?_
      refine j_if_eq (tgt := 55) dX4_removeDirect_48 (by decide) (fun c20 => ?_) (fun c20 => ?_)
      · rw [if_pos c20] at h
        exact J.sub (zall [1, 2, 4] rfl) (wfX4_removeDirect_55 hd t x1 (some a1) x2 G10 h hk)
      · rw [if_neg c20] at h
        refine j_iconst (v := 1) dX4_removeDirect_51 (by decide) ?_
        refine j_goto (tgt := 56) dX4_removeDirect_52 (by decide) ?_
        exact J.sub (zall [1, 2, 4] rfl) (wfX4_removeDirect_56 hd t x1 (some a1) x2 1 G10 h hk)
    · rw [if_neg c16] at h
      exact J.sub (zall [1, 2, 4] rfl) (wfX4_removeDirect_55 hd t x1 (some a1) x2 G10 h hk)
theorem wflX4_removeDirect_12 {F : zF} (hd : 8 ≤ F.2.2.2) (t : Nat) (x1 : Int32) (x2 : Int32) (x3 : Option Nat) (G : GS) {a : ((Unit) ⊕ String) × GS} (h : flX4_removeDirect_12 t x1 x2 x3 G = some a) (hk : zKXV F a) : J mX4_removeDirect F G 12 [(0, vR (some t)), (1, vI x1), (2, vI x2), (3, vR x3)] [] := by
  unfold flX4_removeDirect_12 at h
  exact zloop_walk (P := (fun s : Int32 × GS => J mX4_removeDirect F s.2 12 [(0, vR (some t)), (1, vI x1), (2, vI s.1), (3, vR x3)] [])) (fun s b e hk => wfbX4_removeDirect_12 hd t x1 s.1 x3 s.2 e hk) (x2, G) _ h hk
def fX4_removeDirect_0 (t : Nat) (x1 : Int32)  (G : GS) : Option (((Unit) ⊕ String) × GS) :=
  (zgR G 4 t 0).bind fun r1 => r1.bind fun a3 => zk [12] G a3 <| zb2 (fJ2_iterator_0 a3 G) fun r7 G8 => flX4_removeDirect_12 t x1 0 r7 G8
theorem wfX4_removeDirect_0 {F : zF} (hd : 8 ≤ F.2.2.2) (t : Nat) (x1 : Int32)  (G : GS) {a : ((Unit) ⊕ String) × GS} (h : fX4_removeDirect_0 t x1  G = some a) (hk : zKXV F a) : J mX4_removeDirect F G 0 [(0, vR (some t)), (1, vI x1)] [] := by
  unfold fX4_removeDirect_0 at h
  refine j_iconst (v := 0) dX4_removeDirect_0 (by decide) ?_
  refine j_istore_n (lv' := [(2, vI 0), (0, vR (some t)), (1, vI x1)]) dX4_removeDirect_1 rfl (Nat.le_of_ble_eq_true rfl) rfl ?_
  refine j_aload_n (j := 1) dX4_removeDirect_2 rfl rfl ?_
  replace h := zbE h
  obtain ⟨r1, e2, h⟩ := h
  refine j_getR fgX4_14 (fun _ _ _ => rfl) dX4_removeDirect_3 e2 ?_
  replace h := zbE h
  obtain ⟨a3, e4, h⟩ := h
  subst e4
  replace h := zkE h
  obtain ⟨e5, h⟩ := h
  replace h := zb2E h
  obtain ⟨r7, G8, e6, h⟩ := h
  refine j_cont (zrF (As := []) msX4_20_J2 (yJ2_iterator_ok e6) (Nat.le_trans (Nat.le_of_ble_eq_true rfl) hd) (zk_12 _ e5) rfl rfl (Nat.le_of_ble_eq_true rfl) dX4_removeDirect_6) ?_
  refine j_astore_n (lv' := [(3, vR r7), (2, vI 0), (0, vR (some t)), (1, vI x1)]) dX4_removeDirect_11 rfl (Nat.le_of_ble_eq_true rfl) rfl ?_
  exact J.sub (zall [2, 3, 1, 0] rfl) (wflX4_removeDirect_12 hd t x1 0 r7  G8 h hk)
theorem yX4_removeDirect_ok {t : Nat} {x1 : Int32} {G : GS} {r : (Unit) ⊕ String} {G1 : GS} (h : fX4_removeDirect_0 t x1 G = some (r, G1)) : zRuns yX4_removeDirect (ws_ yX4_removeDirect cX4_removeDirect 8 none) [vR (some t), vI x1] (zout (fun _ => none) r, G, G1, 8) :=
  zentry (M := mX4_removeDirect) (plainFor_of_name (by decide +kernel)) ⟨rfl, rfl, rfl, rfl⟩ (Nat.le_of_ble_eq_true rfl) (wfX4_removeDirect_0 (Nat.le_refl _) t x1 G h ⟨rfl, rfl⟩)
theorem msX4_69 : zSV RX4 69 RX4 yX4_replaceFirst cX4_replaceFirst 8 (some Jvm.ClassFile.FieldType.boolean) 2 := ⟨lw_V q2217 q2219 qs40 q146 q2220, (by decide +kernel), (by decide)⟩
theorem msX4_76 : zSV RX4 76 RX4 yX4_removeDirect cX4_removeDirect 8 none 1 := ⟨lw_V q2284 q2286 qs45 q146 q2287, (by decide +kernel), (by decide)⟩
abbrev mX4_removeLeftRecursion : zM := (cX4_removeLeftRecursion, RX4, 4, none, "removeLeftRecursion", [], "()V")
def fX4_removeLeftRecursion_104 (t : Nat) (x1 : Int32) (x2 : Int32)  (G : GS) : Option ((Int32 × GS) ⊕ (((Unit) ⊕ String) × GS)) :=
  some (.inl ((x2 + 1), G))
theorem wfX4_removeLeftRecursion_104 {F : zF} (hd : 22 ≤ F.2.2.2) (t : Nat) (x1 : Int32) (x2 : Int32)  (G : GS) {a : (Int32 × GS) ⊕ (((Unit) ⊕ String) × GS)} (h : fX4_removeLeftRecursion_104 t x1 x2  G = some a) (hk : (zcase (fun s : Int32 × GS => J mX4_removeLeftRecursion F s.2 48 [(0, vR (some t)), (1, vI x1), (2, vI s.1)] []) (zKXV F)) a) : J mX4_removeLeftRecursion F G 104 [(0, vR (some t)), (1, vI x1), (2, vI x2)] [] := by
  unfold fX4_removeLeftRecursion_104 at h
  refine j_iinc (j := 2) (v := (x2 + 1)) (lv' := [(2, vI (x2 + 1)), (0, vR (some t)), (1, vI x1)]) dX4_removeLeftRecursion_104 rfl rfl (Nat.le_of_ble_eq_true rfl) rfl ?_
  refine j_goto (tgt := 48) dX4_removeLeftRecursion_107 (by decide) ?_
  obtain rfl := Option.some.inj h
  exact J.sub (zall [1, 2, 0] rfl) hk
def fX4_removeLeftRecursion_92 (t : Nat) (x1 : Int32) (x2 : Int32)  (G : GS) : Option ((Int32 × GS) ⊕ (((Unit) ⊕ String) × GS)) :=
  zk [4] G t <| zb3 (fX4_removeDirect_0 t (20 + x2) G) (fun u6 G3 => zk [4] G3 t <| zb3 (fX4_check_0 t G3) (fun u12 G9 => fX4_removeLeftRecursion_104 t x1 x2 G9) (fun X10 G11 => zo (some (.inr X10, G11)))) (fun X4 G5 => zo (some (.inr X4, G5)))
theorem wfX4_removeLeftRecursion_92 {F : zF} (hd : 22 ≤ F.2.2.2) (t : Nat) (x1 : Int32) (x2 : Int32)  (G : GS) {a : (Int32 × GS) ⊕ (((Unit) ⊕ String) × GS)} (h : fX4_removeLeftRecursion_92 t x1 x2  G = some a) (hk : (zcase (fun s : Int32 × GS => J mX4_removeLeftRecursion F s.2 48 [(0, vR (some t)), (1, vI x1), (2, vI s.1)] []) (zKXV F)) a) : J mX4_removeLeftRecursion F G 92 [(0, vR (some t)), (1, vI x1), (2, vI x2)] [] := by
  unfold fX4_removeLeftRecursion_92 at h
  refine j_aload_n (j := 0) dX4_removeLeftRecursion_92 rfl rfl ?_
  refine j_bipush (v := 20) dX4_removeLeftRecursion_93 (by decide) ?_
  refine j_iload_n (j := 2) dX4_removeLeftRecursion_95 rfl rfl ?_
  refine j_iadd dX4_removeLeftRecursion_96 ?_
  replace h := zkE h
  obtain ⟨e1, h⟩ := h
  replace h := zb3E h
  rcases h with ⟨u6, G3, e2, h⟩ | ⟨X4, G5, e2, h⟩
  · refine j_cont (zrV (As := [vI (20 + x2)]) msX4_76 (yX4_removeDirect_ok e2) (Nat.le_trans (Nat.le_of_ble_eq_true rfl) hd) (zk_4 _ e1) rfl rfl (Nat.le_of_ble_eq_true rfl) dX4_removeLeftRecursion_97) ?_
    refine j_aload_n (j := 0) dX4_removeLeftRecursion_100 rfl rfl ?_
    replace h := zkE h
    obtain ⟨e7, h⟩ := h
    replace h := zb3E h
    rcases h with ⟨u12, G9, e8, h⟩ | ⟨X10, G11, e8, h⟩
    · refine j_cont (zrV (As := []) msX4_73 (yX4_check_ok e8) (Nat.le_trans (Nat.le_of_ble_eq_true rfl) hd) (zk_4 _ e7) rfl rfl (Nat.le_of_ble_eq_true rfl) dX4_removeLeftRecursion_101) ?_
      exact J.sub (zall [0, 1, 2] rfl) (wfX4_removeLeftRecursion_104 hd t x1 x2  G9 h hk)
    · refine j_thr (zrV (As := []) msX4_73 (yX4_check_ok e8) (Nat.le_trans (Nat.le_of_ble_eq_true rfl) hd) (zk_4 _ e7) rfl rfl (Nat.le_of_ble_eq_true rfl) dX4_removeLeftRecursion_101) ?_
      replace h := zoE h
      obtain ⟨a, h, rfl⟩ := h
      replace hk := hk
      obtain rfl := Option.some.inj h
      exact jx_out hk.1 hk.2 (by decide)
  · refine j_thr (zrV (As := [vI (20 + x2)]) msX4_76 (yX4_removeDirect_ok e2) (Nat.le_trans (Nat.le_of_ble_eq_true rfl) hd) (zk_4 _ e1) rfl rfl (Nat.le_of_ble_eq_true rfl) dX4_removeLeftRecursion_97) ?_
    replace h := zoE h
    obtain ⟨a, h, rfl⟩ := h
    replace hk := hk
    obtain rfl := Option.some.inj h
    exact jx_out hk.1 hk.2 (by decide)
def fbX4_removeLeftRecursion_73 (t : Nat) (x1 : Int32) (x2 : Int32) (x3 : Int32)  (G : GS) : Option ((GS) ⊕ ((Int32 × GS) ⊕ (((Unit) ⊕ String) × GS))) :=
  zk [4] G t <| zb3 (fX4_replaceFirst_0 t (20 + x2) x3 G) (fun v3 G4 => if v3 = 0 then (zo (fX4_removeLeftRecursion_92 t x1 x2 G4)) else (zk [4] G4 t <| zb3 (fX4_check_0 t G4) (fun u13 G10 => some (.inl (G10))) (fun X11 G12 => zo (zo (some (.inr X11, G12)))))) (fun X5 G6 => zo (zo (some (.inr X5, G6))))
def flX4_removeLeftRecursion_73 (t : Nat) (x1 : Int32) (x2 : Int32) (x3 : Int32) (G : GS) : Option ((Int32 × GS) ⊕ (((Unit) ⊕ String) × GS)) := zloop (fun s : GS => fbX4_removeLeftRecursion_73 t x1 x2 x3 s) (G)
theorem wfbX4_removeLeftRecursion_73 {F : zF} (hd : 22 ≤ F.2.2.2) (t : Nat) (x1 : Int32) (x2 : Int32) (x3 : Int32) (G : GS) {a : (GS) ⊕ ((Int32 × GS) ⊕ (((Unit) ⊕ String) × GS))} (h : fbX4_removeLeftRecursion_73 t x1 x2 x3 G = some a) (hk : (zcase (fun s : GS => J mX4_removeLeftRecursion F s 73 [(0, vR (some t)), (1, vI x1), (2, vI x2), (3, vI x3)] []) ((zcase (fun s : Int32 × GS => J mX4_removeLeftRecursion F s.2 48 [(0, vR (some t)), (1, vI x1), (2, vI s.1)] []) (zKXV F)))) a) : J mX4_removeLeftRecursion F G 73 [(0, vR (some t)), (1, vI x1), (2, vI x2), (3, vI x3)] [] := by
  unfold fbX4_removeLeftRecursion_73 at h
  refine j_aload_n (j := 0) dX4_removeLeftRecursion_73 rfl rfl ?_
  refine j_bipush (v := 20) dX4_removeLeftRecursion_74 (by decide) ?_
  refine j_iload_n (j := 2) dX4_removeLeftRecursion_76 rfl rfl ?_
  refine j_iadd dX4_removeLeftRecursion_77 ?_
  refine j_iload_n (j := 3) dX4_removeLeftRecursion_78 rfl rfl ?_
  replace h := zkE h
  obtain ⟨e1, h⟩ := h
  replace h := zb3E h
  rcases h with ⟨v3, G4, e2, h⟩ | ⟨X5, G6, e2, h⟩
  · refine j_cont (zrV (As := [vI (20 + x2), vI x3]) msX4_69 (yX4_replaceFirst_ok e2) (Nat.le_trans (Nat.le_of_ble_eq_true rfl) hd) (zk_4 _ e1) rfl rfl (Nat.le_of_ble_eq_true rfl) dX4_removeLeftRecursion_79) ?_
    refine j_if_eq (tgt := 92) dX4_removeLeftRecursion_82 (by decide) (fun c7 => ?_) (fun c7 => ?_)
    · rw [if_pos c7] at h
      replace h := zoE h
      obtain ⟨a, h, rfl⟩ := h
      replace hk := hk
      exact J.sub (zall [0, 1, 2] rfl) (wfX4_removeLeftRecursion_92 hd t x1 x2  G4 h hk)
    · rw [if_neg c7] at h
      refine j_aload_n (j := 0) dX4_removeLeftRecursion_85 rfl rfl ?_
      replace h := zkE h
      obtain ⟨e8, h⟩ := h
      replace h := zb3E h
      rcases h with ⟨u13, G10, e9, h⟩ | ⟨X11, G12, e9, h⟩
      · refine j_cont (zrV (As := []) msX4_73 (yX4_check_ok e9) (Nat.le_trans (Nat.le_of_ble_eq_true rfl) hd) (zk_4 _ e8) rfl rfl (Nat.le_of_ble_eq_true rfl) dX4_removeLeftRecursion_86) ?_
        refine j_goto (tgt := 73) dX4_removeLeftRecursion_89 (by decide) ?_
        obtain rfl := Option.some.inj h
        exact J.sub (zall [0, 1, 2, 3] rfl) hk
      · refine j_thr (zrV (As := []) msX4_73 (yX4_check_ok e9) (Nat.le_trans (Nat.le_of_ble_eq_true rfl) hd) (zk_4 _ e8) rfl rfl (Nat.le_of_ble_eq_true rfl) dX4_removeLeftRecursion_86) ?_
        replace h := zoE h
        obtain ⟨a, h, rfl⟩ := h
        replace hk := hk
        replace h := zoE h
        obtain ⟨a, h, rfl⟩ := h
        replace hk := hk
        obtain rfl := Option.some.inj h
        exact jx_out hk.1 hk.2 (by decide)
  · refine j_thr (zrV (As := [vI (20 + x2), vI x3]) msX4_69 (yX4_replaceFirst_ok e2) (Nat.le_trans (Nat.le_of_ble_eq_true rfl) hd) (zk_4 _ e1) rfl rfl (Nat.le_of_ble_eq_true rfl) dX4_removeLeftRecursion_79) ?_
    replace h := zoE h
    obtain ⟨a, h, rfl⟩ := h
    replace hk := hk
    replace h := zoE h
    obtain ⟨a, h, rfl⟩ := h
    replace hk := hk
    obtain rfl := Option.some.inj h
    exact jx_out hk.1 hk.2 (by decide)
theorem wflX4_removeLeftRecursion_73 {F : zF} (hd : 22 ≤ F.2.2.2) (t : Nat) (x1 : Int32) (x2 : Int32) (x3 : Int32) (G : GS) {a : (Int32 × GS) ⊕ (((Unit) ⊕ String) × GS)} (h : flX4_removeLeftRecursion_73 t x1 x2 x3 G = some a) (hk : (zcase (fun s : Int32 × GS => J mX4_removeLeftRecursion F s.2 48 [(0, vR (some t)), (1, vI x1), (2, vI s.1)] []) (zKXV F)) a) : J mX4_removeLeftRecursion F G 73 [(0, vR (some t)), (1, vI x1), (2, vI x2), (3, vI x3)] [] := by
  unfold flX4_removeLeftRecursion_73 at h
  exact zloop_walk (P := (fun s : GS => J mX4_removeLeftRecursion F s 73 [(0, vR (some t)), (1, vI x1), (2, vI x2), (3, vI x3)] [])) (fun s b e hk => wfbX4_removeLeftRecursion_73 hd t x1 x2 x3 s e hk) (G) _ h hk
def fbX4_removeLeftRecursion_48 (t : Nat) (x1 : Int32) (x2 : Int32)  (G : GS) : Option ((Int32 × GS) ⊕ (((Unit) ⊕ String) × GS)) :=
  if 12 ≤ x2 then (zo (some (.inl (), G))) else (if ((x1 >>> (x2 &&& 31)) &&& 1) = 0 then (fX4_removeLeftRecursion_104 t x1 x2 G) else (flX4_removeLeftRecursion_73 t x1 x2 (x1 &&& (((1 : Int32) <<< (x2 &&& 31)) - 1)) G))
def flX4_removeLeftRecursion_48 (t : Nat) (x1 : Int32) (x2 : Int32) (G : GS) : Option (((Unit) ⊕ String) × GS) := zloop (fun s : Int32 × GS => fbX4_removeLeftRecursion_48 t x1 s.1 s.2) (x2, G)
theorem wfbX4_removeLeftRecursion_48 {F : zF} (hd : 22 ≤ F.2.2.2) (t : Nat) (x1 : Int32) (x2 : Int32) (G : GS) {a : (Int32 × GS) ⊕ (((Unit) ⊕ String) × GS)} (h : fbX4_removeLeftRecursion_48 t x1 x2 G = some a) (hk : (zcase (fun s : Int32 × GS => J mX4_removeLeftRecursion F s.2 48 [(0, vR (some t)), (1, vI x1), (2, vI s.1)] []) (zKXV F)) a) : J mX4_removeLeftRecursion F G 48 [(0, vR (some t)), (1, vI x1), (2, vI x2)] [] := by
  unfold fbX4_removeLeftRecursion_48 at h
  refine j_iload_n (j := 2) dX4_removeLeftRecursion_48 rfl rfl ?_
  refine j_bipush (v := 12) dX4_removeLeftRecursion_49 (by decide) ?_
  refine j_icmp_ge (tgt := 110) dX4_removeLeftRecursion_51 (by decide) (fun c1 => ?_) (fun c1 => ?_)
  · rw [if_pos c1] at h
    replace h := zoE h
    obtain ⟨a, h, rfl⟩ := h
    replace hk := hk
    obtain rfl := Option.some.inj h
    exact j_vret hk.1 hk.2 rfl dX4_removeLeftRecursion_110
  · rw [if_neg c1] at h
    refine j_iload_n (j := 1) dX4_removeLeftRecursion_54 rfl rfl ?_
    refine j_iload_n (j := 2) dX4_removeLeftRecursion_55 rfl rfl ?_
    refine j_ishr dX4_removeLeftRecursion_56 ?_
    refine j_iconst (v := 1) dX4_removeLeftRecursion_57 (by decide) ?_
    refine j_iand dX4_removeLeftRecursion_58 ?_
    refine j_if_ne (tgt := 65) dX4_removeLeftRecursion_59 (by decide) (fun c2 => ?_) (fun c2 => ?_)
    · rw [if_pos c2] at h
      refine j_goto (tgt := 104) dX4_removeLeftRecursion_62 (by decide) ?_
      exact J.sub (zall [0, 1, 2] rfl) (wfX4_removeLeftRecursion_104 hd t x1 x2  G h hk)
    · rw [if_neg c2] at h
      refine j_iload_n (j := 1) dX4_removeLeftRecursion_65 rfl rfl ?_
      refine j_iconst (v := 1) dX4_removeLeftRecursion_66 (by decide) ?_
      refine j_iload_n (j := 2) dX4_removeLeftRecursion_67 rfl rfl ?_
      refine j_ishl dX4_removeLeftRecursion_68 ?_
      refine j_iconst (v := 1) dX4_removeLeftRecursion_69 (by decide) ?_
      refine j_isub dX4_removeLeftRecursion_70 ?_
      refine j_iand dX4_removeLeftRecursion_71 ?_
      refine j_istore_n (lv' := [(3, vI (x1 &&& (((1 : Int32) <<< (x2 &&& 31)) - 1))), (0, vR (some t)), (1, vI x1), (2, vI x2)]) dX4_removeLeftRecursion_72 rfl (Nat.le_of_ble_eq_true rfl) rfl ?_
      exact J.sub (zall [1, 2, 3, 0] rfl) (wflX4_removeLeftRecursion_73 hd t x1 x2 (x1 &&& (((1 : Int32) <<< (x2 &&& 31)) - 1))  G h hk)
theorem wflX4_removeLeftRecursion_48 {F : zF} (hd : 22 ≤ F.2.2.2) (t : Nat) (x1 : Int32) (x2 : Int32) (G : GS) {a : ((Unit) ⊕ String) × GS} (h : flX4_removeLeftRecursion_48 t x1 x2 G = some a) (hk : zKXV F a) : J mX4_removeLeftRecursion F G 48 [(0, vR (some t)), (1, vI x1), (2, vI x2)] [] := by
  unfold flX4_removeLeftRecursion_48 at h
  exact zloop_walk (P := (fun s : Int32 × GS => J mX4_removeLeftRecursion F s.2 48 [(0, vR (some t)), (1, vI x1), (2, vI s.1)] [])) (fun s b e hk => wfbX4_removeLeftRecursion_48 hd t x1 s.1 s.2 e hk) (x2, G) _ h hk
def fX4_removeLeftRecursion_46 (t : Nat) (x1 : Int32)  (G : GS) : Option (((Unit) ⊕ String) × GS) :=
  flX4_removeLeftRecursion_48 t x1 0 G
theorem wfX4_removeLeftRecursion_46 {F : zF} (hd : 22 ≤ F.2.2.2) (t : Nat) (x1 : Int32)  (G : GS) {a : ((Unit) ⊕ String) × GS} (h : fX4_removeLeftRecursion_46 t x1  G = some a) (hk : zKXV F a) : J mX4_removeLeftRecursion F G 46 [(0, vR (some t)), (1, vI x1)] [] := by
  unfold fX4_removeLeftRecursion_46 at h
  refine j_iconst (v := 0) dX4_removeLeftRecursion_46 (by decide) ?_
  refine j_istore_n (lv' := [(2, vI 0), (0, vR (some t)), (1, vI x1)]) dX4_removeLeftRecursion_47 rfl (Nat.le_of_ble_eq_true rfl) rfl ?_
  exact J.sub (zall [1, 2, 0] rfl) (wflX4_removeLeftRecursion_48 hd t x1 0  G h hk)
def fbX4_removeLeftRecursion_12 (t : Nat) (x1 : Int32) (x2 : Option Nat)  (G : GS) : Option ((Int32 × GS) ⊕ (((Unit) ⊕ String) × GS)) :=
  x2.bind fun a1 => zk [13] G a1 <| (fJ19_hasNext_0 a1 G).bind fun v5 => if v5 = 0 then (zo (fX4_removeLeftRecursion_46 t x1 G)) else (zk [13] G a1 <| zb2 (fJ19_next_0 a1 G) fun r9 G10 => zkq [3] G10 r9 (r9.bind fun a12 => (zgI G10 3 a12 0).bind fun v14 => some (.inl ((x1 ||| ((1 : Int32) <<< ((v14 - 20) &&& 31))), G10))))
def flX4_removeLeftRecursion_12 (t : Nat) (x1 : Int32) (x2 : Option Nat) (G : GS) : Option (((Unit) ⊕ String) × GS) := zloop (fun s : Int32 × GS => fbX4_removeLeftRecursion_12 t s.1 x2 s.2) (x1, G)
theorem wfbX4_removeLeftRecursion_12 {F : zF} (hd : 22 ≤ F.2.2.2) (t : Nat) (x1 : Int32) (x2 : Option Nat) (G : GS) {a : (Int32 × GS) ⊕ (((Unit) ⊕ String) × GS)} (h : fbX4_removeLeftRecursion_12 t x1 x2 G = some a) (hk : (zcase (fun s : Int32 × GS => J mX4_removeLeftRecursion F s.2 12 [(0, vR (some t)), (1, vI s.1), (2, vR x2)] []) (zKXV F)) a) : J mX4_removeLeftRecursion F G 12 [(0, vR (some t)), (1, vI x1), (2, vR x2)] [] := by
  unfold fbX4_removeLeftRecursion_12 at h
  refine j_aload_n (j := 2) dX4_removeLeftRecursion_12 rfl rfl ?_
  replace h := zbE h
  obtain ⟨a1, e2, h⟩ := h
  subst e2
  replace h := zkE h
  obtain ⟨e3, h⟩ := h
  replace h := zbE h
  obtain ⟨v5, e4, h⟩ := h
  refine j_cont (zrF (As := []) msX4_26_J19 (yJ19_hasNext_ok e4) (Nat.le_trans (Nat.le_of_ble_eq_true rfl) hd) (zk_13 _ e3) rfl rfl (Nat.le_of_ble_eq_true rfl) dX4_removeLeftRecursion_13) ?_
  refine j_if_eq (tgt := 46) dX4_removeLeftRecursion_18 (by decide) (fun c6 => ?_) (fun c6 => ?_)
  · rw [if_pos c6] at h
    replace h := zoE h
    obtain ⟨a, h, rfl⟩ := h
    replace hk := hk
    exact J.sub (zall [0, 1] rfl) (wfX4_removeLeftRecursion_46 hd t x1  G h hk)
  · rw [if_neg c6] at h
    refine j_aload_n (j := 2) dX4_removeLeftRecursion_21 rfl rfl ?_
    replace h := zkE h
    obtain ⟨e7, h⟩ := h
    replace h := zb2E h
    obtain ⟨r9, G10, e8, h⟩ := h
    refine j_cont (zrF (As := []) msX4_32_J19 (yJ19_next_ok e8) (Nat.le_trans (Nat.le_of_ble_eq_true rfl) hd) (zk_13 _ e7) rfl rfl (Nat.le_of_ble_eq_true rfl) dX4_removeLeftRecursion_22) ?_
    replace h := zkqE h
    obtain ⟨e11, h⟩ := h
    refine j_castq (fun k => j_castN dX4_removeLeftRecursion_27 k) (fun b q16 k => j_castS (zk_3 _ (e11 b q16)) ⟨2, _, rfl, rfl⟩ q399 dX4_removeLeftRecursion_27 k) ?_
    refine j_astore_n (lv' := [(3, vR r9), (0, vR (some t)), (1, vI x1), (2, vR (some a1))]) dX4_removeLeftRecursion_30 rfl (Nat.le_of_ble_eq_true rfl) rfl ?_
    refine j_iload_n (j := 2) dX4_removeLeftRecursion_31 rfl rfl ?_
    refine j_iconst (v := 1) dX4_removeLeftRecursion_32 (by decide) ?_
    refine j_aload_n (j := 0) dX4_removeLeftRecursion_33 rfl rfl ?_
    replace h := zbE h
    obtain ⟨a12, e13, h⟩ := h
    subst e13
    replace h := zbE h
    obtain ⟨v14, e15, h⟩ := h
    refine j_getI fgX4_38 (fun _ _ _ => rfl) dX4_removeLeftRecursion_34 e15 ?_
    refine j_bipush (v := 20) dX4_removeLeftRecursion_37 (by decide) ?_
    refine j_isub dX4_removeLeftRecursion_39 ?_
    refine j_ishl dX4_removeLeftRecursion_40 ?_
    refine j_ior dX4_removeLeftRecursion_41 ?_
    refine j_istore_n (lv' := [(1, vI (x1 ||| ((1 : Int32) <<< ((v14 - 20) &&& 31)))), (3, vR (some a12)), (0, vR (some t)), (2, vR (some a1))]) dX4_removeLeftRecursion_42 rfl (Nat.le_of_ble_eq_true rfl) rfl ?_
    refine j_goto (tgt := 12) dX4_removeLeftRecursion_43 (by decide) ?_
    obtain rfl := Option.some.inj h
    exact J.sub (zall [2, 0, 3] rfl) hk
theorem wflX4_removeLeftRecursion_12 {F : zF} (hd : 22 ≤ F.2.2.2) (t : Nat) (x1 : Int32) (x2 : Option Nat) (G : GS) {a : ((Unit) ⊕ String) × GS} (h : flX4_removeLeftRecursion_12 t x1 x2 G = some a) (hk : zKXV F a) : J mX4_removeLeftRecursion F G 12 [(0, vR (some t)), (1, vI x1), (2, vR x2)] [] := by
  unfold flX4_removeLeftRecursion_12 at h
  exact zloop_walk (P := (fun s : Int32 × GS => J mX4_removeLeftRecursion F s.2 12 [(0, vR (some t)), (1, vI s.1), (2, vR x2)] [])) (fun s b e hk => wfbX4_removeLeftRecursion_12 hd t s.1 x2 s.2 e hk) (x1, G) _ h hk
def fX4_removeLeftRecursion_0 (t : Nat)  (G : GS) : Option (((Unit) ⊕ String) × GS) :=
  (zgR G 4 t 0).bind fun r1 => r1.bind fun a3 => zk [12] G a3 <| zb2 (fJ2_iterator_0 a3 G) fun r7 G8 => flX4_removeLeftRecursion_12 t 0 r7 G8
theorem wfX4_removeLeftRecursion_0 {F : zF} (hd : 22 ≤ F.2.2.2) (t : Nat)  (G : GS) {a : ((Unit) ⊕ String) × GS} (h : fX4_removeLeftRecursion_0 t  G = some a) (hk : zKXV F a) : J mX4_removeLeftRecursion F G 0 [(0, vR (some t))] [] := by
  unfold fX4_removeLeftRecursion_0 at h
  refine j_iconst (v := 0) dX4_removeLeftRecursion_0 (by decide) ?_
  refine j_istore_n (lv' := [(1, vI 0), (0, vR (some t))]) dX4_removeLeftRecursion_1 rfl (Nat.le_of_ble_eq_true rfl) rfl ?_
  refine j_aload_n (j := 1) dX4_removeLeftRecursion_2 rfl rfl ?_
  replace h := zbE h
  obtain ⟨r1, e2, h⟩ := h
  refine j_getR fgX4_14 (fun _ _ _ => rfl) dX4_removeLeftRecursion_3 e2 ?_
  replace h := zbE h
  obtain ⟨a3, e4, h⟩ := h
  subst e4
  replace h := zkE h
  obtain ⟨e5, h⟩ := h
  replace h := zb2E h
  obtain ⟨r7, G8, e6, h⟩ := h
  refine j_cont (zrF (As := []) msX4_20_J2 (yJ2_iterator_ok e6) (Nat.le_trans (Nat.le_of_ble_eq_true rfl) hd) (zk_12 _ e5) rfl rfl (Nat.le_of_ble_eq_true rfl) dX4_removeLeftRecursion_6) ?_
  refine j_astore_n (lv' := [(2, vR r7), (1, vI 0), (0, vR (some t))]) dX4_removeLeftRecursion_11 rfl (Nat.le_of_ble_eq_true rfl) rfl ?_
  exact J.sub (zall [2, 1, 0] rfl) (wflX4_removeLeftRecursion_12 hd t 0 r7  G8 h hk)
theorem yX4_removeLeftRecursion_ok {t : Nat} {G : GS} {r : (Unit) ⊕ String} {G1 : GS} (h : fX4_removeLeftRecursion_0 t G = some (r, G1)) : zRuns yX4_removeLeftRecursion (ws_ yX4_removeLeftRecursion cX4_removeLeftRecursion 4 none) [vR (some t)] (zout (fun _ => none) r, G, G1, 22) :=
  zentry (M := mX4_removeLeftRecursion) (plainFor_of_name (by decide +kernel)) ⟨rfl, rfl, rfl, rfl⟩ (Nat.le_of_ble_eq_true rfl) (wfX4_removeLeftRecursion_0 (Nat.le_refl _) t G h ⟨rfl, rfl⟩)
theorem msX1_180 : zSV RX1 180 RX4 yX4_removeLeftRecursion cX4_removeLeftRecursion 4 none 0 := ⟨lw_V q2213 q2214 q2215 q146 q2216, (by decide +kernel), (by decide)⟩
abbrev mX1_removeLeftRecursion : zM := (cX1_removeLeftRecursion, RX1, 3, (some Jvm.ClassFile.FieldType.int), "removeLeftRecursion", [(12, 16, 19, 183)], "()I")
def fX1_removeLeftRecursion_0 (t : Nat)  (G : GS) : Option (((Int32) ⊕ String) × GS) :=
  zl (al G 4 0 3) fun G1 => (zgR G1 1 t 0).bind fun r3 => (fX4_init_0 (gz G) r3 G1).bind fun G6 => zk [4] G6 (gz G) <| zb3 (fX4_removeLeftRecursion_0 (gz G) G6) (fun u12 G9 => zk [1] G9 t <| zb2 (fX1_kept_0 t (some (gz G)) G9) fun v15 G16 => some (.inl v15, G16)) (fun X10 G11 => if X10 = "SelahGenerator$Failed" then (zl (al G11 0 0 6) fun G19 => some (.inr "java/lang/IllegalStateException", G19)) else none)
theorem wfX1_removeLeftRecursion_0 {F : zF} (hd : 23 ≤ F.2.2.2) (t : Nat)  (G : GS) {a : ((Int32) ⊕ String) × GS} (h : fX1_removeLeftRecursion_0 t  G = some a) (hk : zKXI F a) : J mX1_removeLeftRecursion F G 0 [(0, vR (some t))] [] := by
  unfold fX1_removeLeftRecursion_0 at h
  replace h := zlE h
  obtain ⟨G1, e2, h⟩ := h
  refine j_new (c := 3) (n := 3) (r := (RX4, TX4, 3, tyX4)) rfl rfl in_X4 tyX4_ok nwX4 q1969 q1970 q146 dX1_removeLeftRecursion_0 ?_
  rw [show al G (3 + 1) 0 3 = G1 from e2.symm]
  refine j_dup dX1_removeLeftRecursion_3 rfl ?_
  refine j_aload_n (j := 0) dX1_removeLeftRecursion_4 rfl rfl ?_
  replace h := zbE h
  obtain ⟨r3, e4, h⟩ := h
  refine j_getR fgX1_16 (fun _ _ _ => rfl) dX1_removeLeftRecursion_5 e4 ?_
  replace h := zbE h
  obtain ⟨G6, e5, h⟩ := h
  refine j_cont (zrI (As := [vR r3]) msX1_179 (yX4_init_ok e5) (Nat.le_trans (Nat.le_of_ble_eq_true rfl) hd) rfl rfl (Nat.le_of_ble_eq_true rfl) dX1_removeLeftRecursion_8) ?_
  refine j_astore_n (lv' := [(1, vR (some (gz G))), (0, vR (some t))]) dX1_removeLeftRecursion_11 rfl (Nat.le_of_ble_eq_true rfl) rfl ?_
  refine j_aload_n (j := 0) dX1_removeLeftRecursion_12 rfl rfl ?_
  replace h := zkE h
  obtain ⟨e7, h⟩ := h
  replace h := zb3E h
  rcases h with ⟨u12, G9, e8, h⟩ | ⟨X10, G11, e8, h⟩
  · refine j_cont (zrV (As := []) msX1_180 (yX4_removeLeftRecursion_ok e8) (Nat.le_trans (Nat.le_of_ble_eq_true rfl) hd) (zk_4 _ e7) rfl rfl (Nat.le_of_ble_eq_true rfl) dX1_removeLeftRecursion_13) ?_
    refine j_goto (tgt := 28) dX1_removeLeftRecursion_16 (by decide) ?_
    refine j_aload_n (j := 1) dX1_removeLeftRecursion_28 rfl rfl ?_
    refine j_aload_n (j := 0) dX1_removeLeftRecursion_29 rfl rfl ?_
    replace h := zkE h
    obtain ⟨e13, h⟩ := h
    replace h := zb2E h
    obtain ⟨v15, G16, e14, h⟩ := h
    refine j_cont (zrV (As := [vR (some (gz G))]) msX1_185 (yX1_kept_ok e14) (Nat.le_trans (Nat.le_of_ble_eq_true rfl) hd) (zk_1 _ e13) rfl rfl (Nat.le_of_ble_eq_true rfl) dX1_removeLeftRecursion_30) ?_
    obtain rfl := Option.some.inj h
    exact j_iret hk.1 hk.2 rfl dX1_removeLeftRecursion_33
  · refine j_thr (zrV (As := []) msX1_180 (yX4_removeLeftRecursion_ok e8) (Nat.le_trans (Nat.le_of_ble_eq_true rfl) hd) (zk_4 _ e7) rfl rfl (Nat.le_of_ble_eq_true rfl) dX1_removeLeftRecursion_13) ?_
    by_cases c21 : X10 = "SelahGenerator$Failed"
    · rw [if_pos c21] at h
      subst c21
      refine jx_catch (n := 19) [] ⟨12, 16, 19, 183⟩ [] rfl (fun z hz => nomatch hz) rfl (by decide) q1968 (zxw 113 rfl) rfl (fun q18 => ?_)
      refine j_astore_n (lv' := [(2, vR (some q18)), (1, vR (some (gz G))), (0, vR (some t))]) dX1_removeLeftRecursion_19 rfl (Nat.le_of_ble_eq_true rfl) rfl ?_
      replace h := zlE h
      obtain ⟨G19, e20, h⟩ := h
      refine j_throw exX1_73_75 dX1_removeLeftRecursion_20 dX1_removeLeftRecursion_23 dX1_removeLeftRecursion_24 dX1_removeLeftRecursion_27 (Nat.le_trans (Nat.le_of_ble_eq_true rfl) hd) (Nat.le_of_ble_eq_true rfl) ?_
      rw [show al G11 0 0 6 = G19 from e20.symm]
      obtain rfl := Option.some.inj h
      exact jx_out hk.1 hk.2 (by decide)
    · rw [if_neg c21] at h
      cases h
theorem yX1_removeLeftRecursion_ok {t : Nat} {G : GS} {r : (Int32) ⊕ String} {G1 : GS} (h : fX1_removeLeftRecursion_0 t G = some (r, G1)) : zRuns yX1_removeLeftRecursion (wsW_ yX1_removeLeftRecursion cX1_removeLeftRecursion 3 (some Jvm.ClassFile.FieldType.int) [(12, 16, 19, 183)]) [vR (some t)] (zout (fun v => some (vI v)) r, G, G1, 23) :=
  zentryW (M := mX1_removeLeftRecursion) (by decide +kernel) ⟨rfl, rfl, rfl⟩ (Nat.le_of_ble_eq_true rfl) (wfX1_removeLeftRecursion_0 (Nat.le_refl _) t G h ⟨rfl, rfl⟩)
theorem msX1_115_J2 : zSF RX1 115 RJ2 ⟨"java/util/List", "remove", "(I)Ljava/lang/Object;"⟩ yJ2_remove cJ2_remove 4 (some (Jvm.ClassFile.FieldType.object "java/lang/Object")) 1 := ⟨lw_F q1830 q1833 q1835 q126 q1837, zfw 12 rfl, ⟨11, _, rfl, rfl⟩, (by decide +kernel), (by decide)⟩
abbrev mX1_removeRule : zM := (cX1_removeRule, RX1, 3, (some Jvm.ClassFile.FieldType.int), "removeRule", [], "(I)I")
def fX1_removeRule_0 (t : Nat) (x1 : Int32)  (G : GS) : Option (((Int32) ⊕ String) × GS) :=
  (zgR G 1 t 0).bind fun r1 => zk [1] G t <| zb3 (fX1_number_0 t x1 G) (fun v5 G6 => r1.bind fun a9 => zk [12] G6 a9 <| zb2 (fJ2_remove_0 a9 v5 G6) fun r13 G14 => zkq [3] G14 r13 ((zgR G14 1 t 0).bind fun r16 => r16.bind fun a18 => zk [12] G14 a18 <| (fJ2_size_0 a18 G14).bind fun v22 => zk [1] G14 t <| zb2 (fX1_changed_0 t v22 G14) fun v25 G26 => some (.inl v25, G26))) (fun X7 G8 => some (.inr X7, G8))
theorem wfX1_removeRule_0 {F : zF} (hd : 9 ≤ F.2.2.2) (t : Nat) (x1 : Int32)  (G : GS) {a : ((Int32) ⊕ String) × GS} (h : fX1_removeRule_0 t x1  G = some a) (hk : zKXI F a) : J mX1_removeRule F G 0 [(0, vR (some t)), (1, vI x1)] [] := by
  unfold fX1_removeRule_0 at h
  refine j_aload_n (j := 0) dX1_removeRule_0 rfl rfl ?_
  replace h := zbE h
  obtain ⟨r1, e2, h⟩ := h
  refine j_getR fgX1_16 (fun _ _ _ => rfl) dX1_removeRule_1 e2 ?_
  refine j_aload_n (j := 0) dX1_removeRule_4 rfl rfl ?_
  refine j_iload_n (j := 1) dX1_removeRule_5 rfl rfl ?_
  replace h := zkE h
  obtain ⟨e3, h⟩ := h
  replace h := zb3E h
  rcases h with ⟨v5, G6, e4, h⟩ | ⟨X7, G8, e4, h⟩
  · refine j_cont (zrV (As := [vI x1]) msX1_60 (yX1_number_ok e4) (Nat.le_trans (Nat.le_of_ble_eq_true rfl) hd) (zk_1 _ e3) rfl rfl (Nat.le_of_ble_eq_true rfl) dX1_removeRule_6) ?_
    replace h := zbE h
    obtain ⟨a9, e10, h⟩ := h
    subst e10
    replace h := zkE h
    obtain ⟨e11, h⟩ := h
    replace h := zb2E h
    obtain ⟨r13, G14, e12, h⟩ := h
    refine j_cont (zrF (As := [vI v5]) msX1_115_J2 (yJ2_remove_ok e12) (Nat.le_trans (Nat.le_of_ble_eq_true rfl) hd) (zk_12 _ e11) rfl rfl (Nat.le_of_ble_eq_true rfl) dX1_removeRule_9) ?_
    replace h := zkqE h
    obtain ⟨e15, h⟩ := h
    refine j_castq (fun k => j_castN dX1_removeRule_14 k) (fun b q27 k => j_castS (zk_3 _ (e15 b q27)) ⟨2, _, rfl, rfl⟩ q1615 dX1_removeRule_14 k) ?_
    refine j_astore_n (lv' := [(2, vR r13), (0, vR (some t)), (1, vI x1)]) dX1_removeRule_17 rfl (Nat.le_of_ble_eq_true rfl) rfl ?_
    refine j_aload_n (j := 1) dX1_removeRule_18 rfl rfl ?_
    refine j_aload_n (j := 1) dX1_removeRule_19 rfl rfl ?_
    replace h := zbE h
    obtain ⟨r16, e17, h⟩ := h
    refine j_getR fgX1_16 (fun _ _ _ => rfl) dX1_removeRule_20 e17 ?_
    replace h := zbE h
    obtain ⟨a18, e19, h⟩ := h
    subst e19
    replace h := zkE h
    obtain ⟨e20, h⟩ := h
    replace h := zbE h
    obtain ⟨v22, e21, h⟩ := h
    refine j_cont (zrF (As := []) msX1_54_J2 (yJ2_size_ok e21) (Nat.le_trans (Nat.le_of_ble_eq_true rfl) hd) (zk_12 _ e20) rfl rfl (Nat.le_of_ble_eq_true rfl) dX1_removeRule_23) ?_
    replace h := zkE h
    obtain ⟨e23, h⟩ := h
    replace h := zb2E h
    obtain ⟨v25, G26, e24, h⟩ := h
    refine j_cont (zrV (As := [vI v22]) msX1_90 (yX1_changed_ok e24) (Nat.le_trans (Nat.le_of_ble_eq_true rfl) hd) (zk_1 _ e23) rfl rfl (Nat.le_of_ble_eq_true rfl) dX1_removeRule_28) ?_
    obtain rfl := Option.some.inj h
    exact j_iret hk.1 hk.2 rfl dX1_removeRule_31
  · refine j_thr (zrV (As := [vI x1]) msX1_60 (yX1_number_ok e4) (Nat.le_trans (Nat.le_of_ble_eq_true rfl) hd) (zk_1 _ e3) rfl rfl (Nat.le_of_ble_eq_true rfl) dX1_removeRule_6) ?_
    obtain rfl := Option.some.inj h
    exact jx_out hk.1 hk.2 (by decide)
theorem yX1_removeRule_ok {t : Nat} {x1 : Int32} {G : GS} {r : (Int32) ⊕ String} {G1 : GS} (h : fX1_removeRule_0 t x1 G = some (r, G1)) : zRuns yX1_removeRule (ws_ yX1_removeRule cX1_removeRule 3 (some Jvm.ClassFile.FieldType.int)) [vR (some t), vI x1] (zout (fun v => some (vI v)) r, G, G1, 9) :=
  zentry (M := mX1_removeRule) (plainFor_of_name (by decide +kernel)) ⟨rfl, rfl, rfl, rfl⟩ (Nat.le_of_ble_eq_true rfl) (wfX1_removeRule_0 (Nat.le_refl _) t x1 G h ⟨rfl, rfl⟩)
abbrev mX1_ruleCount : zM := (cX1_ruleCount, RX1, 1, (some Jvm.ClassFile.FieldType.int), "ruleCount", [], "()I")
def fX1_ruleCount_0 (t : Nat)  (G : GS) : Option (Int32) :=
  (zgR G 1 t 0).bind fun r1 => r1.bind fun a3 => zk [12] G a3 <| (fJ2_size_0 a3 G).bind fun v7 => some v7
theorem wfX1_ruleCount_0 {F : zF} (hd : 2 ≤ F.2.2.2) (t : Nat)  (G : GS) {a : Int32} (h : fX1_ruleCount_0 t  G = some a) (hk : zKPI F G a) : J mX1_ruleCount F G 0 [(0, vR (some t))] [] := by
  unfold fX1_ruleCount_0 at h
  refine j_aload_n (j := 0) dX1_ruleCount_0 rfl rfl ?_
  replace h := zbE h
  obtain ⟨r1, e2, h⟩ := h
  refine j_getR fgX1_16 (fun _ _ _ => rfl) dX1_ruleCount_1 e2 ?_
  replace h := zbE h
  obtain ⟨a3, e4, h⟩ := h
  subst e4
  replace h := zkE h
  obtain ⟨e5, h⟩ := h
  replace h := zbE h
  obtain ⟨v7, e6, h⟩ := h
  refine j_cont (zrF (As := []) msX1_54_J2 (yJ2_size_ok e6) (Nat.le_trans (Nat.le_of_ble_eq_true rfl) hd) (zk_12 _ e5) rfl rfl (Nat.le_of_ble_eq_true rfl) dX1_ruleCount_4) ?_
  obtain rfl := Option.some.inj h
  exact j_iret hk.1 hk.2 rfl dX1_ruleCount_9
theorem yX1_ruleCount_ok {t : Nat} {G : GS} {r : Int32} (h : fX1_ruleCount_0 t G = some r) : zRuns yX1_ruleCount (ws_ yX1_ruleCount cX1_ruleCount 1 (some Jvm.ClassFile.FieldType.int)) [vR (some t)] (.inl (some (vI r)), G, G, 2) :=
  zentry (M := mX1_ruleCount) (plainFor_of_name (by decide +kernel)) ⟨rfl, rfl, rfl, rfl⟩ (Nat.le_of_ble_eq_true rfl) (wfX1_ruleCount_0 (Nat.le_refl _) t G h ⟨rfl, rfl⟩)
theorem fgX1_143 : zFG RX1 143 4 3 (.array (.int)) := ⟨(RX5, TX5, 10, tyX5), rfl, by decide, in_X5, rfl, "SelahGenerator$Sets", Or.inl rfl, Or.inr ⟨_, zxw 58 rfl⟩⟩
abbrev mX1_shortestOf : zM := (cX1_shortestOf, RX1, 2, (some Jvm.ClassFile.FieldType.int), "shortestOf", [], "(I)I")
def fX1_shortestOf_0 (t : Nat) (x1 : Int32)  (G : GS) : Option (((Int32) ⊕ String) × GS) :=
  zk [1] G t <| zb2 (fX1_sets_0 t G) fun r3 G4 => r3.bind fun a5 => (zgR G4 5 a5 3).bind fun r7 => zb3 (fX1_index_0 x1 G4) (fun v10 G11 => r7.bind fun a14 => (zaI G11 50 a14 v10).bind fun v16 => some (.inl v16, G11)) (fun X12 G13 => some (.inr X12, G13))
theorem wfX1_shortestOf_0 {F : zF} (hd : 52 ≤ F.2.2.2) (t : Nat) (x1 : Int32)  (G : GS) {a : ((Int32) ⊕ String) × GS} (h : fX1_shortestOf_0 t x1  G = some a) (hk : zKXI F a) : J mX1_shortestOf F G 0 [(0, vR (some t)), (1, vI x1)] [] := by
  unfold fX1_shortestOf_0 at h
  refine j_aload_n (j := 0) dX1_shortestOf_0 rfl rfl ?_
  replace h := zkE h
  obtain ⟨e1, h⟩ := h
  replace h := zb2E h
  obtain ⟨r3, G4, e2, h⟩ := h
  refine j_cont (zrV (As := []) msX1_128 (yX1_sets_ok e2) (Nat.le_trans (Nat.le_of_ble_eq_true rfl) hd) (zk_1 _ e1) rfl rfl (Nat.le_of_ble_eq_true rfl) dX1_shortestOf_1) ?_
  replace h := zbE h
  obtain ⟨a5, e6, h⟩ := h
  subst e6
  replace h := zbE h
  obtain ⟨r7, e8, h⟩ := h
  refine j_getR fgX1_143 (fun _ _ _ => rfl) dX1_shortestOf_4 e8 ?_
  refine j_iload_n (j := 1) dX1_shortestOf_7 rfl rfl ?_
  replace h := zb3E h
  rcases h with ⟨v10, G11, e9, h⟩ | ⟨X12, G13, e9, h⟩
  · refine j_cont (zrS (As := [vI x1]) msX1_76 (yX1_index_ok e9) (Nat.le_trans (Nat.le_of_ble_eq_true rfl) hd) rfl rfl (Nat.le_of_ble_eq_true rfl) dX1_shortestOf_8) ?_
    replace h := zbE h
    obtain ⟨a14, e15, h⟩ := h
    subst e15
    replace h := zbE h
    obtain ⟨v16, e17, h⟩ := h
    refine j_iald (Or.inl rfl) e17 dX1_shortestOf_11 ?_
    obtain rfl := Option.some.inj h
    exact j_iret hk.1 hk.2 rfl dX1_shortestOf_12
  · refine j_thr (zrS (As := [vI x1]) msX1_76 (yX1_index_ok e9) (Nat.le_trans (Nat.le_of_ble_eq_true rfl) hd) rfl rfl (Nat.le_of_ble_eq_true rfl) dX1_shortestOf_8) ?_
    obtain rfl := Option.some.inj h
    exact jx_out hk.1 hk.2 (by decide)
theorem yX1_shortestOf_ok {t : Nat} {x1 : Int32} {G : GS} {r : (Int32) ⊕ String} {G1 : GS} (h : fX1_shortestOf_0 t x1 G = some (r, G1)) : zRuns yX1_shortestOf (ws_ yX1_shortestOf cX1_shortestOf 2 (some Jvm.ClassFile.FieldType.int)) [vR (some t), vI x1] (zout (fun v => some (vI v)) r, G, G1, 52) :=
  zentry (M := mX1_shortestOf) (plainFor_of_name (by decide +kernel)) ⟨rfl, rfl, rfl, rfl⟩ (Nat.le_of_ble_eq_true rfl) (wfX1_shortestOf_0 (Nat.le_refl _) t x1 G h ⟨rfl, rfl⟩)
abbrev mJ20_sub : zM := (cJ20_sub, RJ20, 3, (some Jvm.ClassFile.FieldType.int), "sub", [], "(III)I")
def fJ20_sub_0 (x0 : Int32) (x1 : Int32) (x2 : Int32)  (G : GS) : Option (Int32) :=
  if 0 ≤ (x0 - x1) then (some (x0 - x1)) else (some ((x0 - x1) + x2))
theorem wfJ20_sub_0 {F : zF} (hd : 1 ≤ F.2.2.2) (x0 : Int32) (x1 : Int32) (x2 : Int32)  (G : GS) {a : Int32} (h : fJ20_sub_0 x0 x1 x2  G = some a) (hk : zKPI F G a) : J mJ20_sub F G 0 [(0, vI x0), (1, vI x1), (2, vI x2)] [] := by
  unfold fJ20_sub_0 at h
  refine j_iload_n (j := 0) dJ20_sub_0 rfl rfl ?_
  refine j_iload_n (j := 1) dJ20_sub_1 rfl rfl ?_
  refine j_isub dJ20_sub_2 ?_
  refine j_dup dJ20_sub_3 rfl ?_
  refine j_istore_n (lv' := [(0, vI (x0 - x1)), (1, vI x1), (2, vI x2)]) dJ20_sub_4 rfl (Nat.le_of_ble_eq_true rfl) rfl ?_
  refine j_if_ge (tgt := 12) dJ20_sub_5 (by decide) (fun c1 => ?_) (fun c1 => ?_)
  · rw [if_pos c1] at h
    refine j_iload_n (j := 0) dJ20_sub_12 rfl rfl ?_
    obtain rfl := Option.some.inj h
    exact j_iret hk.1 hk.2 rfl dJ20_sub_13
  · rw [if_neg c1] at h
    refine j_iload_n (j := 0) dJ20_sub_8 rfl rfl ?_
    refine j_iload_n (j := 2) dJ20_sub_9 rfl rfl ?_
    refine j_iadd dJ20_sub_10 ?_
    refine j_istore_n (lv' := [(0, vI ((x0 - x1) + x2)), (1, vI x1), (2, vI x2)]) dJ20_sub_11 rfl (Nat.le_of_ble_eq_true rfl) rfl ?_
    refine j_iload_n (j := 0) dJ20_sub_12 rfl rfl ?_
    obtain rfl := Option.some.inj h
    exact j_iret hk.1 hk.2 rfl dJ20_sub_13
theorem yJ20_sub_ok {x0 : Int32} {x1 : Int32} {x2 : Int32} {G : GS} {r : Int32} (h : fJ20_sub_0 x0 x1 x2 G = some r) : zRuns yJ20_sub (ws_ yJ20_sub cJ20_sub 3 (some Jvm.ClassFile.FieldType.int)) [vI x0, vI x1, vI x2] (.inl (some (vI r)), G, G, 1) :=
  zentry (M := mJ20_sub) (plainFor_of_name (by decide +kernel)) ⟨rfl, rfl, rfl, rfl⟩ (Nat.le_of_ble_eq_true rfl) (wfJ20_sub_0 (Nat.le_refl _) x0 x1 x2 G h ⟨rfl, rfl⟩)
theorem msJ20_127 : zSS RJ20 127 yJ20_sub cJ20_sub 3 (some Jvm.ClassFile.FieldType.int) 3 := ⟨lw_S q983 q984 q148 q985, (by decide +kernel), (by decide)⟩
abbrev mJ20_size : zM := (cJ20_size, RJ20, 1, (some Jvm.ClassFile.FieldType.int), "size", [], "()I")
def fJ20_size_0 (t : Nat)  (G : GS) : Option (Int32) :=
  (zgI G 14 t 2).bind fun v1 => (zgI G 14 t 1).bind fun v3 => (zgR G 14 t 0).bind fun r5 => r5.bind fun a7 => (zln G a7).bind fun v9 => (fJ20_sub_0 v1 v3 v9 G).bind fun v12 => some v12
theorem wfJ20_size_0 {F : zF} (hd : 2 ≤ F.2.2.2) (t : Nat)  (G : GS) {a : Int32} (h : fJ20_size_0 t  G = some a) (hk : zKPI F G a) : J mJ20_size F G 0 [(0, vR (some t))] [] := by
  unfold fJ20_size_0 at h
  refine j_aload_n (j := 0) dJ20_size_0 rfl rfl ?_
  replace h := zbE h
  obtain ⟨v1, e2, h⟩ := h
  refine j_getI fgJ20_20 (fun _ _ _ => rfl) dJ20_size_1 e2 ?_
  refine j_aload_n (j := 0) dJ20_size_4 rfl rfl ?_
  replace h := zbE h
  obtain ⟨v3, e4, h⟩ := h
  refine j_getI fgJ20_24 (fun _ _ _ => rfl) dJ20_size_5 e4 ?_
  refine j_aload_n (j := 0) dJ20_size_8 rfl rfl ?_
  replace h := zbE h
  obtain ⟨r5, e6, h⟩ := h
  refine j_getR fgJ20_3 (fun _ _ _ => rfl) dJ20_size_9 e6 ?_
  replace h := zbE h
  obtain ⟨a7, e8, h⟩ := h
  subst e8
  replace h := zbE h
  obtain ⟨v9, e10, h⟩ := h
  refine j_alen e10 dJ20_size_12 ?_
  replace h := zbE h
  obtain ⟨v12, e11, h⟩ := h
  refine j_cont (zrS (As := [vI v1, vI v3, vI v9]) msJ20_127 (yJ20_sub_ok e11) (Nat.le_trans (Nat.le_of_ble_eq_true rfl) hd) rfl rfl (Nat.le_of_ble_eq_true rfl) dJ20_size_13) ?_
  obtain rfl := Option.some.inj h
  exact j_iret hk.1 hk.2 rfl dJ20_size_16
theorem yJ20_size_ok {t : Nat} {G : GS} {r : Int32} (h : fJ20_size_0 t G = some r) : zRuns yJ20_size (ws_ yJ20_size cJ20_size 1 (some Jvm.ClassFile.FieldType.int)) [vR (some t)] (.inl (some (vI r)), G, G, 2) :=
  zentry (M := mJ20_size) (plainFor_of_name (by decide +kernel)) ⟨rfl, rfl, rfl, rfl⟩ (Nat.le_of_ble_eq_true rfl) (wfJ20_size_0 (Nat.le_refl _) t G h ⟨rfl, rfl⟩)
theorem fgX1_216 : zFG RX1 216 8 1 (.object "java/util/ArrayDeque") := ⟨(RX10, TX10, 8, tyX10), rfl, by decide, in_X10, rfl, "SelahGenerator$Parse", Or.inl rfl, Or.inr ⟨_, zxw 67 rfl⟩⟩
theorem msX1_220 : zSV RX1 220 RJ20 yJ20_size cJ20_size 1 (some Jvm.ClassFile.FieldType.int) 0 := ⟨lw_V q1459 q981 q3275 q148 q982, (by decide +kernel), (by decide)⟩
abbrev mX1_stackDepth : zM := (cX1_stackDepth, RX1, 1, (some Jvm.ClassFile.FieldType.int), "stackDepth", [], "()I")
def fX1_stackDepth_0 (t : Nat)  (G : GS) : Option (Int32) :=
  (zgR G 1 t 3).bind fun r1 => zopt r1 (some 0) (fun a3 => (zgR G 1 t 3).bind fun r4 => r4.bind fun a6 => (zgR G 9 a6 1).bind fun r8 => r8.bind fun a10 => zk [14] G a10 <| (fJ20_size_0 a10 G).bind fun v14 => some v14)
theorem wfX1_stackDepth_0 {F : zF} (hd : 3 ≤ F.2.2.2) (t : Nat)  (G : GS) {a : Int32} (h : fX1_stackDepth_0 t  G = some a) (hk : zKPI F G a) : J mX1_stackDepth F G 0 [(0, vR (some t))] [] := by
  unfold fX1_stackDepth_0 at h
  refine j_aload_n (j := 0) dX1_stackDepth_0 rfl rfl ?_
  replace h := zbE h
  obtain ⟨r1, e2, h⟩ := h
  refine j_getR fgX1_43 (fun _ _ _ => rfl) dX1_stackDepth_1 e2 ?_
  rcases r1 with _ | a3
  · replace h := zopt_n h
    refine j_ifnonnull0 dX1_stackDepth_4 ?_
    refine j_iconst (v := 0) dX1_stackDepth_7 (by decide) ?_
    refine j_goto (tgt := 21) dX1_stackDepth_8 (by decide) ?_
    obtain rfl := Option.some.inj h
    exact j_iret hk.1 hk.2 rfl dX1_stackDepth_21
  · replace h := zopt_s h
    refine j_ifnonnull1 (tgt := 11) dX1_stackDepth_4 (by decide) ?_
    refine j_aload_n (j := 0) dX1_stackDepth_11 rfl rfl ?_
    replace h := zbE h
    obtain ⟨r4, e5, h⟩ := h
    refine j_getR fgX1_43 (fun _ _ _ => rfl) dX1_stackDepth_12 e5 ?_
    replace h := zbE h
    obtain ⟨a6, e7, h⟩ := h
    subst e7
    replace h := zbE h
    obtain ⟨r8, e9, h⟩ := h
    refine j_getR fgX1_216 (fun _ _ _ => rfl) dX1_stackDepth_15 e9 ?_
    replace h := zbE h
    obtain ⟨a10, e11, h⟩ := h
    subst e11
    replace h := zkE h
    obtain ⟨e12, h⟩ := h
    replace h := zbE h
    obtain ⟨v14, e13, h⟩ := h
    refine j_cont (zrV (As := []) msX1_220 (yJ20_size_ok e13) (Nat.le_trans (Nat.le_of_ble_eq_true rfl) hd) (zk_14 _ e12) rfl rfl (Nat.le_of_ble_eq_true rfl) dX1_stackDepth_18) ?_
    obtain rfl := Option.some.inj h
    exact j_iret hk.1 hk.2 rfl dX1_stackDepth_21
theorem yX1_stackDepth_ok {t : Nat} {G : GS} {r : Int32} (h : fX1_stackDepth_0 t G = some r) : zRuns yX1_stackDepth (ws_ yX1_stackDepth cX1_stackDepth 1 (some Jvm.ClassFile.FieldType.int)) [vR (some t)] (.inl (some (vI r)), G, G, 3) :=
  zentry (M := mX1_stackDepth) (plainFor_of_name (by decide +kernel)) ⟨rfl, rfl, rfl, rfl⟩ (Nat.le_of_ble_eq_true rfl) (wfX1_stackDepth_0 (Nat.le_refl _) t G h ⟨rfl, rfl⟩)
theorem fgJ32_1 : zFG RJ32 1 14 3 (.object "java/util/ArrayDeque") := ⟨(RJ32, TJ32, 4, tyJ32), rfl, by decide, in_J32, rfl, "java/util/ArrayDeque$DeqIterator", Or.inl rfl, Or.inl q1231⟩
theorem fgJ32_26 : zFG RJ32 26 13 1 (.int) := ⟨(RJ20, TJ20, 3, tyJ20), rfl, by decide, in_J20, rfl, "java/util/ArrayDeque", Or.inl rfl, Or.inl q2424⟩
theorem fpJ32_19_J32 : zFP RJ32 19 14 1 (.int) false := ⟨(RJ32, TJ32, 4, tyJ32), rfl, by decide, in_J32, tyJ32_ok, nmJ32, rfl, rfl, (by decide), "java/util/ArrayDeque$DeqIterator", Or.inl rfl, q1229⟩
theorem fpJ32_1_J32 : zFP RJ32 1 14 3 (.object "java/util/ArrayDeque") true := ⟨(RJ32, TJ32, 4, tyJ32), rfl, by decide, in_J32, tyJ32_ok, nmJ32, rfl, rfl, (by intro _; rfl), "java/util/ArrayDeque$DeqIterator", Or.inl rfl, q1231⟩
theorem fpJ32_23_J32 : zFP RJ32 23 14 2 (.int) false := ⟨(RJ32, TJ32, 4, tyJ32), rfl, by decide, in_J32, tyJ32_ok, nmJ32, rfl, rfl, (by decide), "java/util/ArrayDeque$DeqIterator", Or.inl rfl, q1230⟩
theorem fpJ32_29_J32 : zFP RJ32 29 14 0 (.int) false := ⟨(RJ32, TJ32, 4, tyJ32), rfl, by decide, in_J32, tyJ32_ok, nmJ32, rfl, rfl, (by decide), "java/util/ArrayDeque$DeqIterator", Or.inl rfl, q1228⟩
theorem msJ32_13 : zSV RJ32 13 RJ20 yJ20_size cJ20_size 1 (some Jvm.ClassFile.FieldType.int) 0 := ⟨lw_V q1227 q981 q3275 q148 q982, (by decide +kernel), (by decide)⟩
abbrev mJ32_init : zM := (cJ32_init, RJ32, 2, none, "<init>", [], "(Ljava/util/ArrayDeque;)V")
def fJ32_init_0 (t : Nat) (x1 : Option Nat)  (G : GS) : Option (GS) :=
  (zpR G 15 t 3 x1).bind fun G1 => (zgR G1 15 t 3).bind fun r3 => r3.bind fun a5 => zk [14] G1 a5 <| (fJ20_size_0 a5 G1).bind fun v9 => (zpI G1 15 t 1 v9).bind fun G10 => (zpI G10 15 t 2 (-1)).bind fun G12 => x1.bind fun a14 => (zgI G12 14 a14 1).bind fun v16 => (zpI G12 15 t 0 v16).bind fun G18 => some G18
theorem wfJ32_init_0 {F : zF} (hd : 3 ≤ F.2.2.2) (t : Nat) (x1 : Option Nat)  (G : GS) {a : GS} (h : fJ32_init_0 t x1  G = some a) (hk : zKV F a) : J mJ32_init F G 0 [(0, vR (some t)), (1, vR x1)] [] := by
  unfold fJ32_init_0 at h
  refine j_aload_n (j := 0) dJ32_init_0 rfl rfl ?_
  refine j_aload_n (j := 1) dJ32_init_1 rfl rfl ?_
  replace h := zbE h
  obtain ⟨G1, e2, h⟩ := h
  refine j_putR fpJ32_1_J32 (Or.inr rfl) (Or.inl ⟨_, rfl⟩) dJ32_init_2 e2 ?_
  refine j_aload_n (j := 0) dJ32_init_5 rfl rfl ?_
  refine j_objinit q1226 q181 q182 (Nat.le_trans (Nat.le_of_ble_eq_true rfl) hd) (Nat.le_of_ble_eq_true rfl) dJ32_init_6 ?_
  refine j_aload_n (j := 0) dJ32_init_9 rfl rfl ?_
  refine j_aload_n (j := 0) dJ32_init_10 rfl rfl ?_
  replace h := zbE h
  obtain ⟨r3, e4, h⟩ := h
  refine j_getR fgJ32_1 (fun _ _ _ => rfl) dJ32_init_11 e4 ?_
  replace h := zbE h
  obtain ⟨a5, e6, h⟩ := h
  subst e6
  replace h := zkE h
  obtain ⟨e7, h⟩ := h
  replace h := zbE h
  obtain ⟨v9, e8, h⟩ := h
  refine j_cont (zrV (As := []) msJ32_13 (yJ20_size_ok e8) (Nat.le_trans (Nat.le_of_ble_eq_true rfl) hd) (zk_14 _ e7) rfl rfl (Nat.le_of_ble_eq_true rfl) dJ32_init_14) ?_
  replace h := zbE h
  obtain ⟨G10, e11, h⟩ := h
  refine j_putI fpJ32_19_J32 (Or.inl rfl) rfl dJ32_init_17 e11 ?_
  refine j_aload_n (j := 0) dJ32_init_20 rfl rfl ?_
  refine j_iconst (v := (-1)) dJ32_init_21 (by decide) ?_
  replace h := zbE h
  obtain ⟨G12, e13, h⟩ := h
  refine j_putI fpJ32_23_J32 (Or.inl rfl) rfl dJ32_init_22 e13 ?_
  refine j_aload_n (j := 0) dJ32_init_25 rfl rfl ?_
  refine j_aload_n (j := 1) dJ32_init_26 rfl rfl ?_
  replace h := zbE h
  obtain ⟨a14, e15, h⟩ := h
  subst e15
  replace h := zbE h
  obtain ⟨v16, e17, h⟩ := h
  refine j_getI fgJ32_26 (fun _ _ _ => rfl) dJ32_init_27 e17 ?_
  replace h := zbE h
  obtain ⟨G18, e19, h⟩ := h
  refine j_putI fpJ32_29_J32 (Or.inl rfl) rfl dJ32_init_30 e19 ?_
  obtain rfl := Option.some.inj h
  exact j_vret hk.1 hk.2 rfl dJ32_init_33
theorem yJ32_init_ok {t : Nat} {x1 : Option Nat} {G : GS} {G1 : GS} (h : fJ32_init_0 t x1 G = some G1) : zRuns yJ32_init (ws_ yJ32_init cJ32_init 2 none) [vR (some t), vR x1] (.inl none, G, G1, 3) :=
  zentry (M := mJ32_init) (plainFor_of_name (by decide +kernel)) ⟨rfl, rfl, rfl, rfl⟩ (Nat.le_of_ble_eq_true rfl) (wfJ32_init_0 (Nat.le_refl _) t x1 G h ⟨rfl, rfl⟩)
theorem msJ20_133 : zSI RJ20 133 yJ32_init cJ32_init 2 1 := ⟨q1225, q164, q1223, q1224, rfl, (by decide +kernel), (by decide)⟩
abbrev mJ20_iterator : zM := (cJ20_iterator, RJ20, 1, (some (Jvm.ClassFile.FieldType.object "java/util/Iterator")), "iterator", [], "()Ljava/util/Iterator;")
def fJ20_iterator_0 (t : Nat)  (G : GS) : Option ((Option Nat) × GS) :=
  zl (al G 15 0 4) fun G1 => (fJ32_init_0 (gz G) (some t) G1).bind fun G4 => some ((some (gz G)), G4)
theorem wfJ20_iterator_0 {F : zF} (hd : 4 ≤ F.2.2.2) (t : Nat)  (G : GS) {a : (Option Nat) × GS} (h : fJ20_iterator_0 t  G = some a) (hk : zKR F a) : J mJ20_iterator F G 0 [(0, vR (some t))] [] := by
  unfold fJ20_iterator_0 at h
  replace h := zlE h
  obtain ⟨G1, e2, h⟩ := h
  refine j_new (c := 14) (n := 4) (r := (RJ32, TJ32, 4, tyJ32)) rfl rfl in_J32 tyJ32_ok nwJ32 q1221 q1222 q164 dJ20_iterator_0 ?_
  rw [show al G (14 + 1) 0 4 = G1 from e2.symm]
  refine j_dup dJ20_iterator_3 rfl ?_
  refine j_aload_n (j := 0) dJ20_iterator_4 rfl rfl ?_
  replace h := zbE h
  obtain ⟨G4, e3, h⟩ := h
  refine j_cont (zrI (As := [vR (some t)]) msJ20_133 (yJ32_init_ok e3) (Nat.le_trans (Nat.le_of_ble_eq_true rfl) hd) rfl rfl (Nat.le_of_ble_eq_true rfl) dJ20_iterator_5) ?_
  obtain rfl := Option.some.inj h
  exact j_aret hk.1 hk.2 rfl (Or.inl ⟨_, rfl⟩) dJ20_iterator_8
theorem yJ20_iterator_ok {t : Nat} {G : GS} {r : Option Nat} {G1 : GS} (h : fJ20_iterator_0 t G = some (r, G1)) : zRuns yJ20_iterator (ws_ yJ20_iterator cJ20_iterator 1 (some (Jvm.ClassFile.FieldType.object "java/util/Iterator"))) [vR (some t)] (.inl (some (vR r)), G, G1, 4) :=
  zentry (M := mJ20_iterator) (plainFor_of_name (by decide +kernel)) ⟨rfl, rfl, rfl, rfl⟩ (Nat.le_of_ble_eq_true rfl) (wfJ20_iterator_0 (Nat.le_refl _) t G h ⟨rfl, rfl⟩)
abbrev mJ20_nonNullElementAt : zM := (cJ20_nonNullElementAt, RJ20, 3, (some (Jvm.ClassFile.FieldType.object "java/lang/Object")), "nonNullElementAt", [], "([Ljava/lang/Object;I)Ljava/lang/Object;")
def fJ20_nonNullElementAt_0 (x0 : Option Nat) (x1 : Int32)  (G : GS) : Option ((Option Nat) × GS) :=
  x0.bind fun a1 => (zaR G 54 a1 x1).bind fun r3 => zopt r3 none (fun a5 => some ((some a5), G))
theorem wfJ20_nonNullElementAt_0 {F : zF} (hd : 1 ≤ F.2.2.2) (x0 : Option Nat) (x1 : Int32)  (G : GS) {a : (Option Nat) × GS} (h : fJ20_nonNullElementAt_0 x0 x1  G = some a) (hk : zKR F a) : J mJ20_nonNullElementAt F G 0 [(0, vR x0), (1, vI x1)] [] := by
  unfold fJ20_nonNullElementAt_0 at h
  refine j_aload_n (j := 0) dJ20_nonNullElementAt_0 rfl rfl ?_
  refine j_iload_n (j := 1) dJ20_nonNullElementAt_1 rfl rfl ?_
  replace h := zbE h
  obtain ⟨a1, e2, h⟩ := h
  subst e2
  replace h := zbE h
  obtain ⟨r3, e4, h⟩ := h
  refine j_aald (Or.inl rfl) e4 dJ20_nonNullElementAt_2 ?_
  refine j_astore_n (lv' := [(2, vR r3), (0, vR (some a1)), (1, vI x1)]) dJ20_nonNullElementAt_3 rfl (Nat.le_of_ble_eq_true rfl) rfl ?_
  refine j_aload_n (j := 0) dJ20_nonNullElementAt_4 rfl rfl ?_
  rcases r3 with _ | a5
  · replace h := zopt_n h
    refine j_ifnonnull0 dJ20_nonNullElementAt_5 ?_
    cases h
  · replace h := zopt_s h
    refine j_ifnonnull1 (tgt := 16) dJ20_nonNullElementAt_5 (by decide) ?_
    refine j_aload_n (j := 0) dJ20_nonNullElementAt_16 rfl rfl ?_
    obtain rfl := Option.some.inj h
    exact j_aret hk.1 hk.2 rfl (Or.inl ⟨_, rfl⟩) dJ20_nonNullElementAt_17
theorem yJ20_nonNullElementAt_ok {x0 : Option Nat} {x1 : Int32} {G : GS} {r : Option Nat} {G1 : GS} (h : fJ20_nonNullElementAt_0 x0 x1 G = some (r, G1)) : zRuns yJ20_nonNullElementAt (ws_ yJ20_nonNullElementAt cJ20_nonNullElementAt 3 (some (Jvm.ClassFile.FieldType.object "java/lang/Object"))) [vR x0, vI x1] (.inl (some (vR r)), G, G1, 1) :=
  zentry (M := mJ20_nonNullElementAt) (plainFor_of_name (by decide +kernel)) ⟨rfl, rfl, rfl, rfl⟩ (Nat.le_of_ble_eq_true rfl) (wfJ20_nonNullElementAt_0 (Nat.le_refl _) x0 x1 G h ⟨rfl, rfl⟩)
theorem fgJ32_19 : zFG RJ32 19 14 1 (.int) := ⟨(RJ32, TJ32, 4, tyJ32), rfl, by decide, in_J32, rfl, "java/util/ArrayDeque$DeqIterator", Or.inl rfl, Or.inl q1229⟩
theorem fgJ32_29 : zFG RJ32 29 14 0 (.int) := ⟨(RJ32, TJ32, 4, tyJ32), rfl, by decide, in_J32, rfl, "java/util/ArrayDeque$DeqIterator", Or.inl rfl, Or.inl q1228⟩
theorem fgJ32_35 : zFG RJ32 35 13 0 (.array (.object "java/lang/Object")) := ⟨(RJ20, TJ20, 3, tyJ20), rfl, by decide, in_J20, rfl, "java/util/ArrayDeque", Or.inl rfl, Or.inl q2423⟩
theorem msJ32_39 : zSS RJ32 39 yJ20_nonNullElementAt cJ20_nonNullElementAt 3 (some (Jvm.ClassFile.FieldType.object "java/lang/Object")) 2 := ⟨lw_S q353 q354 q148 q355, (by decide +kernel), (by decide)⟩
theorem msJ32_43 : zSS RJ32 43 yJ20_inc cJ20_inc 2 (some Jvm.ClassFile.FieldType.int) 2 := ⟨lw_S q356 q357 q148 q358, (by decide +kernel), (by decide)⟩
abbrev mJ32_next : zM := (cJ32_next, RJ32, 3, (some (Jvm.ClassFile.FieldType.object "java/lang/Object")), "next", [], "()Ljava/lang/Object;")
def fJ32_next_0 (t : Nat)  (G : GS) : Option ((Option Nat) × GS) :=
  (zgI G 15 t 1).bind fun v1 => if 0 < v1 then ((zgR G 15 t 3).bind fun r4 => r4.bind fun a6 => (zgR G 14 a6 0).bind fun r8 => (zgI G 15 t 0).bind fun v10 => zb2 (fJ20_nonNullElementAt_0 r8 v10 G) fun r13 G14 => (zgI G14 15 t 0).bind fun v15 => (zpI G14 15 t 2 v15).bind fun G17 => r8.bind fun a19 => (zln G17 a19).bind fun v21 => (fJ20_inc_0 v15 v21 G17).bind fun v24 => (zpI G17 15 t 0 v24).bind fun G25 => (zgI G25 15 t 1).bind fun v27 => (zpI G25 15 t 1 (v27 - 1)).bind fun G29 => some (r13, G29)) else none
theorem wfJ32_next_0 {F : zF} (hd : 2 ≤ F.2.2.2) (t : Nat)  (G : GS) {a : (Option Nat) × GS} (h : fJ32_next_0 t  G = some a) (hk : zKR F a) : J mJ32_next F G 0 [(0, vR (some t))] [] := by
  unfold fJ32_next_0 at h
  refine j_aload_n (j := 0) dJ32_next_0 rfl rfl ?_
  replace h := zbE h
  obtain ⟨v1, e2, h⟩ := h
  refine j_getI fgJ32_19 (fun _ _ _ => rfl) dJ32_next_1 e2 ?_
  refine j_if_gt (tgt := 15) dJ32_next_4 (by decide) (fun c3 => ?_) (fun c3 => ?_)
  · rw [if_pos c3] at h
    refine j_aload_n (j := 0) dJ32_next_15 rfl rfl ?_
    replace h := zbE h
    obtain ⟨r4, e5, h⟩ := h
    refine j_getR fgJ32_1 (fun _ _ _ => rfl) dJ32_next_16 e5 ?_
    replace h := zbE h
    obtain ⟨a6, e7, h⟩ := h
    subst e7
    replace h := zbE h
    obtain ⟨r8, e9, h⟩ := h
    refine j_getR fgJ32_35 (fun _ _ _ => rfl) dJ32_next_19 e9 ?_
    refine j_astore_n (lv' := [(1, vR r8), (0, vR (some t))]) dJ32_next_22 rfl (Nat.le_of_ble_eq_true rfl) rfl ?_
    refine j_aload_n (j := 0) dJ32_next_23 rfl rfl ?_
    refine j_aload_n (j := 1) dJ32_next_24 rfl rfl ?_
    replace h := zbE h
    obtain ⟨v10, e11, h⟩ := h
    refine j_getI fgJ32_29 (fun _ _ _ => rfl) dJ32_next_25 e11 ?_
    replace h := zb2E h
    obtain ⟨r13, G14, e12, h⟩ := h
    refine j_cont (zrS (As := [vR r8, vI v10]) msJ32_39 (yJ20_nonNullElementAt_ok e12) (Nat.le_trans (Nat.le_of_ble_eq_true rfl) hd) rfl rfl (Nat.le_of_ble_eq_true rfl) dJ32_next_28) ?_
    refine j_astore_n (lv' := [(2, vR r13), (1, vR r8), (0, vR (some t))]) dJ32_next_31 rfl (Nat.le_of_ble_eq_true rfl) rfl ?_
    refine j_aload_n (j := 2) dJ32_next_32 rfl rfl ?_
    refine j_aload_n (j := 2) dJ32_next_33 rfl rfl ?_
    refine j_aload_n (j := 2) dJ32_next_34 rfl rfl ?_
    replace h := zbE h
    obtain ⟨v15, e16, h⟩ := h
    refine j_getI fgJ32_29 (fun _ _ _ => rfl) dJ32_next_35 e16 ?_
    refine j_dup_x1 dJ32_next_38 rfl rfl ?_
    replace h := zbE h
    obtain ⟨G17, e18, h⟩ := h
    refine j_putI fpJ32_23_J32 (Or.inl rfl) rfl dJ32_next_39 e18 ?_
    refine j_aload_n (j := 1) dJ32_next_42 rfl rfl ?_
    replace h := zbE h
    obtain ⟨a19, e20, h⟩ := h
    subst e20
    replace h := zbE h
    obtain ⟨v21, e22, h⟩ := h
    refine j_alen e22 dJ32_next_43 ?_
    replace h := zbE h
    obtain ⟨v24, e23, h⟩ := h
    refine j_cont (zrS (As := [vI v15, vI v21]) msJ32_43 (yJ20_inc_ok e23) (Nat.le_trans (Nat.le_of_ble_eq_true rfl) hd) rfl rfl (Nat.le_of_ble_eq_true rfl) dJ32_next_44) ?_
    replace h := zbE h
    obtain ⟨G25, e26, h⟩ := h
    refine j_putI fpJ32_29_J32 (Or.inl rfl) rfl dJ32_next_47 e26 ?_
    refine j_aload_n (j := 2) dJ32_next_50 rfl rfl ?_
    refine j_dup dJ32_next_51 rfl ?_
    replace h := zbE h
    obtain ⟨v27, e28, h⟩ := h
    refine j_getI fgJ32_19 (fun _ _ _ => rfl) dJ32_next_52 e28 ?_
    refine j_iconst (v := 1) dJ32_next_55 (by decide) ?_
    refine j_isub dJ32_next_56 ?_
    replace h := zbE h
    obtain ⟨G29, e30, h⟩ := h
    refine j_putI fpJ32_19_J32 (Or.inl rfl) rfl dJ32_next_57 e30 ?_
    refine j_aload_n (j := 0) dJ32_next_60 rfl rfl ?_
    obtain rfl := Option.some.inj h
    exact j_aret hk.1 hk.2 rfl (Or.inl ⟨_, rfl⟩) dJ32_next_61
  · rw [if_neg c3] at h
    cases h
theorem yJ32_next_ok {t : Nat} {G : GS} {r : Option Nat} {G1 : GS} (h : fJ32_next_0 t G = some (r, G1)) : zRuns yJ32_next (ws_ yJ32_next cJ32_next 3 (some (Jvm.ClassFile.FieldType.object "java/lang/Object"))) [vR (some t)] (.inl (some (vR r)), G, G1, 2) :=
  zentry (M := mJ32_next) (plainFor_of_name (by decide +kernel)) ⟨rfl, rfl, rfl, rfl⟩ (Nat.le_of_ble_eq_true rfl) (wfJ32_next_0 (Nat.le_refl _) t G h ⟨rfl, rfl⟩)
theorem zk_15 : ∀ k, [15].contains k = true → zKc k = some "java/util/ArrayDeque$DeqIterator" := fun k h => by rw [zKc_one h]; rfl
theorem msX1_223 : zSV RX1 223 RX1 yX1_stackDepth cX1_stackDepth 1 (some Jvm.ClassFile.FieldType.int) 0 := ⟨lw_V q1464 q1456 q1457 q123 q1458, (by decide +kernel), (by decide)⟩
theorem msX1_226 : zSV RX1 226 RJ20 yJ20_iterator cJ20_iterator 1 (some (Jvm.ClassFile.FieldType.object "java/util/Iterator")) 0 := ⟨lw_V q1465 q1218 q3276 q148 q1220, (by decide +kernel), (by decide)⟩
theorem msX1_230_J32 : zSF RX1 230 RJ32 ⟨"java/util/Iterator", "next", "()Ljava/lang/Object;"⟩ yJ32_next cJ32_next 3 (some (Jvm.ClassFile.FieldType.object "java/lang/Object")) 0 := ⟨lw_F q1467 q348 q350 q164 q352, zfw 2 rfl, ⟨14, _, rfl, rfl⟩, (by decide +kernel), (by decide)⟩
abbrev mX1_stackAt : zM := (cX1_stackAt, RX1, 5, (some Jvm.ClassFile.FieldType.int), "stackAt", [], "(I)I")
def fX1_stackAt_54 (x2 : Option Nat)  (G : GS) : Option ((Int32) × GS) :=
  x2.bind fun a1 => zk [15] G a1 <| zb2 (fJ32_next_0 a1 G) fun r5 G6 => zkq [21, 61] G6 r5 (r5.bind fun a8 => zk [21, 61] G6 a8 <| (fJ26_intValue_0 a8 G6).bind fun v12 => some (v12, G6))
theorem wfX1_stackAt_54 {F : zF} (hd : 5 ≤ F.2.2.2) (x2 : Option Nat)  (G : GS) {a : (Int32) × GS} (h : fX1_stackAt_54 x2  G = some a) (hk : zKI F a) : J mX1_stackAt F G 54 [(2, vR x2)] [] := by
  unfold fX1_stackAt_54 at h
  refine j_aload_n (j := 0) dX1_stackAt_54 rfl rfl ?_
  replace h := zbE h
  obtain ⟨a1, e2, h⟩ := h
  subst e2
  replace h := zkE h
  obtain ⟨e3, h⟩ := h
  replace h := zb2E h
  obtain ⟨r5, G6, e4, h⟩ := h
  refine j_cont (zrF (As := []) msX1_230_J32 (yJ32_next_ok e4) (Nat.le_trans (Nat.le_of_ble_eq_true rfl) hd) (zk_15 _ e3) rfl rfl (Nat.le_of_ble_eq_true rfl) dX1_stackAt_55) ?_
  replace h := zkqE h
  obtain ⟨e7, h⟩ := h
  refine j_castq (fun k => j_castN dX1_stackAt_60 k) (fun b q13 k => j_castS (zk_21_61 _ (e7 b q13)) ⟨20, _, rfl, rfl⟩ q1468 dX1_stackAt_60 k) ?_
  replace h := zbE h
  obtain ⟨a8, e9, h⟩ := h
  subst e9
  replace h := zkE h
  obtain ⟨e10, h⟩ := h
  replace h := zbE h
  obtain ⟨v12, e11, h⟩ := h
  refine j_cont (zrV (As := []) msX1_238 (yJ26_intValue_ok e11) (Nat.le_trans (Nat.le_of_ble_eq_true rfl) hd) (zk_21_61 _ e10) rfl rfl (Nat.le_of_ble_eq_true rfl) dX1_stackAt_63) ?_
  obtain rfl := Option.some.inj h
  exact j_iret hk.1 hk.2 rfl dX1_stackAt_66
def fbX1_stackAt_29 (x1 : Int32) (x2 : Option Nat) (x3 : Int32)  (G : GS) : Option ((Int32 × GS) ⊕ ((Int32) × GS)) :=
  if x1 ≤ x3 then (zo (fX1_stackAt_54 x2 G)) else (x2.bind fun a2 => zk [15] G a2 <| zb2 (fJ32_next_0 a2 G) fun r6 G7 => zkq [21, 61] G7 r6 (r6.bind fun a9 => zk [21, 61] G7 a9 <| (fJ26_intValue_0 a9 G7).bind fun v13 => some (.inl ((x3 + 1), G7))))
def flX1_stackAt_29 (x1 : Int32) (x2 : Option Nat) (x3 : Int32) (G : GS) : Option ((Int32) × GS) := zloop (fun s : Int32 × GS => fbX1_stackAt_29 x1 x2 s.1 s.2) (x3, G)
theorem wfbX1_stackAt_29 {F : zF} (hd : 5 ≤ F.2.2.2) (x1 : Int32) (x2 : Option Nat) (x3 : Int32) (G : GS) {a : (Int32 × GS) ⊕ ((Int32) × GS)} (h : fbX1_stackAt_29 x1 x2 x3 G = some a) (hk : (zcase (fun s : Int32 × GS => J mX1_stackAt F s.2 29 [(1, vI x1), (2, vR x2), (3, vI s.1)] []) (zKI F)) a) : J mX1_stackAt F G 29 [(1, vI x1), (2, vR x2), (3, vI x3)] [] := by
  unfold fbX1_stackAt_29 at h
  refine j_iload_n (j := 2) dX1_stackAt_29 rfl rfl ?_
  refine j_iload_n (j := 0) dX1_stackAt_30 rfl rfl ?_
  refine j_icmp_ge (tgt := 54) dX1_stackAt_31 (by decide) (fun c1 => ?_) (fun c1 => ?_)
  · rw [if_pos c1] at h
    replace h := zoE h
    obtain ⟨a, h, rfl⟩ := h
    replace hk := hk
    exact J.sub (zall [1] rfl) (wfX1_stackAt_54 hd x2  G h hk)
  · rw [if_neg c1] at h
    refine j_aload_n (j := 1) dX1_stackAt_34 rfl rfl ?_
    replace h := zbE h
    obtain ⟨a2, e3, h⟩ := h
    subst e3
    replace h := zkE h
    obtain ⟨e4, h⟩ := h
    replace h := zb2E h
    obtain ⟨r6, G7, e5, h⟩ := h
    refine j_cont (zrF (As := []) msX1_230_J32 (yJ32_next_ok e5) (Nat.le_trans (Nat.le_of_ble_eq_true rfl) hd) (zk_15 _ e4) rfl rfl (Nat.le_of_ble_eq_true rfl) dX1_stackAt_35) ?_
    replace h := zkqE h
    obtain ⟨e8, h⟩ := h
    refine j_castq (fun k => j_castN dX1_stackAt_40 k) (fun b q14 k => j_castS (zk_21_61 _ (e8 b q14)) ⟨20, _, rfl, rfl⟩ q1468 dX1_stackAt_40 k) ?_
    replace h := zbE h
    obtain ⟨a9, e10, h⟩ := h
    subst e10
    replace h := zkE h
    obtain ⟨e11, h⟩ := h
    replace h := zbE h
    obtain ⟨v13, e12, h⟩ := h
    refine j_cont (zrV (As := []) msX1_238 (yJ26_intValue_ok e12) (Nat.le_trans (Nat.le_of_ble_eq_true rfl) hd) (zk_21_61 _ e11) rfl rfl (Nat.le_of_ble_eq_true rfl) dX1_stackAt_43) ?_
    refine j_istore (lv' := [(4, vI v13), (1, vI x1), (2, vR (some a2)), (3, vI x3)]) dX1_stackAt_46 (Nat.le_of_ble_eq_true rfl) rfl ?_
    refine j_iinc (j := 3) (v := (x3 + 1)) (lv' := [(3, vI (x3 + 1)), (4, vI v13), (1, vI x1), (2, vR (some a2))]) dX1_stackAt_48 rfl rfl (Nat.le_of_ble_eq_true rfl) rfl ?_
    refine j_goto (tgt := 29) dX1_stackAt_51 (by decide) ?_
    obtain rfl := Option.some.inj h
    exact J.sub (zall [2, 3, 0] rfl) hk
theorem wflX1_stackAt_29 {F : zF} (hd : 5 ≤ F.2.2.2) (x1 : Int32) (x2 : Option Nat) (x3 : Int32) (G : GS) {a : (Int32) × GS} (h : flX1_stackAt_29 x1 x2 x3 G = some a) (hk : zKI F a) : J mX1_stackAt F G 29 [(1, vI x1), (2, vR x2), (3, vI x3)] [] := by
  unfold flX1_stackAt_29 at h
  exact zloop_walk (P := (fun s : Int32 × GS => J mX1_stackAt F s.2 29 [(1, vI x1), (2, vR x2), (3, vI s.1)] [])) (fun s b e hk => wfbX1_stackAt_29 hd x1 x2 s.1 s.2 e hk) (x3, G) _ h hk
def fX1_stackAt_0 (t : Nat) (x1 : Int32)  (G : GS) : Option ((Int32) × GS) :=
  zk [1] G t <| (fX1_stackDepth_0 t G).bind fun v3 => (fX1_isIn_0 x1 0 (v3 - 1) G).bind fun v5 => if v5 = 0 then (some ((-1), G)) else ((zgR G 1 t 3).bind fun r7 => r7.bind fun a9 => (zgR G 9 a9 1).bind fun r11 => r11.bind fun a13 => zk [14] G a13 <| zb2 (fJ20_iterator_0 a13 G) fun r17 G18 => flX1_stackAt_29 x1 r17 0 G18)
theorem wfX1_stackAt_0 {F : zF} (hd : 5 ≤ F.2.2.2) (t : Nat) (x1 : Int32)  (G : GS) {a : (Int32) × GS} (h : fX1_stackAt_0 t x1  G = some a) (hk : zKI F a) : J mX1_stackAt F G 0 [(0, vR (some t)), (1, vI x1)] [] := by
  unfold fX1_stackAt_0 at h
  refine j_iload_n (j := 1) dX1_stackAt_0 rfl rfl ?_
  refine j_iconst (v := 0) dX1_stackAt_1 (by decide) ?_
  refine j_aload_n (j := 0) dX1_stackAt_2 rfl rfl ?_
  replace h := zkE h
  obtain ⟨e1, h⟩ := h
  replace h := zbE h
  obtain ⟨v3, e2, h⟩ := h
  refine j_cont (zrV (As := []) msX1_223 (yX1_stackDepth_ok e2) (Nat.le_trans (Nat.le_of_ble_eq_true rfl) hd) (zk_1 _ e1) rfl rfl (Nat.le_of_ble_eq_true rfl) dX1_stackAt_3) ?_
  refine j_iconst (v := 1) dX1_stackAt_6 (by decide) ?_
  refine j_isub dX1_stackAt_7 ?_
  replace h := zbE h
  obtain ⟨v5, e4, h⟩ := h
  refine j_cont (zrS (As := [vI x1, vI 0, vI (v3 - 1)]) msX1_3 (yX1_isIn_ok e4) (Nat.le_trans (Nat.le_of_ble_eq_true rfl) hd) rfl rfl (Nat.le_of_ble_eq_true rfl) dX1_stackAt_8) ?_
  refine j_if_ne (tgt := 16) dX1_stackAt_11 (by decide) (fun c6 => ?_) (fun c6 => ?_)
  · rw [if_pos c6] at h
    refine j_iconst (v := (-1)) dX1_stackAt_14 (by decide) ?_
    obtain rfl := Option.some.inj h
    exact j_iret hk.1 hk.2 rfl dX1_stackAt_15
  · rw [if_neg c6] at h
    refine j_aload_n (j := 0) dX1_stackAt_16 rfl rfl ?_
    replace h := zbE h
    obtain ⟨r7, e8, h⟩ := h
    refine j_getR fgX1_43 (fun _ _ _ => rfl) dX1_stackAt_17 e8 ?_
    replace h := zbE h
    obtain ⟨a9, e10, h⟩ := h
    subst e10
    replace h := zbE h
    obtain ⟨r11, e12, h⟩ := h
    refine j_getR fgX1_216 (fun _ _ _ => rfl) dX1_stackAt_20 e12 ?_
    replace h := zbE h
    obtain ⟨a13, e14, h⟩ := h
    subst e14
    replace h := zkE h
    obtain ⟨e15, h⟩ := h
    replace h := zb2E h
    obtain ⟨r17, G18, e16, h⟩ := h
    refine j_cont (zrV (As := []) msX1_226 (yJ20_iterator_ok e16) (Nat.le_trans (Nat.le_of_ble_eq_true rfl) hd) (zk_14 _ e15) rfl rfl (Nat.le_of_ble_eq_true rfl) dX1_stackAt_23) ?_
    refine j_astore_n (lv' := [(2, vR r17), (0, vR (some t)), (1, vI x1)]) dX1_stackAt_26 rfl (Nat.le_of_ble_eq_true rfl) rfl ?_
    refine j_iconst (v := 0) dX1_stackAt_27 (by decide) ?_
    refine j_istore_n (lv' := [(3, vI 0), (2, vR r17), (0, vR (some t)), (1, vI x1)]) dX1_stackAt_28 rfl (Nat.le_of_ble_eq_true rfl) rfl ?_
    exact J.sub (zall [3, 1, 0] rfl) (wflX1_stackAt_29 hd x1 r17 0  G18 h hk)
theorem yX1_stackAt_ok {t : Nat} {x1 : Int32} {G : GS} {r : Int32} {G1 : GS} (h : fX1_stackAt_0 t x1 G = some (r, G1)) : zRuns yX1_stackAt (ws_ yX1_stackAt cX1_stackAt 5 (some Jvm.ClassFile.FieldType.int)) [vR (some t), vI x1] (.inl (some (vI r)), G, G1, 5) :=
  zentry (M := mX1_stackAt) (plainFor_of_name (by decide +kernel)) ⟨rfl, rfl, rfl, rfl⟩ (Nat.le_of_ble_eq_true rfl) (wfX1_stackAt_0 (Nat.le_refl _) t x1 G h ⟨rfl, rfl⟩)
theorem msJ20_42 : zSI RJ20 42 yJ0_init cJ0_init 1 0 := ⟨q193, q124, q2420, q192, rfl, (by decide +kernel), (by decide)⟩
abbrev mJ20_init : zM := (cJ20_init, RJ20, 1, none, "<init>", [], "()V")
def fJ20_init_0 (t : Nat)  (G : GS) : Option (GS) :=
  (fJ0_init_0 t G).bind fun G2 => (zna G2 54 (17 : Int32)).bind fun G3 => (zpR G3 14 t 0 (some (gz G2))).bind fun G5 => some G5
theorem wfJ20_init_0 {F : zF} (hd : 3 ≤ F.2.2.2) (t : Nat)  (G : GS) {a : GS} (h : fJ20_init_0 t  G = some a) (hk : zKV F a) : J mJ20_init F G 0 [(0, vR (some t))] [] := by
  unfold fJ20_init_0 at h
  refine j_aload_n (j := 0) dJ20_init_0 rfl rfl ?_
  replace h := zbE h
  obtain ⟨G2, e1, h⟩ := h
  refine j_cont (zrI (As := []) msJ20_42 (yJ0_init_ok e1) (Nat.le_trans (Nat.le_of_ble_eq_true rfl) hd) rfl rfl (Nat.le_of_ble_eq_true rfl) dJ20_init_1) ?_
  refine j_aload_n (j := 0) dJ20_init_4 rfl rfl ?_
  refine j_bipush (v := 17) dJ20_init_5 (by decide) ?_
  replace h := zbE h
  obtain ⟨G3, e4, h⟩ := h
  refine j_anewa (t := 4) rfl (Or.inl rfl) q2421 e4 dJ20_init_7 ?_
  replace h := zbE h
  obtain ⟨G5, e6, h⟩ := h
  refine j_putR fpJ20_3_J20 (Or.inl rfl) (Or.inr ⟨_, rfl⟩) dJ20_init_10 e6 ?_
  obtain rfl := Option.some.inj h
  exact j_vret hk.1 hk.2 rfl dJ20_init_13
theorem yJ20_init_ok {t : Nat} {G : GS} {G1 : GS} (h : fJ20_init_0 t G = some G1) : zRuns yJ20_init (ws_ yJ20_init cJ20_init 1 none) [vR (some t)] (.inl none, G, G1, 3) :=
  zentry (M := mJ20_init) (plainFor_of_name (by decide +kernel)) ⟨rfl, rfl, rfl, rfl⟩ (Nat.le_of_ble_eq_true rfl) (wfJ20_init_0 (Nat.le_refl _) t G h ⟨rfl, rfl⟩)
theorem fpX10_18_X10 : zFP RX10 18 8 1 (.object "java/util/ArrayDeque") true := ⟨(RX10, TX10, 8, tyX10), rfl, by decide, in_X10, tyX10_ok, nmX10, rfl, rfl, (by intro _; rfl), "SelahGenerator$Parse", Or.inl rfl, q2466⟩
theorem fpX10_25_X10 : zFP RX10 25 8 2 (.object "java/util/List") true := ⟨(RX10, TX10, 8, tyX10), rfl, by decide, in_X10, tyX10_ok, nmX10, rfl, rfl, (by intro _; rfl), "SelahGenerator$Parse", Or.inl rfl, q2468⟩
theorem fpX10_29_X10 : zFP RX10 29 8 3 (.object "java/util/List") true := ⟨(RX10, TX10, 8, tyX10), rfl, by decide, in_X10, tyX10_ok, nmX10, rfl, rfl, (by intro _; rfl), "SelahGenerator$Parse", Or.inl rfl, q2470⟩
theorem fpX10_32_X10 : zFP RX10 32 8 4 (.object "java/util/List") true := ⟨(RX10, TX10, 8, tyX10), rfl, by decide, in_X10, tyX10_ok, nmX10, rfl, rfl, (by intro _; rfl), "SelahGenerator$Parse", Or.inl rfl, q2472⟩
theorem fpX10_39_X10 : zFP RX10 39 8 0 (.int) true := ⟨(RX10, TX10, 8, tyX10), rfl, by decide, in_X10, tyX10_ok, nmX10, rfl, rfl, (by intro _; rfl), "SelahGenerator$Parse", Or.inl rfl, q2465⟩
theorem fpX10_3_X10 : zFP RX10 3 8 7 (.object "SelahGenerator") true := ⟨(RX10, TX10, 8, tyX10), rfl, by decide, in_X10, tyX10_ok, nmX10, rfl, rfl, (by intro _; rfl), "SelahGenerator$Parse", Or.inl rfl, q2477⟩
theorem msX10_17 : zSI RX10 17 yJ20_init cJ20_init 1 0 := ⟨q2419, q148, q2417, q2418, rfl, (by decide +kernel), (by decide)⟩
theorem msX10_24 : zSI RX10 24 yJ2_init cJ2_init 1 0 := ⟨q187, q126, q2435, q186, rfl, (by decide +kernel), (by decide)⟩
abbrev mX10_init : zM := (cX10_init, RX10, 3, none, "<init>", [], "(LSelahGenerator;I)V")
def fX10_init_0 (t : Nat) (x1 : Option Nat) (x2 : Int32)  (G : GS) : Option (GS) :=
  (zpR G 9 t 7 x1).bind fun G1 => zl (al G1 14 0 3) fun G3 => (fJ20_init_0 (gz G1) G3).bind fun G6 => (zpR G6 9 t 1 (some (gz G1))).bind fun G7 => zl (al G7 12 0 3) fun G9 => (fJ2_init_0 (gz G7) G9).bind fun G12 => (zpR G12 9 t 2 (some (gz G7))).bind fun G13 => zl (al G13 12 0 3) fun G15 => (fJ2_init_0 (gz G13) G15).bind fun G18 => (zpR G18 9 t 3 (some (gz G13))).bind fun G19 => zl (al G19 12 0 3) fun G21 => (fJ2_init_0 (gz G19) G21).bind fun G24 => (zpR G24 9 t 4 (some (gz G19))).bind fun G25 => (zpI G25 9 t 5 1).bind fun G27 => (zpI G27 9 t 0 x2).bind fun G29 => (zgR G29 9 t 1).bind fun r31 => zb2 (fJ26_valueOf_0 20 G29) fun r34 G35 => r31.bind fun a36 => zk [14] G35 a36 <| (fJ20_push_0 a36 r34 G35).bind fun G40 => some G40
theorem wfX10_init_0 {F : zF} (hd : 7 ≤ F.2.2.2) (t : Nat) (x1 : Option Nat) (x2 : Int32)  (G : GS) {a : GS} (h : fX10_init_0 t x1 x2  G = some a) (hk : zKV F a) : J mX10_init F G 0 [(0, vR (some t)), (1, vR x1), (2, vI x2)] [] := by
  unfold fX10_init_0 at h
  refine j_aload_n (j := 0) dX10_init_0 rfl rfl ?_
  refine j_aload_n (j := 1) dX10_init_1 rfl rfl ?_
  replace h := zbE h
  obtain ⟨G1, e2, h⟩ := h
  refine j_putR fpX10_3_X10 (Or.inr rfl) (Or.inl ⟨_, rfl⟩) dX10_init_2 e2 ?_
  refine j_aload_n (j := 0) dX10_init_5 rfl rfl ?_
  refine j_objinit q2415 q181 q182 (Nat.le_trans (Nat.le_of_ble_eq_true rfl) hd) (Nat.le_of_ble_eq_true rfl) dX10_init_6 ?_
  refine j_aload_n (j := 0) dX10_init_9 rfl rfl ?_
  replace h := zlE h
  obtain ⟨G3, e4, h⟩ := h
  refine j_new (c := 13) (n := 3) (r := (RJ20, TJ20, 3, tyJ20)) rfl rfl in_J20 tyJ20_ok nwJ20 q2416 q1992 q148 dX10_init_10 ?_
  rw [show al G1 (13 + 1) 0 3 = G3 from e4.symm]
  refine j_dup dX10_init_13 rfl ?_
  replace h := zbE h
  obtain ⟨G6, e5, h⟩ := h
  refine j_cont (zrI (As := []) msX10_17 (yJ20_init_ok e5) (Nat.le_trans (Nat.le_of_ble_eq_true rfl) hd) rfl rfl (Nat.le_of_ble_eq_true rfl) dX10_init_14) ?_
  replace h := zbE h
  obtain ⟨G7, e8, h⟩ := h
  refine j_putR fpX10_18_X10 (Or.inr rfl) (Or.inl ⟨_, rfl⟩) dX10_init_17 e8 ?_
  refine j_aload_n (j := 0) dX10_init_20 rfl rfl ?_
  replace h := zlE h
  obtain ⟨G9, e10, h⟩ := h
  refine j_new (c := 11) (n := 3) (r := (RJ2, TJ2, 3, tyJ2)) rfl rfl in_J2 tyJ2_ok nwJ2 q2434 q184 q126 dX10_init_21 ?_
  rw [show al G7 (11 + 1) 0 3 = G9 from e10.symm]
  refine j_dup dX10_init_24 rfl ?_
  replace h := zbE h
  obtain ⟨G12, e11, h⟩ := h
  refine j_cont (zrI (As := []) msX10_24 (yJ2_init_ok e11) (Nat.le_trans (Nat.le_of_ble_eq_true rfl) hd) rfl rfl (Nat.le_of_ble_eq_true rfl) dX10_init_25) ?_
  replace h := zbE h
  obtain ⟨G13, e14, h⟩ := h
  refine j_putR fpX10_25_X10 (Or.inr rfl) (Or.inl ⟨_, rfl⟩) dX10_init_28 e14 ?_
  refine j_aload_n (j := 0) dX10_init_31 rfl rfl ?_
  replace h := zlE h
  obtain ⟨G15, e16, h⟩ := h
  refine j_new (c := 11) (n := 3) (r := (RJ2, TJ2, 3, tyJ2)) rfl rfl in_J2 tyJ2_ok nwJ2 q2434 q184 q126 dX10_init_32 ?_
  rw [show al G13 (11 + 1) 0 3 = G15 from e16.symm]
  refine j_dup dX10_init_35 rfl ?_
  replace h := zbE h
  obtain ⟨G18, e17, h⟩ := h
  refine j_cont (zrI (As := []) msX10_24 (yJ2_init_ok e17) (Nat.le_trans (Nat.le_of_ble_eq_true rfl) hd) rfl rfl (Nat.le_of_ble_eq_true rfl) dX10_init_36) ?_
  replace h := zbE h
  obtain ⟨G19, e20, h⟩ := h
  refine j_putR fpX10_29_X10 (Or.inr rfl) (Or.inl ⟨_, rfl⟩) dX10_init_39 e20 ?_
  refine j_aload_n (j := 0) dX10_init_42 rfl rfl ?_
  replace h := zlE h
  obtain ⟨G21, e22, h⟩ := h
  refine j_new (c := 11) (n := 3) (r := (RJ2, TJ2, 3, tyJ2)) rfl rfl in_J2 tyJ2_ok nwJ2 q2434 q184 q126 dX10_init_43 ?_
  rw [show al G19 (11 + 1) 0 3 = G21 from e22.symm]
  refine j_dup dX10_init_46 rfl ?_
  replace h := zbE h
  obtain ⟨G24, e23, h⟩ := h
  refine j_cont (zrI (As := []) msX10_24 (yJ2_init_ok e23) (Nat.le_trans (Nat.le_of_ble_eq_true rfl) hd) rfl rfl (Nat.le_of_ble_eq_true rfl) dX10_init_47) ?_
  replace h := zbE h
  obtain ⟨G25, e26, h⟩ := h
  refine j_putR fpX10_32_X10 (Or.inr rfl) (Or.inl ⟨_, rfl⟩) dX10_init_50 e26 ?_
  refine j_aload_n (j := 0) dX10_init_53 rfl rfl ?_
  refine j_iconst (v := 1) dX10_init_54 (by decide) ?_
  replace h := zbE h
  obtain ⟨G27, e28, h⟩ := h
  refine j_putI fpX10_35_X10 (Or.inl rfl) rfl dX10_init_55 e28 ?_
  refine j_aload_n (j := 0) dX10_init_58 rfl rfl ?_
  refine j_iload_n (j := 2) dX10_init_59 rfl rfl ?_
  replace h := zbE h
  obtain ⟨G29, e30, h⟩ := h
  refine j_putI fpX10_39_X10 (Or.inr rfl) rfl dX10_init_60 e30 ?_
  refine j_aload_n (j := 0) dX10_init_63 rfl rfl ?_
  replace h := zbE h
  obtain ⟨r31, e32, h⟩ := h
  refine j_getR fgX10_18 (fun _ _ _ => rfl) dX10_init_64 e32 ?_
  refine j_bipush (v := 20) dX10_init_67 (by decide) ?_
  replace h := zb2E h
  obtain ⟨r34, G35, e33, h⟩ := h
  refine j_cont (zrS (As := [vI 20]) msX10_42 (yJ26_valueOf_ok e33) (Nat.le_trans (Nat.le_of_ble_eq_true rfl) hd) rfl rfl (Nat.le_of_ble_eq_true rfl) dX10_init_69) ?_
  replace h := zbE h
  obtain ⟨a36, e37, h⟩ := h
  subst e37
  replace h := zkE h
  obtain ⟨e38, h⟩ := h
  replace h := zbE h
  obtain ⟨G40, e39, h⟩ := h
  refine j_cont (zrV (As := [vR r34]) msX10_48 (yJ20_push_ok e39) (Nat.le_trans (Nat.le_of_ble_eq_true rfl) hd) (zk_14 _ e38) rfl rfl (Nat.le_of_ble_eq_true rfl) dX10_init_72) ?_
  obtain rfl := Option.some.inj h
  exact j_vret hk.1 hk.2 rfl dX10_init_75
theorem yX10_init_ok {t : Nat} {x1 : Option Nat} {x2 : Int32} {G : GS} {G1 : GS} (h : fX10_init_0 t x1 x2 G = some G1) : zRuns yX10_init (ws_ yX10_init cX10_init 3 none) [vR (some t), vR x1, vI x2] (.inl none, G, G1, 7) :=
  zentry (M := mX10_init) (plainFor_of_name (by decide +kernel)) ⟨rfl, rfl, rfl, rfl⟩ (Nat.le_of_ble_eq_true rfl) (wfX10_init_0 (Nat.le_refl _) t x1 x2 G h ⟨rfl, rfl⟩)
end
