/-! printed: functions and walks -/
set_option maxRecDepth 100000
noncomputable section
theorem fgX2_74 : zFG RX2 74 1 28 (.array (.int)) := ⟨(RX2, TX2, 42, tyX2), rfl, by decide, in_X2, rfl, "SelahGeneratorModel", Or.inl rfl, Or.inl q2700⟩
theorem msX2_365 : zSV RX2 365 RX2 yX2_isError cX2_isError 2 (some Jvm.ClassFile.FieldType.boolean) 1 := ⟨lw_V q3206 q3208 qs116 q131 q3209, (by decide +kernel), (by decide)⟩
abbrev mX2_errorSymbol : zM := (cX2_errorSymbol, RX2, 2, (some Jvm.ClassFile.FieldType.int), "errorSymbol", [], "(I)I")
def fX2_errorSymbol_0 (t : Nat) (x1 : Int32)  (G : GS) : Option ((Int32) × GS) :=
  zk [2] G t <| (fX2_isError_0 t x1 G).bind fun v3 => zk [2] G t <| zb2 (fX2_goes_0 t v3 G) fun v6 G7 => if v6 = 0 then (some (0, G7)) else ((zgR G7 2 t 28).bind fun r9 => r9.bind fun a11 => (zaI G7 50 a11 x1).bind fun v13 => some (v13, G7))
theorem wfX2_errorSymbol_0 {F : zF} (hd : 3 ≤ F.2.2.2) (t : Nat) (x1 : Int32)  (G : GS) {a : (Int32) × GS} (h : fX2_errorSymbol_0 t x1  G = some a) (hk : zKI F a) : J mX2_errorSymbol F G 0 [(0, vR (some t)), (1, vI x1)] [] := by
  unfold fX2_errorSymbol_0 at h
  refine j_aload_n (j := 0) dX2_errorSymbol_0 rfl rfl ?_
  refine j_aload_n (j := 0) dX2_errorSymbol_1 rfl rfl ?_
  refine j_iload_n (j := 1) dX2_errorSymbol_2 rfl rfl ?_
  replace h := zkE h
  obtain ⟨e1, h⟩ := h
  replace h := zbE h
  obtain ⟨v3, e2, h⟩ := h
  refine j_cont (zrV (As := [vI x1]) msX2_365 (yX2_isError_ok e2) (Nat.le_trans (Nat.le_of_ble_eq_true rfl) hd) (zk_2 _ e1) rfl rfl (Nat.le_of_ble_eq_true rfl) dX2_errorSymbol_3) ?_
  replace h := zkE h
  obtain ⟨e4, h⟩ := h
  replace h := zb2E h
  obtain ⟨v6, G7, e5, h⟩ := h
  refine j_cont (zrV (As := [vI v3]) msX2_177 (yX2_goes_ok e5) (Nat.le_trans (Nat.le_of_ble_eq_true rfl) hd) (zk_2 _ e4) rfl rfl (Nat.le_of_ble_eq_true rfl) dX2_errorSymbol_6) ?_
  refine j_if_eq (tgt := 21) dX2_errorSymbol_9 (by decide) (fun c8 => ?_) (fun c8 => ?_)
  · rw [if_pos c8] at h
    refine j_iconst (v := 0) dX2_errorSymbol_21 (by decide) ?_
    obtain rfl := Option.some.inj h
    exact j_iret hk.1 hk.2 rfl dX2_errorSymbol_22
  · rw [if_neg c8] at h
    refine j_aload_n (j := 0) dX2_errorSymbol_12 rfl rfl ?_
    replace h := zbE h
    obtain ⟨r9, e10, h⟩ := h
    refine j_getR fgX2_74 (fun _ _ _ => rfl) dX2_errorSymbol_13 e10 ?_
    refine j_iload_n (j := 1) dX2_errorSymbol_16 rfl rfl ?_
    replace h := zbE h
    obtain ⟨a11, e12, h⟩ := h
    subst e12
    replace h := zbE h
    obtain ⟨v13, e14, h⟩ := h
    refine j_iald (Or.inl rfl) e14 dX2_errorSymbol_17 ?_
    refine j_goto (tgt := 22) dX2_errorSymbol_18 (by decide) ?_
    obtain rfl := Option.some.inj h
    exact j_iret hk.1 hk.2 rfl dX2_errorSymbol_22
theorem yX2_errorSymbol_ok {t : Nat} {x1 : Int32} {G : GS} {r : Int32} {G1 : GS} (h : fX2_errorSymbol_0 t x1 G = some (r, G1)) : zRuns yX2_errorSymbol (ws_ yX2_errorSymbol cX2_errorSymbol 2 (some Jvm.ClassFile.FieldType.int)) [vR (some t), vI x1] (.inl (some (vI r)), G, G1, 3) :=
  zentry (M := mX2_errorSymbol) (plainFor_of_name (by decide +kernel)) ⟨rfl, rfl, rfl, rfl⟩ (Nat.le_of_ble_eq_true rfl) (wfX2_errorSymbol_0 (Nat.le_refl _) t x1 G h ⟨rfl, rfl⟩)
theorem fgX2_71 : zFG RX2 71 1 27 (.array (.int)) := ⟨(RX2, TX2, 42, tyX2), rfl, by decide, in_X2, rfl, "SelahGeneratorModel", Or.inl rfl, Or.inl q2699⟩
abbrev mX2_errorToken : zM := (cX2_errorToken, RX2, 2, (some Jvm.ClassFile.FieldType.int), "errorToken", [], "(I)I")
def fX2_errorToken_0 (t : Nat) (x1 : Int32)  (G : GS) : Option ((Int32) × GS) :=
  zk [2] G t <| (fX2_isError_0 t x1 G).bind fun v3 => zk [2] G t <| zb2 (fX2_goes_0 t v3 G) fun v6 G7 => if v6 = 0 then (some (0, G7)) else ((zgR G7 2 t 27).bind fun r9 => r9.bind fun a11 => (zaI G7 50 a11 x1).bind fun v13 => some (v13, G7))
theorem wfX2_errorToken_0 {F : zF} (hd : 3 ≤ F.2.2.2) (t : Nat) (x1 : Int32)  (G : GS) {a : (Int32) × GS} (h : fX2_errorToken_0 t x1  G = some a) (hk : zKI F a) : J mX2_errorToken F G 0 [(0, vR (some t)), (1, vI x1)] [] := by
  unfold fX2_errorToken_0 at h
  refine j_aload_n (j := 0) dX2_errorToken_0 rfl rfl ?_
  refine j_aload_n (j := 0) dX2_errorToken_1 rfl rfl ?_
  refine j_iload_n (j := 1) dX2_errorToken_2 rfl rfl ?_
  replace h := zkE h
  obtain ⟨e1, h⟩ := h
  replace h := zbE h
  obtain ⟨v3, e2, h⟩ := h
  refine j_cont (zrV (As := [vI x1]) msX2_365 (yX2_isError_ok e2) (Nat.le_trans (Nat.le_of_ble_eq_true rfl) hd) (zk_2 _ e1) rfl rfl (Nat.le_of_ble_eq_true rfl) dX2_errorToken_3) ?_
  replace h := zkE h
  obtain ⟨e4, h⟩ := h
  replace h := zb2E h
  obtain ⟨v6, G7, e5, h⟩ := h
  refine j_cont (zrV (As := [vI v3]) msX2_177 (yX2_goes_ok e5) (Nat.le_trans (Nat.le_of_ble_eq_true rfl) hd) (zk_2 _ e4) rfl rfl (Nat.le_of_ble_eq_true rfl) dX2_errorToken_6) ?_
  refine j_if_eq (tgt := 21) dX2_errorToken_9 (by decide) (fun c8 => ?_) (fun c8 => ?_)
  · rw [if_pos c8] at h
    refine j_iconst (v := 0) dX2_errorToken_21 (by decide) ?_
    obtain rfl := Option.some.inj h
    exact j_iret hk.1 hk.2 rfl dX2_errorToken_22
  · rw [if_neg c8] at h
    refine j_aload_n (j := 0) dX2_errorToken_12 rfl rfl ?_
    replace h := zbE h
    obtain ⟨r9, e10, h⟩ := h
    refine j_getR fgX2_71 (fun _ _ _ => rfl) dX2_errorToken_13 e10 ?_
    refine j_iload_n (j := 1) dX2_errorToken_16 rfl rfl ?_
    replace h := zbE h
    obtain ⟨a11, e12, h⟩ := h
    subst e12
    replace h := zbE h
    obtain ⟨v13, e14, h⟩ := h
    refine j_iald (Or.inl rfl) e14 dX2_errorToken_17 ?_
    refine j_goto (tgt := 22) dX2_errorToken_18 (by decide) ?_
    obtain rfl := Option.some.inj h
    exact j_iret hk.1 hk.2 rfl dX2_errorToken_22
theorem yX2_errorToken_ok {t : Nat} {x1 : Int32} {G : GS} {r : Int32} {G1 : GS} (h : fX2_errorToken_0 t x1 G = some (r, G1)) : zRuns yX2_errorToken (ws_ yX2_errorToken cX2_errorToken 2 (some Jvm.ClassFile.FieldType.int)) [vR (some t), vI x1] (.inl (some (vI r)), G, G1, 3) :=
  zentry (M := mX2_errorToken) (plainFor_of_name (by decide +kernel)) ⟨rfl, rfl, rfl, rfl⟩ (Nat.le_of_ble_eq_true rfl) (wfX2_errorToken_0 (Nat.le_refl _) t x1 G h ⟨rfl, rfl⟩)
theorem fgX2_77 : zFG RX2 77 1 29 (.array (.boolean)) := ⟨(RX2, TX2, 42, tyX2), rfl, by decide, in_X2, rfl, "SelahGeneratorModel", Or.inl rfl, Or.inl q2701⟩
abbrev mX2_errs : zM := (cX2_errs, RX2, 4, none, "errs", [], "(IIZ)V")
def fX2_errs_0 (t : Nat) (x1 : Int32) (x2 : Int32) (x3 : Int32)  (G : GS) : Option (GS) :=
  (zgR G 2 t 27).bind fun r1 => (zgI G 2 t 35).bind fun v3 => r1.bind fun a5 => (zsI G 50 a5 v3 x1).bind fun G7 => (zgR G7 2 t 28).bind fun r9 => (zgI G7 2 t 35).bind fun v11 => r9.bind fun a13 => (zsI G7 50 a13 v11 x2).bind fun G15 => (zgR G15 2 t 29).bind fun r17 => (zgI G15 2 t 35).bind fun v19 => r17.bind fun a21 => (zsZ G15 52 a21 v19 x3).bind fun G23 => (zgI G23 2 t 35).bind fun v25 => (zpI G23 2 t 35 (v25 + 1)).bind fun G27 => some G27
theorem wfX2_errs_0 {F : zF} (hd : 1 ≤ F.2.2.2) (t : Nat) (x1 : Int32) (x2 : Int32) (x3 : Int32)  (G : GS) {a : GS} (h : fX2_errs_0 t x1 x2 x3  G = some a) (hk : zKV F a) : J mX2_errs F G 0 [(0, vR (some t)), (1, vI x1), (2, vI x2), (3, vI x3)] [] := by
  unfold fX2_errs_0 at h
  refine j_aload_n (j := 0) dX2_errs_0 rfl rfl ?_
  replace h := zbE h
  obtain ⟨r1, e2, h⟩ := h
  refine j_getR fgX2_71 (fun _ _ _ => rfl) dX2_errs_1 e2 ?_
  refine j_aload_n (j := 0) dX2_errs_4 rfl rfl ?_
  replace h := zbE h
  obtain ⟨v3, e4, h⟩ := h
  refine j_getI fgX2_146 (fun _ _ _ => rfl) dX2_errs_5 e4 ?_
  refine j_iload_n (j := 1) dX2_errs_8 rfl rfl ?_
  replace h := zbE h
  obtain ⟨a5, e6, h⟩ := h
  subst e6
  replace h := zbE h
  obtain ⟨G7, e8, h⟩ := h
  refine j_iast e8 dX2_errs_9 ?_
  refine j_aload_n (j := 0) dX2_errs_10 rfl rfl ?_
  replace h := zbE h
  obtain ⟨r9, e10, h⟩ := h
  refine j_getR fgX2_74 (fun _ _ _ => rfl) dX2_errs_11 e10 ?_
  refine j_aload_n (j := 0) dX2_errs_14 rfl rfl ?_
  replace h := zbE h
  obtain ⟨v11, e12, h⟩ := h
  refine j_getI fgX2_146 (fun _ _ _ => rfl) dX2_errs_15 e12 ?_
  refine j_iload_n (j := 2) dX2_errs_18 rfl rfl ?_
  replace h := zbE h
  obtain ⟨a13, e14, h⟩ := h
  subst e14
  replace h := zbE h
  obtain ⟨G15, e16, h⟩ := h
  refine j_iast e16 dX2_errs_19 ?_
  refine j_aload_n (j := 0) dX2_errs_20 rfl rfl ?_
  replace h := zbE h
  obtain ⟨r17, e18, h⟩ := h
  refine j_getR fgX2_77 (fun _ _ _ => rfl) dX2_errs_21 e18 ?_
  refine j_aload_n (j := 0) dX2_errs_24 rfl rfl ?_
  replace h := zbE h
  obtain ⟨v19, e20, h⟩ := h
  refine j_getI fgX2_146 (fun _ _ _ => rfl) dX2_errs_25 e20 ?_
  refine j_iload_n (j := 3) dX2_errs_28 rfl rfl ?_
  replace h := zbE h
  obtain ⟨a21, e22, h⟩ := h
  subst e22
  replace h := zbE h
  obtain ⟨G23, e24, h⟩ := h
  refine j_zast e24 dX2_errs_29 ?_
  refine j_aload_n (j := 0) dX2_errs_30 rfl rfl ?_
  refine j_dup dX2_errs_31 rfl ?_
  replace h := zbE h
  obtain ⟨v25, e26, h⟩ := h
  refine j_getI fgX2_146 (fun _ _ _ => rfl) dX2_errs_32 e26 ?_
  refine j_iconst (v := 1) dX2_errs_35 (by decide) ?_
  refine j_iadd dX2_errs_36 ?_
  replace h := zbE h
  obtain ⟨G27, e28, h⟩ := h
  refine j_putI fpX2_146_X2 (Or.inl rfl) rfl dX2_errs_37 e28 ?_
  obtain rfl := Option.some.inj h
  exact j_vret hk.1 hk.2 rfl dX2_errs_40
theorem yX2_errs_ok {t : Nat} {x1 : Int32} {x2 : Int32} {x3 : Int32} {G : GS} {G1 : GS} (h : fX2_errs_0 t x1 x2 x3 G = some G1) : zRuns yX2_errs (ws_ yX2_errs cX2_errs 4 none) [vR (some t), vI x1, vI x2, vI x3] (.inl none, G, G1, 1) :=
  zentry (M := mX2_errs) (plainFor_of_name (by decide +kernel)) ⟨rfl, rfl, rfl, rfl⟩ (Nat.le_of_ble_eq_true rfl) (wfX2_errs_0 (Nat.le_refl _) t x1 x2 x3 G h ⟨rfl, rfl⟩)
theorem fgX2_131 : zFG RX2 131 1 19 (.boolean) := ⟨(RX2, TX2, 42, tyX2), rfl, by decide, in_X2, rfl, "SelahGeneratorModel", Or.inl rfl, Or.inl q2691⟩
theorem msX2_269 : zSV RX2 269 RX2 yX2_addsFirsts cX2_addsFirsts 4 (some Jvm.ClassFile.FieldType.boolean) 0 := ⟨lw_V q3006 q3008 qs84 q131 q3009, (by decide +kernel), (by decide)⟩
theorem msX2_272 : zSV RX2 272 RX2 yX2_addsFollows cX2_addsFollows 5 (some Jvm.ClassFile.FieldType.boolean) 0 := ⟨lw_V q3029 q3031 qs89 q131 q3032, (by decide +kernel), (by decide)⟩
abbrev mX2_knowsPairs : zM := (cX2_knowsPairs, RX2, 4, none, "knowsPairs", [], "()V")
def fX2_knowsPairs_133 (t : Nat) (x2 : Int32)  (G : GS) : Option ((Int32 × GS) ⊕ (GS)) :=
  some (.inl ((x2 + 1), G))
theorem wfX2_knowsPairs_133 {F : zF} (hd : 7 ≤ F.2.2.2) (t : Nat) (x2 : Int32)  (G : GS) {a : (Int32 × GS) ⊕ (GS)} (h : fX2_knowsPairs_133 t x2  G = some a) (hk : (zcase (fun s : Int32 × GS => J mX2_knowsPairs F s.2 85 [(0, vR (some t)), (2, vI s.1)] []) (zKV F)) a) : J mX2_knowsPairs F G 133 [(0, vR (some t)), (2, vI x2)] [] := by
  unfold fX2_knowsPairs_133 at h
  refine j_iinc (j := 1) (v := (x2 + 1)) (lv' := [(2, vI (x2 + 1)), (0, vR (some t))]) dX2_knowsPairs_133 rfl rfl (Nat.le_of_ble_eq_true rfl) rfl ?_
  refine j_goto (tgt := 85) dX2_knowsPairs_136 (by decide) ?_
  obtain rfl := Option.some.inj h
  exact J.sub (zall [1, 0] rfl) hk
def fbX2_knowsPairs_102 (t : Nat) (x2 : Int32) (x3 : Int32)  (G : GS) : Option ((Int32 × GS) ⊕ ((Int32 × GS) ⊕ (GS))) :=
  if 183 ≤ x3 then (zo (fX2_knowsPairs_133 t x2 G)) else ((zgR G 2 t 20).bind fun r2 => (zgR G 2 t 17).bind fun r4 => r4.bind fun a6 => (zaI G 52 a6 x3).bind fun v8 => r2.bind fun a10 => (zsZ G 52 a10 ((183 * x2) + x3) v8).bind fun G12 => some (.inl ((x3 + 1), G12)))
def flX2_knowsPairs_102 (t : Nat) (x2 : Int32) (x3 : Int32) (G : GS) : Option ((Int32 × GS) ⊕ (GS)) := zloop (fun s : Int32 × GS => fbX2_knowsPairs_102 t x2 s.1 s.2) (x3, G)
theorem wfbX2_knowsPairs_102 {F : zF} (hd : 7 ≤ F.2.2.2) (t : Nat) (x2 : Int32) (x3 : Int32) (G : GS) {a : (Int32 × GS) ⊕ ((Int32 × GS) ⊕ (GS))} (h : fbX2_knowsPairs_102 t x2 x3 G = some a) (hk : (zcase (fun s : Int32 × GS => J mX2_knowsPairs F s.2 102 [(0, vR (some t)), (2, vI x2), (3, vI s.1)] []) ((zcase (fun s : Int32 × GS => J mX2_knowsPairs F s.2 85 [(0, vR (some t)), (2, vI s.1)] []) (zKV F)))) a) : J mX2_knowsPairs F G 102 [(0, vR (some t)), (2, vI x2), (3, vI x3)] [] := by
  unfold fbX2_knowsPairs_102 at h
  refine j_iload_n (j := 2) dX2_knowsPairs_102 rfl rfl ?_
  refine j_sipush (v := 183) dX2_knowsPairs_103 (by decide) ?_
  refine j_icmp_ge (tgt := 133) dX2_knowsPairs_106 (by decide) (fun c1 => ?_) (fun c1 => ?_)
  · rw [if_pos c1] at h
    replace h := zoE h
    obtain ⟨a, h, rfl⟩ := h
    replace hk := hk
    exact J.sub (zall [0, 1] rfl) (wfX2_knowsPairs_133 hd t x2  G h hk)
  · rw [if_neg c1] at h
    refine j_aload_n (j := 0) dX2_knowsPairs_109 rfl rfl ?_
    replace h := zbE h
    obtain ⟨r2, e3, h⟩ := h
    refine j_getR fgX2_50 (fun _ _ _ => rfl) dX2_knowsPairs_110 e3 ?_
    refine j_sipush (v := 183) dX2_knowsPairs_113 (by decide) ?_
    refine j_iload_n (j := 1) dX2_knowsPairs_116 rfl rfl ?_
    refine j_imul dX2_knowsPairs_117 ?_
    refine j_iload_n (j := 2) dX2_knowsPairs_118 rfl rfl ?_
    refine j_iadd dX2_knowsPairs_119 ?_
    refine j_aload_n (j := 0) dX2_knowsPairs_120 rfl rfl ?_
    replace h := zbE h
    obtain ⟨r4, e5, h⟩ := h
    refine j_getR fgX2_44 (fun _ _ _ => rfl) dX2_knowsPairs_121 e5 ?_
    refine j_iload_n (j := 2) dX2_knowsPairs_124 rfl rfl ?_
    replace h := zbE h
    obtain ⟨a6, e7, h⟩ := h
    subst e7
    replace h := zbE h
    obtain ⟨v8, e9, h⟩ := h
    refine j_zald rfl e9 dX2_knowsPairs_125 ?_
    replace h := zbE h
    obtain ⟨a10, e11, h⟩ := h
    subst e11
    replace h := zbE h
    obtain ⟨G12, e13, h⟩ := h
    refine j_zast e13 dX2_knowsPairs_126 ?_
    refine j_iinc (j := 2) (v := (x3 + 1)) (lv' := [(3, vI (x3 + 1)), (0, vR (some t)), (2, vI x2)]) dX2_knowsPairs_127 rfl rfl (Nat.le_of_ble_eq_true rfl) rfl ?_
    refine j_goto (tgt := 102) dX2_knowsPairs_130 (by decide) ?_
    obtain rfl := Option.some.inj h
    exact J.sub (zall [1, 2, 0] rfl) hk
theorem wflX2_knowsPairs_102 {F : zF} (hd : 7 ≤ F.2.2.2) (t : Nat) (x2 : Int32) (x3 : Int32) (G : GS) {a : (Int32 × GS) ⊕ (GS)} (h : flX2_knowsPairs_102 t x2 x3 G = some a) (hk : (zcase (fun s : Int32 × GS => J mX2_knowsPairs F s.2 85 [(0, vR (some t)), (2, vI s.1)] []) (zKV F)) a) : J mX2_knowsPairs F G 102 [(0, vR (some t)), (2, vI x2), (3, vI x3)] [] := by
  unfold flX2_knowsPairs_102 at h
  exact zloop_walk (P := (fun s : Int32 × GS => J mX2_knowsPairs F s.2 102 [(0, vR (some t)), (2, vI x2), (3, vI s.1)] [])) (fun s b e hk => wfbX2_knowsPairs_102 hd t x2 s.1 s.2 e hk) (x3, G) _ h hk
def fbX2_knowsPairs_85 (t : Nat) (x2 : Int32)  (G : GS) : Option ((Int32 × GS) ⊕ (GS)) :=
  (zgI G 2 t 6).bind fun v1 => if v1 ≤ x2 then (zo (some G)) else (zk [2] G t <| (fX2_pairsFrom_0 t x2 0 G).bind fun G6 => flX2_knowsPairs_102 t x2 14 G6)
def flX2_knowsPairs_85 (t : Nat) (x2 : Int32) (G : GS) : Option (GS) := zloop (fun s : Int32 × GS => fbX2_knowsPairs_85 t s.1 s.2) (x2, G)
theorem wfbX2_knowsPairs_85 {F : zF} (hd : 7 ≤ F.2.2.2) (t : Nat) (x2 : Int32) (G : GS) {a : (Int32 × GS) ⊕ (GS)} (h : fbX2_knowsPairs_85 t x2 G = some a) (hk : (zcase (fun s : Int32 × GS => J mX2_knowsPairs F s.2 85 [(0, vR (some t)), (2, vI s.1)] []) (zKV F)) a) : J mX2_knowsPairs F G 85 [(0, vR (some t)), (2, vI x2)] [] := by
  unfold fbX2_knowsPairs_85 at h
  refine j_iload_n (j := 1) dX2_knowsPairs_85 rfl rfl ?_
  refine j_aload_n (j := 0) dX2_knowsPairs_86 rfl rfl ?_
  replace h := zbE h
  obtain ⟨v1, e2, h⟩ := h
  refine j_getI fgX2_113 (fun _ _ _ => rfl) dX2_knowsPairs_87 e2 ?_
  refine j_icmp_ge (tgt := 139) dX2_knowsPairs_90 (by decide) (fun c3 => ?_) (fun c3 => ?_)
  · rw [if_pos c3] at h
    replace h := zoE h
    obtain ⟨a, h, rfl⟩ := h
    replace hk := hk
    obtain rfl := Option.some.inj h
    exact j_vret hk.1 hk.2 rfl dX2_knowsPairs_139
  · rw [if_neg c3] at h
    refine j_aload_n (j := 0) dX2_knowsPairs_93 rfl rfl ?_
    refine j_iload_n (j := 1) dX2_knowsPairs_94 rfl rfl ?_
    refine j_iconst (v := 0) dX2_knowsPairs_95 (by decide) ?_
    replace h := zkE h
    obtain ⟨e4, h⟩ := h
    replace h := zbE h
    obtain ⟨G6, e5, h⟩ := h
    refine j_cont (zrV (As := [vI x2, vI 0]) msX2_266 (yX2_pairsFrom_ok e5) (Nat.le_trans (Nat.le_of_ble_eq_true rfl) hd) (zk_2 _ e4) rfl rfl (Nat.le_of_ble_eq_true rfl) dX2_knowsPairs_96) ?_
    refine j_bipush (v := 14) dX2_knowsPairs_99 (by decide) ?_
    refine j_istore_n (lv' := [(3, vI 14), (0, vR (some t)), (2, vI x2)]) dX2_knowsPairs_101 rfl (Nat.le_of_ble_eq_true rfl) rfl ?_
    exact J.sub (zall [1, 2, 0] rfl) (wflX2_knowsPairs_102 hd t x2 14  G6 h hk)
theorem wflX2_knowsPairs_85 {F : zF} (hd : 7 ≤ F.2.2.2) (t : Nat) (x2 : Int32) (G : GS) {a : GS} (h : flX2_knowsPairs_85 t x2 G = some a) (hk : zKV F a) : J mX2_knowsPairs F G 85 [(0, vR (some t)), (2, vI x2)] [] := by
  unfold flX2_knowsPairs_85 at h
  exact zloop_walk (P := (fun s : Int32 × GS => J mX2_knowsPairs F s.2 85 [(0, vR (some t)), (2, vI s.1)] [])) (fun s b e hk => wfbX2_knowsPairs_85 hd t s.1 s.2 e hk) (x2, G) _ h hk
def fX2_knowsPairs_83 (t : Nat)  (G : GS) : Option (GS) :=
  flX2_knowsPairs_85 t 0 G
theorem wfX2_knowsPairs_83 {F : zF} (hd : 7 ≤ F.2.2.2) (t : Nat)  (G : GS) {a : GS} (h : fX2_knowsPairs_83 t  G = some a) (hk : zKV F a) : J mX2_knowsPairs F G 83 [(0, vR (some t))] [] := by
  unfold fX2_knowsPairs_83 at h
  refine j_iconst (v := 0) dX2_knowsPairs_83 (by decide) ?_
  refine j_istore_n (lv' := [(2, vI 0), (0, vR (some t))]) dX2_knowsPairs_84 rfl (Nat.le_of_ble_eq_true rfl) rfl ?_
  exact J.sub (zall [1, 0] rfl) (wflX2_knowsPairs_85 hd t 0  G h hk)
def fbX2_knowsPairs_71 (t : Nat) (x1 : Int32)  (G : GS) : Option ((Int32 × GS) ⊕ (GS)) :=
  if x1 = 0 then (zo (fX2_knowsPairs_83 t G)) else (zk [2] G t <| zb2 (fX2_addsFollows_0 t G) fun v4 G5 => some (.inl (v4, G5)))
def flX2_knowsPairs_71 (t : Nat) (x1 : Int32) (G : GS) : Option (GS) := zloop (fun s : Int32 × GS => fbX2_knowsPairs_71 t s.1 s.2) (x1, G)
theorem wfbX2_knowsPairs_71 {F : zF} (hd : 7 ≤ F.2.2.2) (t : Nat) (x1 : Int32) (G : GS) {a : (Int32 × GS) ⊕ (GS)} (h : fbX2_knowsPairs_71 t x1 G = some a) (hk : (zcase (fun s : Int32 × GS => J mX2_knowsPairs F s.2 71 [(0, vR (some t)), (1, vI s.1)] []) (zKV F)) a) : J mX2_knowsPairs F G 71 [(0, vR (some t)), (1, vI x1)] [] := by
  unfold fbX2_knowsPairs_71 at h
  refine j_iload_n (j := 1) dX2_knowsPairs_71 rfl rfl ?_
  refine j_if_eq (tgt := 83) dX2_knowsPairs_72 (by decide) (fun c1 => ?_) (fun c1 => ?_)
  · rw [if_pos c1] at h
    replace h := zoE h
    obtain ⟨a, h, rfl⟩ := h
    replace hk := hk
    exact J.sub (zall [0] rfl) (wfX2_knowsPairs_83 hd t  G h hk)
  · rw [if_neg c1] at h
    refine j_aload_n (j := 0) dX2_knowsPairs_75 rfl rfl ?_
    replace h := zkE h
    obtain ⟨e2, h⟩ := h
    replace h := zb2E h
    obtain ⟨v4, G5, e3, h⟩ := h
    refine j_cont (zrV (As := []) msX2_272 (yX2_addsFollows_ok e3) (Nat.le_trans (Nat.le_of_ble_eq_true rfl) hd) (zk_2 _ e2) rfl rfl (Nat.le_of_ble_eq_true rfl) dX2_knowsPairs_76) ?_
    refine j_istore_n (lv' := [(1, vI v4), (0, vR (some t))]) dX2_knowsPairs_79 rfl (Nat.le_of_ble_eq_true rfl) rfl ?_
    refine j_goto (tgt := 71) dX2_knowsPairs_80 (by decide) ?_
    obtain rfl := Option.some.inj h
    exact J.sub (zall [1, 0] rfl) hk
theorem wflX2_knowsPairs_71 {F : zF} (hd : 7 ≤ F.2.2.2) (t : Nat) (x1 : Int32) (G : GS) {a : GS} (h : flX2_knowsPairs_71 t x1 G = some a) (hk : zKV F a) : J mX2_knowsPairs F G 71 [(0, vR (some t)), (1, vI x1)] [] := by
  unfold flX2_knowsPairs_71 at h
  exact zloop_walk (P := (fun s : Int32 × GS => J mX2_knowsPairs F s.2 71 [(0, vR (some t)), (1, vI s.1)] [])) (fun s b e hk => wfbX2_knowsPairs_71 hd t s.1 s.2 e hk) (x1, G) _ h hk
def fX2_knowsPairs_69 (t : Nat)  (G : GS) : Option (GS) :=
  flX2_knowsPairs_71 t 1 G
theorem wfX2_knowsPairs_69 {F : zF} (hd : 7 ≤ F.2.2.2) (t : Nat)  (G : GS) {a : GS} (h : fX2_knowsPairs_69 t  G = some a) (hk : zKV F a) : J mX2_knowsPairs F G 69 [(0, vR (some t))] [] := by
  unfold fX2_knowsPairs_69 at h
  refine j_iconst (v := 1) dX2_knowsPairs_69 (by decide) ?_
  refine j_istore_n (lv' := [(1, vI 1), (0, vR (some t))]) dX2_knowsPairs_70 rfl (Nat.le_of_ble_eq_true rfl) rfl ?_
  exact J.sub (zall [1, 0] rfl) (wflX2_knowsPairs_71 hd t 1  G h hk)
def fbX2_knowsPairs_57 (t : Nat) (x1 : Int32)  (G : GS) : Option ((Int32 × GS) ⊕ (GS)) :=
  if x1 = 0 then (zo (fX2_knowsPairs_69 t G)) else (zk [2] G t <| zb2 (fX2_addsFirsts_0 t G) fun v4 G5 => some (.inl (v4, G5)))
def flX2_knowsPairs_57 (t : Nat) (x1 : Int32) (G : GS) : Option (GS) := zloop (fun s : Int32 × GS => fbX2_knowsPairs_57 t s.1 s.2) (x1, G)
theorem wfbX2_knowsPairs_57 {F : zF} (hd : 7 ≤ F.2.2.2) (t : Nat) (x1 : Int32) (G : GS) {a : (Int32 × GS) ⊕ (GS)} (h : fbX2_knowsPairs_57 t x1 G = some a) (hk : (zcase (fun s : Int32 × GS => J mX2_knowsPairs F s.2 57 [(0, vR (some t)), (1, vI s.1)] []) (zKV F)) a) : J mX2_knowsPairs F G 57 [(0, vR (some t)), (1, vI x1)] [] := by
  unfold fbX2_knowsPairs_57 at h
  refine j_iload_n (j := 1) dX2_knowsPairs_57 rfl rfl ?_
  refine j_if_eq (tgt := 69) dX2_knowsPairs_58 (by decide) (fun c1 => ?_) (fun c1 => ?_)
  · rw [if_pos c1] at h
    replace h := zoE h
    obtain ⟨a, h, rfl⟩ := h
    replace hk := hk
    exact J.sub (zall [0] rfl) (wfX2_knowsPairs_69 hd t  G h hk)
  · rw [if_neg c1] at h
    refine j_aload_n (j := 0) dX2_knowsPairs_61 rfl rfl ?_
    replace h := zkE h
    obtain ⟨e2, h⟩ := h
    replace h := zb2E h
    obtain ⟨v4, G5, e3, h⟩ := h
    refine j_cont (zrV (As := []) msX2_269 (yX2_addsFirsts_ok e3) (Nat.le_trans (Nat.le_of_ble_eq_true rfl) hd) (zk_2 _ e2) rfl rfl (Nat.le_of_ble_eq_true rfl) dX2_knowsPairs_62) ?_
    refine j_istore_n (lv' := [(1, vI v4), (0, vR (some t))]) dX2_knowsPairs_65 rfl (Nat.le_of_ble_eq_true rfl) rfl ?_
    refine j_goto (tgt := 57) dX2_knowsPairs_66 (by decide) ?_
    obtain rfl := Option.some.inj h
    exact J.sub (zall [1, 0] rfl) hk
theorem wflX2_knowsPairs_57 {F : zF} (hd : 7 ≤ F.2.2.2) (t : Nat) (x1 : Int32) (G : GS) {a : GS} (h : flX2_knowsPairs_57 t x1 G = some a) (hk : zKV F a) : J mX2_knowsPairs F G 57 [(0, vR (some t)), (1, vI x1)] [] := by
  unfold flX2_knowsPairs_57 at h
  exact zloop_walk (P := (fun s : Int32 × GS => J mX2_knowsPairs F s.2 57 [(0, vR (some t)), (1, vI s.1)] [])) (fun s b e hk => wfbX2_knowsPairs_57 hd t s.1 s.2 e hk) (x1, G) _ h hk
def fX2_knowsPairs_42 (t : Nat)  (G : GS) : Option (GS) :=
  (zgR G 2 t 16).bind fun r1 => (fX2_pair_0 12 12 G).bind fun v4 => r1.bind fun a5 => (zsZ G 52 a5 v4 1).bind fun G7 => flX2_knowsPairs_57 t 1 G7
theorem wfX2_knowsPairs_42 {F : zF} (hd : 7 ≤ F.2.2.2) (t : Nat)  (G : GS) {a : GS} (h : fX2_knowsPairs_42 t  G = some a) (hk : zKV F a) : J mX2_knowsPairs F G 42 [(0, vR (some t))] [] := by
  unfold fX2_knowsPairs_42 at h
  refine j_aload_n (j := 0) dX2_knowsPairs_42 rfl rfl ?_
  replace h := zbE h
  obtain ⟨r1, e2, h⟩ := h
  refine j_getR fgX2_41 (fun _ _ _ => rfl) dX2_knowsPairs_43 e2 ?_
  refine j_bipush (v := 12) dX2_knowsPairs_46 (by decide) ?_
  refine j_bipush (v := 12) dX2_knowsPairs_48 (by decide) ?_
  replace h := zbE h
  obtain ⟨v4, e3, h⟩ := h
  refine j_cont (zrS (As := [vI 12, vI 12]) msX2_246 (yX2_pair_ok e3) (Nat.le_trans (Nat.le_of_ble_eq_true rfl) hd) rfl rfl (Nat.le_of_ble_eq_true rfl) dX2_knowsPairs_50) ?_
  refine j_iconst (v := 1) dX2_knowsPairs_53 (by decide) ?_
  replace h := zbE h
  obtain ⟨a5, e6, h⟩ := h
  subst e6
  replace h := zbE h
  obtain ⟨G7, e8, h⟩ := h
  refine j_zast e8 dX2_knowsPairs_54 ?_
  refine j_iconst (v := 1) dX2_knowsPairs_55 (by decide) ?_
  refine j_istore_n (lv' := [(1, vI 1), (0, vR (some t))]) dX2_knowsPairs_56 rfl (Nat.le_of_ble_eq_true rfl) rfl ?_
  exact J.sub (zall [1, 0] rfl) (wflX2_knowsPairs_57 hd t 1  G7 h hk)
def fbX2_knowsPairs_15 (t : Nat) (x1 : Int32)  (G : GS) : Option ((Int32 × GS) ⊕ (GS)) :=
  if 2196 ≤ x1 then (zo (fX2_knowsPairs_42 t G)) else ((zgR G 2 t 15).bind fun r2 => r2.bind fun a4 => (zsZ G 52 a4 x1 0).bind fun G6 => (zgR G6 2 t 16).bind fun r8 => r8.bind fun a10 => (zsZ G6 52 a10 x1 0).bind fun G12 => some (.inl ((x1 + 1), G12)))
def flX2_knowsPairs_15 (t : Nat) (x1 : Int32) (G : GS) : Option (GS) := zloop (fun s : Int32 × GS => fbX2_knowsPairs_15 t s.1 s.2) (x1, G)
theorem wfbX2_knowsPairs_15 {F : zF} (hd : 7 ≤ F.2.2.2) (t : Nat) (x1 : Int32) (G : GS) {a : (Int32 × GS) ⊕ (GS)} (h : fbX2_knowsPairs_15 t x1 G = some a) (hk : (zcase (fun s : Int32 × GS => J mX2_knowsPairs F s.2 15 [(0, vR (some t)), (1, vI s.1)] []) (zKV F)) a) : J mX2_knowsPairs F G 15 [(0, vR (some t)), (1, vI x1)] [] := by
  unfold fbX2_knowsPairs_15 at h
  refine j_iload_n (j := 1) dX2_knowsPairs_15 rfl rfl ?_
  refine j_sipush (v := 2196) dX2_knowsPairs_16 (by decide) ?_
  refine j_icmp_ge (tgt := 42) dX2_knowsPairs_19 (by decide) (fun c1 => ?_) (fun c1 => ?_)
  · rw [if_pos c1] at h
    replace h := zoE h
    obtain ⟨a, h, rfl⟩ := h
    replace hk := hk
    exact J.sub (zall [0] rfl) (wfX2_knowsPairs_42 hd t  G h hk)
  · rw [if_neg c1] at h
    refine j_aload_n (j := 0) dX2_knowsPairs_22 rfl rfl ?_
    replace h := zbE h
    obtain ⟨r2, e3, h⟩ := h
    refine j_getR fgX2_37 (fun _ _ _ => rfl) dX2_knowsPairs_23 e3 ?_
    refine j_iload_n (j := 1) dX2_knowsPairs_26 rfl rfl ?_
    refine j_iconst (v := 0) dX2_knowsPairs_27 (by decide) ?_
    replace h := zbE h
    obtain ⟨a4, e5, h⟩ := h
    subst e5
    replace h := zbE h
    obtain ⟨G6, e7, h⟩ := h
    refine j_zast e7 dX2_knowsPairs_28 ?_
    refine j_aload_n (j := 0) dX2_knowsPairs_29 rfl rfl ?_
    replace h := zbE h
    obtain ⟨r8, e9, h⟩ := h
    refine j_getR fgX2_41 (fun _ _ _ => rfl) dX2_knowsPairs_30 e9 ?_
    refine j_iload_n (j := 1) dX2_knowsPairs_33 rfl rfl ?_
    refine j_iconst (v := 0) dX2_knowsPairs_34 (by decide) ?_
    replace h := zbE h
    obtain ⟨a10, e11, h⟩ := h
    subst e11
    replace h := zbE h
    obtain ⟨G12, e13, h⟩ := h
    refine j_zast e13 dX2_knowsPairs_35 ?_
    refine j_iinc (j := 1) (v := (x1 + 1)) (lv' := [(1, vI (x1 + 1)), (0, vR (some t))]) dX2_knowsPairs_36 rfl rfl (Nat.le_of_ble_eq_true rfl) rfl ?_
    refine j_goto (tgt := 15) dX2_knowsPairs_39 (by decide) ?_
    obtain rfl := Option.some.inj h
    exact J.sub (zall [1, 0] rfl) hk
theorem wflX2_knowsPairs_15 {F : zF} (hd : 7 ≤ F.2.2.2) (t : Nat) (x1 : Int32) (G : GS) {a : GS} (h : flX2_knowsPairs_15 t x1 G = some a) (hk : zKV F a) : J mX2_knowsPairs F G 15 [(0, vR (some t)), (1, vI x1)] [] := by
  unfold flX2_knowsPairs_15 at h
  exact zloop_walk (P := (fun s : Int32 × GS => J mX2_knowsPairs F s.2 15 [(0, vR (some t)), (1, vI s.1)] [])) (fun s b e hk => wfbX2_knowsPairs_15 hd t s.1 s.2 e hk) (x1, G) _ h hk
def fX2_knowsPairs_0 (t : Nat)  (G : GS) : Option (GS) :=
  (zgI G 2 t 19).bind fun v1 => if v1 = 0 then ((zpZ G 2 t 19 1).bind fun G4 => flX2_knowsPairs_15 t 0 G4) else (some G)
theorem wfX2_knowsPairs_0 {F : zF} (hd : 7 ≤ F.2.2.2) (t : Nat)  (G : GS) {a : GS} (h : fX2_knowsPairs_0 t  G = some a) (hk : zKV F a) : J mX2_knowsPairs F G 0 [(0, vR (some t))] [] := by
  unfold fX2_knowsPairs_0 at h
  refine j_aload_n (j := 0) dX2_knowsPairs_0 rfl rfl ?_
  replace h := zbE h
  obtain ⟨v1, e2, h⟩ := h
  refine j_getI fgX2_131 (fun _ _ _ => rfl) dX2_knowsPairs_1 e2 ?_
  refine j_if_eq (tgt := 8) dX2_knowsPairs_4 (by decide) (fun c3 => ?_) (fun c3 => ?_)
  · rw [if_pos c3] at h
    refine j_aload_n (j := 0) dX2_knowsPairs_8 rfl rfl ?_
    refine j_iconst (v := 1) dX2_knowsPairs_9 (by decide) ?_
    replace h := zbE h
    obtain ⟨G4, e5, h⟩ := h
    refine j_putZ fpX2_131_X2 (Or.inl rfl) rfl dX2_knowsPairs_10 e5 ?_
    refine j_iconst (v := 0) dX2_knowsPairs_13 (by decide) ?_
    refine j_istore_n (lv' := [(1, vI 0), (0, vR (some t))]) dX2_knowsPairs_14 rfl (Nat.le_of_ble_eq_true rfl) rfl ?_
    exact J.sub (zall [1, 0] rfl) (wflX2_knowsPairs_15 hd t 0  G4 h hk)
  · rw [if_neg c3] at h
    obtain rfl := Option.some.inj h
    exact j_vret hk.1 hk.2 rfl dX2_knowsPairs_7
theorem yX2_knowsPairs_ok {t : Nat} {G : GS} {G1 : GS} (h : fX2_knowsPairs_0 t G = some G1) : zRuns yX2_knowsPairs (ws_ yX2_knowsPairs cX2_knowsPairs 4 none) [vR (some t)] (.inl none, G, G1, 7) :=
  zentry (M := mX2_knowsPairs) (plainFor_of_name (by decide +kernel)) ⟨rfl, rfl, rfl, rfl⟩ (Nat.le_of_ble_eq_true rfl) (wfX2_knowsPairs_0 (Nat.le_refl _) t G h ⟨rfl, rfl⟩)
theorem fgX2_341 : zFG RX2 341 1 31 (.int) := ⟨(RX2, TX2, 42, tyX2), rfl, by decide, in_X2, rfl, "SelahGeneratorModel", Or.inl rfl, Or.inl q2703⟩
abbrev mX2_expectedBy : zM := (cX2_expectedBy, RX2, 5, (some Jvm.ClassFile.FieldType.int), "expectedBy", [], "(I)I")
def fX2_expectedBy_66 (t : Nat) (x1 : Int32) (x2 : Int32) (x3 : Int32)  (G : GS) : Option ((Int32 × Int32) ⊕ (Int32)) :=
  some (.inl (x2, (x3 + 1)))
theorem wfX2_expectedBy_66 {F : zF} (hd : 6 ≤ F.2.2.2) (t : Nat) (x1 : Int32) (x2 : Int32) (x3 : Int32)  (G : GS) {a : (Int32 × Int32) ⊕ (Int32)} (h : fX2_expectedBy_66 t x1 x2 x3  G = some a) (hk : (zcase (fun s : Int32 × Int32 => J mX2_expectedBy F G 18 [(0, vR (some t)), (1, vI x1), (2, vI s.1), (3, vI s.2)] []) (zKPI F G)) a) : J mX2_expectedBy F G 66 [(0, vR (some t)), (1, vI x1), (2, vI x2), (3, vI x3)] [] := by
  unfold fX2_expectedBy_66 at h
  refine j_iinc (j := 3) (v := (x3 + 1)) (lv' := [(3, vI (x3 + 1)), (0, vR (some t)), (1, vI x1), (2, vI x2)]) dX2_expectedBy_66 rfl rfl (Nat.le_of_ble_eq_true rfl) rfl ?_
  refine j_goto (tgt := 18) dX2_expectedBy_69 (by decide) ?_
  obtain rfl := Option.some.inj h
  exact J.sub (zall [1, 2, 3, 0] rfl) hk
def fX2_expectedBy_60 (t : Nat) (x1 : Int32) (x2 : Int32) (x3 : Int32) (x4 : Int32)  (G : GS) : Option ((Int32 × Int32) ⊕ ((Int32 × Int32) ⊕ (Int32))) :=
  some (.inl (x2, (x4 + 1)))
theorem wfX2_expectedBy_60 {F : zF} (hd : 6 ≤ F.2.2.2) (t : Nat) (x1 : Int32) (x2 : Int32) (x3 : Int32) (x4 : Int32)  (G : GS) {a : (Int32 × Int32) ⊕ ((Int32 × Int32) ⊕ (Int32))} (h : fX2_expectedBy_60 t x1 x2 x3 x4  G = some a) (hk : (zcase (fun s : Int32 × Int32 => J mX2_expectedBy F G 27 [(0, vR (some t)), (1, vI x1), (2, vI s.1), (3, vI x3), (4, vI s.2)] []) ((zcase (fun s : Int32 × Int32 => J mX2_expectedBy F G 18 [(0, vR (some t)), (1, vI x1), (2, vI s.1), (3, vI s.2)] []) (zKPI F G)))) a) : J mX2_expectedBy F G 60 [(0, vR (some t)), (1, vI x1), (2, vI x2), (3, vI x3), (4, vI x4)] [] := by
  unfold fX2_expectedBy_60 at h
  refine j_iinc (j := 4) (v := (x4 + 1)) (lv' := [(4, vI (x4 + 1)), (0, vR (some t)), (1, vI x1), (2, vI x2), (3, vI x3)]) dX2_expectedBy_60 rfl rfl (Nat.le_of_ble_eq_true rfl) rfl ?_
  refine j_goto (tgt := 27) dX2_expectedBy_63 (by decide) ?_
  obtain rfl := Option.some.inj h
  exact J.sub (zall [1, 2, 3, 4, 0] rfl) hk
def fbX2_expectedBy_27 (t : Nat) (x1 : Int32) (x2 : Int32) (x3 : Int32) (x4 : Int32)  (G : GS) : Option ((Int32 × Int32) ⊕ ((Int32 × Int32) ⊕ (Int32))) :=
  if 13 ≤ x4 then (zo (fX2_expectedBy_66 t x1 x2 x3 G)) else ((zgR G 2 t 20).bind fun r2 => (fX2_pair_0 x3 x4 G).bind fun v5 => r2.bind fun a6 => (zaI G 52 a6 ((183 * x1) + v5)).bind fun v8 => if v8 = 0 then (fX2_expectedBy_60 t x1 x2 x3 x4 G) else (fX2_expectedBy_60 t x1 (x2 ||| ((1 : Int32) <<< (x3 &&& 31))) x3 x4 G))
def flX2_expectedBy_27 (t : Nat) (x1 : Int32) (x2 : Int32) (x3 : Int32) (x4 : Int32) (G : GS) : Option ((Int32 × Int32) ⊕ (Int32)) := zloop (fun s : Int32 × Int32 => fbX2_expectedBy_27 t x1 s.1 x3 s.2 G) (x2, x4)
theorem wfbX2_expectedBy_27 {F : zF} (hd : 6 ≤ F.2.2.2) (t : Nat) (x1 : Int32) (x2 : Int32) (x3 : Int32) (x4 : Int32) (G : GS) {a : (Int32 × Int32) ⊕ ((Int32 × Int32) ⊕ (Int32))} (h : fbX2_expectedBy_27 t x1 x2 x3 x4 G = some a) (hk : (zcase (fun s : Int32 × Int32 => J mX2_expectedBy F G 27 [(0, vR (some t)), (1, vI x1), (2, vI s.1), (3, vI x3), (4, vI s.2)] []) ((zcase (fun s : Int32 × Int32 => J mX2_expectedBy F G 18 [(0, vR (some t)), (1, vI x1), (2, vI s.1), (3, vI s.2)] []) (zKPI F G)))) a) : J mX2_expectedBy F G 27 [(0, vR (some t)), (1, vI x1), (2, vI x2), (3, vI x3), (4, vI x4)] [] := by
  unfold fbX2_expectedBy_27 at h
  refine j_iload (j := 4) dX2_expectedBy_27 rfl ?_
  refine j_bipush (v := 13) dX2_expectedBy_29 (by decide) ?_
  refine j_icmp_ge (tgt := 66) dX2_expectedBy_31 (by decide) (fun c1 => ?_) (fun c1 => ?_)
  · rw [if_pos c1] at h
    replace h := zoE h
    obtain ⟨a, h, rfl⟩ := h
    replace hk := hk
    exact J.sub (zall [0, 1, 2, 3] rfl) (wfX2_expectedBy_66 hd t x1 x2 x3  G h hk)
  · rw [if_neg c1] at h
    refine j_aload_n (j := 0) dX2_expectedBy_34 rfl rfl ?_
    replace h := zbE h
    obtain ⟨r2, e3, h⟩ := h
    refine j_getR fgX2_50 (fun _ _ _ => rfl) dX2_expectedBy_35 e3 ?_
    refine j_sipush (v := 183) dX2_expectedBy_38 (by decide) ?_
    refine j_iload_n (j := 1) dX2_expectedBy_41 rfl rfl ?_
    refine j_imul dX2_expectedBy_42 ?_
    refine j_iload_n (j := 3) dX2_expectedBy_43 rfl rfl ?_
    refine j_iload (j := 4) dX2_expectedBy_44 rfl ?_
    replace h := zbE h
    obtain ⟨v5, e4, h⟩ := h
    refine j_cont (zrS (As := [vI x3, vI x4]) msX2_246 (yX2_pair_ok e4) (Nat.le_trans (Nat.le_of_ble_eq_true rfl) hd) rfl rfl (Nat.le_of_ble_eq_true rfl) dX2_expectedBy_46) ?_
    refine j_iadd dX2_expectedBy_49 ?_
    replace h := zbE h
    obtain ⟨a6, e7, h⟩ := h
    subst e7
    replace h := zbE h
    obtain ⟨v8, e9, h⟩ := h
    refine j_zald rfl e9 dX2_expectedBy_50 ?_
    refine j_if_eq (tgt := 60) dX2_expectedBy_51 (by decide) (fun c10 => ?_) (fun c10 => ?_)
    · rw [if_pos c10] at h
      exact J.sub (zall [0, 1, 2, 3, 4] rfl) (wfX2_expectedBy_60 hd t x1 x2 x3 x4  G h hk)
    · rw [if_neg c10] at h
      refine j_iload_n (j := 2) dX2_expectedBy_54 rfl rfl ?_
      refine j_iconst (v := 1) dX2_expectedBy_55 (by decide) ?_
      refine j_iload_n (j := 3) dX2_expectedBy_56 rfl rfl ?_
      refine j_ishl dX2_expectedBy_57 ?_
      refine j_ior dX2_expectedBy_58 ?_
      refine j_istore_n (lv' := [(2, vI (x2 ||| ((1 : Int32) <<< (x3 &&& 31)))), (0, vR (some t)), (1, vI x1), (3, vI x3), (4, vI x4)]) dX2_expectedBy_59 rfl (Nat.le_of_ble_eq_true rfl) rfl ?_
      exact J.sub (zall [1, 2, 0, 3, 4] rfl) (wfX2_expectedBy_60 hd t x1 (x2 ||| ((1 : Int32) <<< (x3 &&& 31))) x3 x4  G h hk)
theorem wflX2_expectedBy_27 {F : zF} (hd : 6 ≤ F.2.2.2) (t : Nat) (x1 : Int32) (x2 : Int32) (x3 : Int32) (x4 : Int32) (G : GS) {a : (Int32 × Int32) ⊕ (Int32)} (h : flX2_expectedBy_27 t x1 x2 x3 x4 G = some a) (hk : (zcase (fun s : Int32 × Int32 => J mX2_expectedBy F G 18 [(0, vR (some t)), (1, vI x1), (2, vI s.1), (3, vI s.2)] []) (zKPI F G)) a) : J mX2_expectedBy F G 27 [(0, vR (some t)), (1, vI x1), (2, vI x2), (3, vI x3), (4, vI x4)] [] := by
  unfold flX2_expectedBy_27 at h
  exact zloop_walk (P := (fun s : Int32 × Int32 => J mX2_expectedBy F G 27 [(0, vR (some t)), (1, vI x1), (2, vI s.1), (3, vI x3), (4, vI s.2)] [])) (fun s b e hk => wfbX2_expectedBy_27 hd t x1 s.1 x3 s.2 G e hk) (x2, x4) _ h hk
def fbX2_expectedBy_18 (t : Nat) (x1 : Int32) (x2 : Int32) (x3 : Int32)  (G : GS) : Option ((Int32 × Int32) ⊕ (Int32)) :=
  if 13 ≤ x3 then (zo (some x2)) else (flX2_expectedBy_27 t x1 x2 x3 0 G)
def flX2_expectedBy_18 (t : Nat) (x1 : Int32) (x2 : Int32) (x3 : Int32) (G : GS) : Option (Int32) := zloop (fun s : Int32 × Int32 => fbX2_expectedBy_18 t x1 s.1 s.2 G) (x2, x3)
theorem wfbX2_expectedBy_18 {F : zF} (hd : 6 ≤ F.2.2.2) (t : Nat) (x1 : Int32) (x2 : Int32) (x3 : Int32) (G : GS) {a : (Int32 × Int32) ⊕ (Int32)} (h : fbX2_expectedBy_18 t x1 x2 x3 G = some a) (hk : (zcase (fun s : Int32 × Int32 => J mX2_expectedBy F G 18 [(0, vR (some t)), (1, vI x1), (2, vI s.1), (3, vI s.2)] []) (zKPI F G)) a) : J mX2_expectedBy F G 18 [(0, vR (some t)), (1, vI x1), (2, vI x2), (3, vI x3)] [] := by
  unfold fbX2_expectedBy_18 at h
  refine j_iload_n (j := 3) dX2_expectedBy_18 rfl rfl ?_
  refine j_bipush (v := 13) dX2_expectedBy_19 (by decide) ?_
  refine j_icmp_ge (tgt := 72) dX2_expectedBy_21 (by decide) (fun c1 => ?_) (fun c1 => ?_)
  · rw [if_pos c1] at h
    replace h := zoE h
    obtain ⟨a, h, rfl⟩ := h
    replace hk := hk
    refine j_iload_n (j := 2) dX2_expectedBy_72 rfl rfl ?_
    obtain rfl := Option.some.inj h
    exact j_iret hk.1 hk.2 rfl dX2_expectedBy_73
  · rw [if_neg c1] at h
    refine j_iconst (v := 0) dX2_expectedBy_24 (by decide) ?_
    refine j_istore (lv' := [(4, vI 0), (0, vR (some t)), (1, vI x1), (2, vI x2), (3, vI x3)]) dX2_expectedBy_25 (Nat.le_of_ble_eq_true rfl) rfl ?_
    exact J.sub (zall [1, 2, 3, 4, 0] rfl) (wflX2_expectedBy_27 hd t x1 x2 x3 0  G h hk)
theorem wflX2_expectedBy_18 {F : zF} (hd : 6 ≤ F.2.2.2) (t : Nat) (x1 : Int32) (x2 : Int32) (x3 : Int32) (G : GS) {a : Int32} (h : flX2_expectedBy_18 t x1 x2 x3 G = some a) (hk : zKPI F G a) : J mX2_expectedBy F G 18 [(0, vR (some t)), (1, vI x1), (2, vI x2), (3, vI x3)] [] := by
  unfold flX2_expectedBy_18 at h
  exact zloop_walk (P := (fun s : Int32 × Int32 => J mX2_expectedBy F G 18 [(0, vR (some t)), (1, vI x1), (2, vI s.1), (3, vI s.2)] [])) (fun s b e hk => wfbX2_expectedBy_18 hd t x1 s.1 s.2 G e hk) (x2, x3) _ h hk
def fX2_expectedBy_0 (t : Nat) (x1 : Int32)  (G : GS) : Option (Int32) :=
  (zgI G 2 t 31).bind fun v1 => if v1 = 1 then (zk [2] G t <| (fX2_prediction_0 t x1 G).bind fun v6 => some v6) else (flX2_expectedBy_18 t x1 0 0 G)
theorem wfX2_expectedBy_0 {F : zF} (hd : 6 ≤ F.2.2.2) (t : Nat) (x1 : Int32)  (G : GS) {a : Int32} (h : fX2_expectedBy_0 t x1  G = some a) (hk : zKPI F G a) : J mX2_expectedBy F G 0 [(0, vR (some t)), (1, vI x1)] [] := by
  unfold fX2_expectedBy_0 at h
  refine j_aload_n (j := 0) dX2_expectedBy_0 rfl rfl ?_
  replace h := zbE h
  obtain ⟨v1, e2, h⟩ := h
  refine j_getI fgX2_341 (fun _ _ _ => rfl) dX2_expectedBy_1 e2 ?_
  refine j_iconst (v := 1) dX2_expectedBy_4 (by decide) ?_
  refine j_icmp_ne (tgt := 14) dX2_expectedBy_5 (by decide) (fun c3 => ?_) (fun c3 => ?_)
  · rw [if_pos c3] at h
    refine j_aload_n (j := 0) dX2_expectedBy_8 rfl rfl ?_
    refine j_iload_n (j := 1) dX2_expectedBy_9 rfl rfl ?_
    replace h := zkE h
    obtain ⟨e4, h⟩ := h
    replace h := zbE h
    obtain ⟨v6, e5, h⟩ := h
    refine j_cont (zrV (As := [vI x1]) msX2_234 (yX2_prediction_ok e5) (Nat.le_trans (Nat.le_of_ble_eq_true rfl) hd) (zk_2 _ e4) rfl rfl (Nat.le_of_ble_eq_true rfl) dX2_expectedBy_10) ?_
    obtain rfl := Option.some.inj h
    exact j_iret hk.1 hk.2 rfl dX2_expectedBy_13
  · rw [if_neg c3] at h
    refine j_iconst (v := 0) dX2_expectedBy_14 (by decide) ?_
    refine j_istore_n (lv' := [(2, vI 0), (0, vR (some t)), (1, vI x1)]) dX2_expectedBy_15 rfl (Nat.le_of_ble_eq_true rfl) rfl ?_
    refine j_iconst (v := 0) dX2_expectedBy_16 (by decide) ?_
    refine j_istore_n (lv' := [(3, vI 0), (2, vI 0), (0, vR (some t)), (1, vI x1)]) dX2_expectedBy_17 rfl (Nat.le_of_ble_eq_true rfl) rfl ?_
    exact J.sub (zall [2, 3, 1, 0] rfl) (wflX2_expectedBy_18 hd t x1 0 0  G h hk)
theorem yX2_expectedBy_ok {t : Nat} {x1 : Int32} {G : GS} {r : Int32} (h : fX2_expectedBy_0 t x1 G = some r) : zRuns yX2_expectedBy (ws_ yX2_expectedBy cX2_expectedBy 5 (some Jvm.ClassFile.FieldType.int)) [vR (some t), vI x1] (.inl (some (vI r)), G, G, 6) :=
  zentry (M := mX2_expectedBy) (plainFor_of_name (by decide +kernel)) ⟨rfl, rfl, rfl, rfl⟩ (Nat.le_of_ble_eq_true rfl) (wfX2_expectedBy_0 (Nat.le_refl _) t x1 G h ⟨rfl, rfl⟩)
theorem msX2_275 : zSV RX2 275 RX2 yX2_knowsPairs cX2_knowsPairs 4 none 0 := ⟨lw_V q2999 q3001 qs83 q131 q3002, (by decide +kernel), (by decide)⟩
theorem msX2_362 : zSV RX2 362 RX2 yX2_expectedBy cX2_expectedBy 5 (some Jvm.ClassFile.FieldType.int) 1 := ⟨lw_V q3186 q3188 qs115 q131 q3189, (by decide +kernel), (by decide)⟩
abbrev mX2_expected : zM := (cX2_expected, RX2, 4, (some Jvm.ClassFile.FieldType.int), "expected", [], "()I")
def fX2_expected_86 (t : Nat) (x1 : Int32) (x2 : Int32) (x3 : Int32)  (G : GS) : Option ((Int32 × Int32) ⊕ ((Int32) × GS)) :=
  some (.inl (x2, (x3 + 1)))
theorem wfX2_expected_86 {F : zF} (hd : 8 ≤ F.2.2.2) (t : Nat) (x1 : Int32) (x2 : Int32) (x3 : Int32)  (G : GS) {a : (Int32 × Int32) ⊕ ((Int32) × GS)} (h : fX2_expected_86 t x1 x2 x3  G = some a) (hk : (zcase (fun s : Int32 × Int32 => J mX2_expected F G 60 [(0, vR (some t)), (1, vI x1), (2, vI s.1), (3, vI s.2)] []) (zKI F)) a) : J mX2_expected F G 86 [(0, vR (some t)), (1, vI x1), (2, vI x2), (3, vI x3)] [] := by
  unfold fX2_expected_86 at h
  refine j_iinc (j := 3) (v := (x3 + 1)) (lv' := [(3, vI (x3 + 1)), (0, vR (some t)), (1, vI x1), (2, vI x2)]) dX2_expected_86 rfl rfl (Nat.le_of_ble_eq_true rfl) rfl ?_
  refine j_goto (tgt := 60) dX2_expected_89 (by decide) ?_
  obtain rfl := Option.some.inj h
  exact J.sub (zall [1, 2, 3, 0] rfl) hk
def fbX2_expected_60 (t : Nat) (x1 : Int32) (x2 : Int32) (x3 : Int32)  (G : GS) : Option ((Int32 × Int32) ⊕ ((Int32) × GS)) :=
  (zgI G 2 t 6).bind fun v1 => if v1 ≤ x3 then (zo (some (x2, G))) else ((zgR G 2 t 0).bind fun r4 => r4.bind fun a6 => (zaI G 50 a6 x3).bind fun v8 => if v8 = x1 then (zk [2] G t <| (fX2_expectedBy_0 t x3 G).bind fun v13 => fX2_expected_86 t x1 (x2 ||| v13) x3 G) else (fX2_expected_86 t x1 x2 x3 G))
def flX2_expected_60 (t : Nat) (x1 : Int32) (x2 : Int32) (x3 : Int32) (G : GS) : Option ((Int32) × GS) := zloop (fun s : Int32 × Int32 => fbX2_expected_60 t x1 s.1 s.2 G) (x2, x3)
theorem wfbX2_expected_60 {F : zF} (hd : 8 ≤ F.2.2.2) (t : Nat) (x1 : Int32) (x2 : Int32) (x3 : Int32) (G : GS) {a : (Int32 × Int32) ⊕ ((Int32) × GS)} (h : fbX2_expected_60 t x1 x2 x3 G = some a) (hk : (zcase (fun s : Int32 × Int32 => J mX2_expected F G 60 [(0, vR (some t)), (1, vI x1), (2, vI s.1), (3, vI s.2)] []) (zKI F)) a) : J mX2_expected F G 60 [(0, vR (some t)), (1, vI x1), (2, vI x2), (3, vI x3)] [] := by
  unfold fbX2_expected_60 at h
  refine j_iload_n (j := 3) dX2_expected_60 rfl rfl ?_
  refine j_aload_n (j := 0) dX2_expected_61 rfl rfl ?_
  replace h := zbE h
  obtain ⟨v1, e2, h⟩ := h
  refine j_getI fgX2_113 (fun _ _ _ => rfl) dX2_expected_62 e2 ?_
  refine j_icmp_ge (tgt := 92) dX2_expected_65 (by decide) (fun c3 => ?_) (fun c3 => ?_)
  · rw [if_pos c3] at h
    replace h := zoE h
    obtain ⟨a, h, rfl⟩ := h
    replace hk := hk
    refine j_iload_n (j := 2) dX2_expected_92 rfl rfl ?_
    obtain rfl := Option.some.inj h
    exact j_iret hk.1 hk.2 rfl dX2_expected_93
  · rw [if_neg c3] at h
    refine j_aload_n (j := 0) dX2_expected_68 rfl rfl ?_
    replace h := zbE h
    obtain ⟨r4, e5, h⟩ := h
    refine j_getR fgX2_7 (fun _ _ _ => rfl) dX2_expected_69 e5 ?_
    refine j_iload_n (j := 3) dX2_expected_72 rfl rfl ?_
    replace h := zbE h
    obtain ⟨a6, e7, h⟩ := h
    subst e7
    replace h := zbE h
    obtain ⟨v8, e9, h⟩ := h
    refine j_iald (Or.inl rfl) e9 dX2_expected_73 ?_
    refine j_iload_n (j := 1) dX2_expected_74 rfl rfl ?_
    refine j_icmp_ne (tgt := 86) dX2_expected_75 (by decide) (fun c10 => ?_) (fun c10 => ?_)
    · rw [if_pos c10] at h
      refine j_iload_n (j := 2) dX2_expected_78 rfl rfl ?_
      refine j_aload_n (j := 0) dX2_expected_79 rfl rfl ?_
      refine j_iload_n (j := 3) dX2_expected_80 rfl rfl ?_
      replace h := zkE h
      obtain ⟨e11, h⟩ := h
      replace h := zbE h
      obtain ⟨v13, e12, h⟩ := h
      refine j_cont (zrV (As := [vI x3]) msX2_362 (yX2_expectedBy_ok e12) (Nat.le_trans (Nat.le_of_ble_eq_true rfl) hd) (zk_2 _ e11) rfl rfl (Nat.le_of_ble_eq_true rfl) dX2_expected_81) ?_
      refine j_ior dX2_expected_84 ?_
      refine j_istore_n (lv' := [(2, vI (x2 ||| v13)), (0, vR (some t)), (1, vI x1), (3, vI x3)]) dX2_expected_85 rfl (Nat.le_of_ble_eq_true rfl) rfl ?_
      exact J.sub (zall [1, 2, 0, 3] rfl) (wfX2_expected_86 hd t x1 (x2 ||| v13) x3  G h hk)
    · rw [if_neg c10] at h
      exact J.sub (zall [0, 1, 2, 3] rfl) (wfX2_expected_86 hd t x1 x2 x3  G h hk)
theorem wflX2_expected_60 {F : zF} (hd : 8 ≤ F.2.2.2) (t : Nat) (x1 : Int32) (x2 : Int32) (x3 : Int32) (G : GS) {a : (Int32) × GS} (h : flX2_expected_60 t x1 x2 x3 G = some a) (hk : zKI F a) : J mX2_expected F G 60 [(0, vR (some t)), (1, vI x1), (2, vI x2), (3, vI x3)] [] := by
  unfold flX2_expected_60 at h
  exact zloop_walk (P := (fun s : Int32 × Int32 => J mX2_expected F G 60 [(0, vR (some t)), (1, vI x1), (2, vI s.1), (3, vI s.2)] [])) (fun s b e hk => wfbX2_expected_60 hd t x1 s.1 s.2 G e hk) (x2, x3) _ h hk
def fX2_expected_0 (t : Nat)  (G : GS) : Option ((Int32) × GS) :=
  (zpI G 2 t 8 0).bind fun G1 => (zgI G1 2 t 30).bind fun v3 => if v3 = 0 then (some (0, G1)) else ((zgI G1 2 t 33).bind fun v6 => if v6 = 0 then (some (4096, G1)) else ((zgR G1 2 t 24).bind fun r9 => (zgI G1 2 t 33).bind fun v11 => r9.bind fun a13 => (zaI G1 50 a13 (v11 - 1)).bind fun v15 => (fX2_isTerminal_0 v15 G1).bind fun v18 => if v18 = 0 then (zk [2] G1 t <| (fX2_knows_0 t G1).bind fun G22 => zk [2] G22 t <| (fX2_knowsPairs_0 t G22).bind fun G25 => flX2_expected_60 t v15 0 0 G25) else (some (((1 : Int32) <<< (v15 &&& 31)), G1))))
theorem wfX2_expected_0 {F : zF} (hd : 8 ≤ F.2.2.2) (t : Nat)  (G : GS) {a : (Int32) × GS} (h : fX2_expected_0 t  G = some a) (hk : zKI F a) : J mX2_expected F G 0 [(0, vR (some t))] [] := by
  unfold fX2_expected_0 at h
  refine j_aload_n (j := 0) dX2_expected_0 rfl rfl ?_
  refine j_iconst (v := 0) dX2_expected_1 (by decide) ?_
  replace h := zbE h
  obtain ⟨G1, e2, h⟩ := h
  refine j_putI fpX2_93_X2 (Or.inl rfl) rfl dX2_expected_2 e2 ?_
  refine j_aload_n (j := 0) dX2_expected_5 rfl rfl ?_
  replace h := zbE h
  obtain ⟨v3, e4, h⟩ := h
  refine j_getI fgX2_134 (fun _ _ _ => rfl) dX2_expected_6 e4 ?_
  refine j_if_ne (tgt := 14) dX2_expected_9 (by decide) (fun c5 => ?_) (fun c5 => ?_)
  · rw [if_pos c5] at h
    refine j_iconst (v := 0) dX2_expected_12 (by decide) ?_
    obtain rfl := Option.some.inj h
    exact j_iret hk.1 hk.2 rfl dX2_expected_13
  · rw [if_neg c5] at h
    refine j_aload_n (j := 0) dX2_expected_14 rfl rfl ?_
    replace h := zbE h
    obtain ⟨v6, e7, h⟩ := h
    refine j_getI fgX2_140 (fun _ _ _ => rfl) dX2_expected_15 e7 ?_
    refine j_if_ne (tgt := 25) dX2_expected_18 (by decide) (fun c8 => ?_) (fun c8 => ?_)
    · rw [if_pos c8] at h
      refine j_sipush (v := 4096) dX2_expected_21 (by decide) ?_
      obtain rfl := Option.some.inj h
      exact j_iret hk.1 hk.2 rfl dX2_expected_24
    · rw [if_neg c8] at h
      refine j_aload_n (j := 0) dX2_expected_25 rfl rfl ?_
      replace h := zbE h
      obtain ⟨r9, e10, h⟩ := h
      refine j_getR fgX2_62 (fun _ _ _ => rfl) dX2_expected_26 e10 ?_
      refine j_aload_n (j := 0) dX2_expected_29 rfl rfl ?_
      replace h := zbE h
      obtain ⟨v11, e12, h⟩ := h
      refine j_getI fgX2_140 (fun _ _ _ => rfl) dX2_expected_30 e12 ?_
      refine j_iconst (v := 1) dX2_expected_33 (by decide) ?_
      refine j_isub dX2_expected_34 ?_
      replace h := zbE h
      obtain ⟨a13, e14, h⟩ := h
      subst e14
      replace h := zbE h
      obtain ⟨v15, e16, h⟩ := h
      refine j_iald (Or.inl rfl) e16 dX2_expected_35 ?_
      refine j_istore_n (lv' := [(1, vI v15), (0, vR (some t))]) dX2_expected_36 rfl (Nat.le_of_ble_eq_true rfl) rfl ?_
      refine j_iload_n (j := 0) dX2_expected_37 rfl rfl ?_
      replace h := zbE h
      obtain ⟨v18, e17, h⟩ := h
      refine j_cont (zrS (As := [vI v15]) msX2_167 (yX2_isTerminal_ok e17) (Nat.le_trans (Nat.le_of_ble_eq_true rfl) hd) rfl rfl (Nat.le_of_ble_eq_true rfl) dX2_expected_38) ?_
      refine j_if_eq (tgt := 48) dX2_expected_41 (by decide) (fun c19 => ?_) (fun c19 => ?_)
      · rw [if_pos c19] at h
        refine j_aload_n (j := 1) dX2_expected_48 rfl rfl ?_
        replace h := zkE h
        obtain ⟨e20, h⟩ := h
        replace h := zbE h
        obtain ⟨G22, e21, h⟩ := h
        refine j_cont (zrV (As := []) msX2_227 (yX2_knows_ok e21) (Nat.le_trans (Nat.le_of_ble_eq_true rfl) hd) (zk_2 _ e20) rfl rfl (Nat.le_of_ble_eq_true rfl) dX2_expected_49) ?_
        refine j_aload_n (j := 1) dX2_expected_52 rfl rfl ?_
        replace h := zkE h
        obtain ⟨e23, h⟩ := h
        replace h := zbE h
        obtain ⟨G25, e24, h⟩ := h
        refine j_cont (zrV (As := []) msX2_275 (yX2_knowsPairs_ok e24) (Nat.le_trans (Nat.le_of_ble_eq_true rfl) hd) (zk_2 _ e23) rfl rfl (Nat.le_of_ble_eq_true rfl) dX2_expected_53) ?_
        refine j_iconst (v := 0) dX2_expected_56 (by decide) ?_
        refine j_istore_n (lv' := [(2, vI 0), (1, vI v15), (0, vR (some t))]) dX2_expected_57 rfl (Nat.le_of_ble_eq_true rfl) rfl ?_
        refine j_iconst (v := 0) dX2_expected_58 (by decide) ?_
        refine j_istore_n (lv' := [(3, vI 0), (2, vI 0), (1, vI v15), (0, vR (some t))]) dX2_expected_59 rfl (Nat.le_of_ble_eq_true rfl) rfl ?_
        exact J.sub (zall [3, 2, 1, 0] rfl) (wflX2_expected_60 hd t v15 0 0  G25 h hk)
      · rw [if_neg c19] at h
        refine j_iconst (v := 1) dX2_expected_44 (by decide) ?_
        refine j_iload_n (j := 0) dX2_expected_45 rfl rfl ?_
        refine j_ishl dX2_expected_46 ?_
        obtain rfl := Option.some.inj h
        exact j_iret hk.1 hk.2 rfl dX2_expected_47
theorem yX2_expected_ok {t : Nat} {G : GS} {r : Int32} {G1 : GS} (h : fX2_expected_0 t G = some (r, G1)) : zRuns yX2_expected (ws_ yX2_expected cX2_expected 4 (some Jvm.ClassFile.FieldType.int)) [vR (some t)] (.inl (some (vI r)), G, G1, 8) :=
  zentry (M := mX2_expected) (plainFor_of_name (by decide +kernel)) ⟨rfl, rfl, rfl, rfl⟩ (Nat.le_of_ble_eq_true rfl) (wfX2_expected_0 (Nat.le_refl _) t G h ⟨rfl, rfl⟩)
theorem fgX2_19 : zFG RX2 19 1 3 (.array (.int)) := ⟨(RX2, TX2, 42, tyX2), rfl, by decide, in_X2, rfl, "SelahGeneratorModel", Or.inl rfl, Or.inl q2675⟩
theorem fgX2_22 : zFG RX2 22 1 4 (.array (.int)) := ⟨(RX2, TX2, 42, tyX2), rfl, by decide, in_X2, rfl, "SelahGeneratorModel", Or.inl rfl, Or.inl q2676⟩
theorem fgX2_25 : zFG RX2 25 1 5 (.array (.int)) := ⟨(RX2, TX2, 42, tyX2), rfl, by decide, in_X2, rfl, "SelahGeneratorModel", Or.inl rfl, Or.inl q2677⟩
theorem fpX2_124_X2 : zFP RX2 124 1 7 (.int) false := ⟨(RX2, TX2, 42, tyX2), rfl, by decide, in_X2, tyX2_ok, nmX2, rfl, rfl, (by decide), "SelahGeneratorModel", Or.inl rfl, q2679⟩
abbrev mX2_holds : zM := (cX2_holds, RX2, 2, none, "holds", [], "()V")
def fbX2_holds_48 (t : Nat) (x1 : Int32)  (G : GS) : Option ((Int32 × GS) ⊕ (GS)) :=
  if 2000 ≤ x1 then (zo (some G)) else ((zgR G 2 t 5).bind fun r2 => (zgR G 2 t 2).bind fun r4 => r4.bind fun a6 => (zaI G 50 a6 x1).bind fun v8 => r2.bind fun a10 => (zsI G 50 a10 x1 v8).bind fun G12 => some (.inl ((x1 + 1), G12)))
def flX2_holds_48 (t : Nat) (x1 : Int32) (G : GS) : Option (GS) := zloop (fun s : Int32 × GS => fbX2_holds_48 t s.1 s.2) (x1, G)
theorem wfbX2_holds_48 {F : zF} (hd : 1 ≤ F.2.2.2) (t : Nat) (x1 : Int32) (G : GS) {a : (Int32 × GS) ⊕ (GS)} (h : fbX2_holds_48 t x1 G = some a) (hk : (zcase (fun s : Int32 × GS => J mX2_holds F s.2 48 [(0, vR (some t)), (1, vI s.1)] []) (zKV F)) a) : J mX2_holds F G 48 [(0, vR (some t)), (1, vI x1)] [] := by
  unfold fbX2_holds_48 at h
  refine j_iload_n (j := 1) dX2_holds_48 rfl rfl ?_
  refine j_sipush (v := 2000) dX2_holds_49 (by decide) ?_
  refine j_icmp_ge (tgt := 73) dX2_holds_52 (by decide) (fun c1 => ?_) (fun c1 => ?_)
  · rw [if_pos c1] at h
    replace h := zoE h
    obtain ⟨a, h, rfl⟩ := h
    replace hk := hk
    obtain rfl := Option.some.inj h
    exact j_vret hk.1 hk.2 rfl dX2_holds_73
  · rw [if_neg c1] at h
    refine j_aload_n (j := 0) dX2_holds_55 rfl rfl ?_
    replace h := zbE h
    obtain ⟨r2, e3, h⟩ := h
    refine j_getR fgX2_25 (fun _ _ _ => rfl) dX2_holds_56 e3 ?_
    refine j_iload_n (j := 1) dX2_holds_59 rfl rfl ?_
    refine j_aload_n (j := 0) dX2_holds_60 rfl rfl ?_
    replace h := zbE h
    obtain ⟨r4, e5, h⟩ := h
    refine j_getR fgX2_16 (fun _ _ _ => rfl) dX2_holds_61 e5 ?_
    refine j_iload_n (j := 1) dX2_holds_64 rfl rfl ?_
    replace h := zbE h
    obtain ⟨a6, e7, h⟩ := h
    subst e7
    replace h := zbE h
    obtain ⟨v8, e9, h⟩ := h
    refine j_iald (Or.inl rfl) e9 dX2_holds_65 ?_
    replace h := zbE h
    obtain ⟨a10, e11, h⟩ := h
    subst e11
    replace h := zbE h
    obtain ⟨G12, e13, h⟩ := h
    refine j_iast e13 dX2_holds_66 ?_
    refine j_iinc (j := 1) (v := (x1 + 1)) (lv' := [(1, vI (x1 + 1)), (0, vR (some t))]) dX2_holds_67 rfl rfl (Nat.le_of_ble_eq_true rfl) rfl ?_
    refine j_goto (tgt := 48) dX2_holds_70 (by decide) ?_
    obtain rfl := Option.some.inj h
    exact J.sub (zall [1, 0] rfl) hk
theorem wflX2_holds_48 {F : zF} (hd : 1 ≤ F.2.2.2) (t : Nat) (x1 : Int32) (G : GS) {a : GS} (h : flX2_holds_48 t x1 G = some a) (hk : zKV F a) : J mX2_holds F G 48 [(0, vR (some t)), (1, vI x1)] [] := by
  unfold flX2_holds_48 at h
  exact zloop_walk (P := (fun s : Int32 × GS => J mX2_holds F s.2 48 [(0, vR (some t)), (1, vI s.1)] [])) (fun s b e hk => wfbX2_holds_48 hd t s.1 s.2 e hk) (x1, G) _ h hk
def fX2_holds_46 (t : Nat)  (G : GS) : Option (GS) :=
  flX2_holds_48 t 0 G
theorem wfX2_holds_46 {F : zF} (hd : 1 ≤ F.2.2.2) (t : Nat)  (G : GS) {a : GS} (h : fX2_holds_46 t  G = some a) (hk : zKV F a) : J mX2_holds F G 46 [(0, vR (some t))] [] := by
  unfold fX2_holds_46 at h
  refine j_iconst (v := 0) dX2_holds_46 (by decide) ?_
  refine j_istore_n (lv' := [(1, vI 0), (0, vR (some t))]) dX2_holds_47 rfl (Nat.le_of_ble_eq_true rfl) rfl ?_
  exact J.sub (zall [1, 0] rfl) (wflX2_holds_48 hd t 0  G h hk)
def fbX2_holds_10 (t : Nat) (x1 : Int32)  (G : GS) : Option ((Int32 × GS) ⊕ (GS)) :=
  if 100 ≤ x1 then (zo (fX2_holds_46 t G)) else ((zgR G 2 t 3).bind fun r2 => (zgR G 2 t 0).bind fun r4 => r4.bind fun a6 => (zaI G 50 a6 x1).bind fun v8 => r2.bind fun a10 => (zsI G 50 a10 x1 v8).bind fun G12 => (zgR G12 2 t 4).bind fun r14 => (zgR G12 2 t 1).bind fun r16 => r16.bind fun a18 => (zaI G12 50 a18 x1).bind fun v20 => r14.bind fun a22 => (zsI G12 50 a22 x1 v20).bind fun G24 => some (.inl ((x1 + 1), G24)))
def flX2_holds_10 (t : Nat) (x1 : Int32) (G : GS) : Option (GS) := zloop (fun s : Int32 × GS => fbX2_holds_10 t s.1 s.2) (x1, G)
theorem wfbX2_holds_10 {F : zF} (hd : 1 ≤ F.2.2.2) (t : Nat) (x1 : Int32) (G : GS) {a : (Int32 × GS) ⊕ (GS)} (h : fbX2_holds_10 t x1 G = some a) (hk : (zcase (fun s : Int32 × GS => J mX2_holds F s.2 10 [(0, vR (some t)), (1, vI s.1)] []) (zKV F)) a) : J mX2_holds F G 10 [(0, vR (some t)), (1, vI x1)] [] := by
  unfold fbX2_holds_10 at h
  refine j_iload_n (j := 1) dX2_holds_10 rfl rfl ?_
  refine j_bipush (v := 100) dX2_holds_11 (by decide) ?_
  refine j_icmp_ge (tgt := 46) dX2_holds_13 (by decide) (fun c1 => ?_) (fun c1 => ?_)
  · rw [if_pos c1] at h
    replace h := zoE h
    obtain ⟨a, h, rfl⟩ := h
    replace hk := hk
    exact J.sub (zall [0] rfl) (wfX2_holds_46 hd t  G h hk)
  · rw [if_neg c1] at h
    refine j_aload_n (j := 0) dX2_holds_16 rfl rfl ?_
    replace h := zbE h
    obtain ⟨r2, e3, h⟩ := h
    refine j_getR fgX2_19 (fun _ _ _ => rfl) dX2_holds_17 e3 ?_
    refine j_iload_n (j := 1) dX2_holds_20 rfl rfl ?_
    refine j_aload_n (j := 0) dX2_holds_21 rfl rfl ?_
    replace h := zbE h
    obtain ⟨r4, e5, h⟩ := h
    refine j_getR fgX2_7 (fun _ _ _ => rfl) dX2_holds_22 e5 ?_
    refine j_iload_n (j := 1) dX2_holds_25 rfl rfl ?_
    replace h := zbE h
    obtain ⟨a6, e7, h⟩ := h
    subst e7
    replace h := zbE h
    obtain ⟨v8, e9, h⟩ := h
    refine j_iald (Or.inl rfl) e9 dX2_holds_26 ?_
    replace h := zbE h
    obtain ⟨a10, e11, h⟩ := h
    subst e11
    replace h := zbE h
    obtain ⟨G12, e13, h⟩ := h
    refine j_iast e13 dX2_holds_27 ?_
    refine j_aload_n (j := 0) dX2_holds_28 rfl rfl ?_
    replace h := zbE h
    obtain ⟨r14, e15, h⟩ := h
    refine j_getR fgX2_22 (fun _ _ _ => rfl) dX2_holds_29 e15 ?_
    refine j_iload_n (j := 1) dX2_holds_32 rfl rfl ?_
    refine j_aload_n (j := 0) dX2_holds_33 rfl rfl ?_
    replace h := zbE h
    obtain ⟨r16, e17, h⟩ := h
    refine j_getR fgX2_13 (fun _ _ _ => rfl) dX2_holds_34 e17 ?_
    refine j_iload_n (j := 1) dX2_holds_37 rfl rfl ?_
    replace h := zbE h
    obtain ⟨a18, e19, h⟩ := h
    subst e19
    replace h := zbE h
    obtain ⟨v20, e21, h⟩ := h
    refine j_iald (Or.inl rfl) e21 dX2_holds_38 ?_
    replace h := zbE h
    obtain ⟨a22, e23, h⟩ := h
    subst e23
    replace h := zbE h
    obtain ⟨G24, e25, h⟩ := h
    refine j_iast e25 dX2_holds_39 ?_
    refine j_iinc (j := 1) (v := (x1 + 1)) (lv' := [(1, vI (x1 + 1)), (0, vR (some t))]) dX2_holds_40 rfl rfl (Nat.le_of_ble_eq_true rfl) rfl ?_
    refine j_goto (tgt := 10) dX2_holds_43 (by decide) ?_
    obtain rfl := Option.some.inj h
    exact J.sub (zall [1, 0] rfl) hk
theorem wflX2_holds_10 {F : zF} (hd : 1 ≤ F.2.2.2) (t : Nat) (x1 : Int32) (G : GS) {a : GS} (h : flX2_holds_10 t x1 G = some a) (hk : zKV F a) : J mX2_holds F G 10 [(0, vR (some t)), (1, vI x1)] [] := by
  unfold flX2_holds_10 at h
  exact zloop_walk (P := (fun s : Int32 × GS => J mX2_holds F s.2 10 [(0, vR (some t)), (1, vI s.1)] [])) (fun s b e hk => wfbX2_holds_10 hd t s.1 s.2 e hk) (x1, G) _ h hk
def fX2_holds_0 (t : Nat)  (G : GS) : Option (GS) :=
  (zgI G 2 t 6).bind fun v1 => (zpI G 2 t 7 v1).bind fun G3 => flX2_holds_10 t 0 G3
theorem wfX2_holds_0 {F : zF} (hd : 1 ≤ F.2.2.2) (t : Nat)  (G : GS) {a : GS} (h : fX2_holds_0 t  G = some a) (hk : zKV F a) : J mX2_holds F G 0 [(0, vR (some t))] [] := by
  unfold fX2_holds_0 at h
  refine j_aload_n (j := 0) dX2_holds_0 rfl rfl ?_
  refine j_aload_n (j := 0) dX2_holds_1 rfl rfl ?_
  replace h := zbE h
  obtain ⟨v1, e2, h⟩ := h
  refine j_getI fgX2_113 (fun _ _ _ => rfl) dX2_holds_2 e2 ?_
  replace h := zbE h
  obtain ⟨G3, e4, h⟩ := h
  refine j_putI fpX2_124_X2 (Or.inl rfl) rfl dX2_holds_5 e4 ?_
  refine j_iconst (v := 0) dX2_holds_8 (by decide) ?_
  refine j_istore_n (lv' := [(1, vI 0), (0, vR (some t))]) dX2_holds_9 rfl (Nat.le_of_ble_eq_true rfl) rfl ?_
  exact J.sub (zall [1, 0] rfl) (wflX2_holds_10 hd t 0  G3 h hk)
theorem yX2_holds_ok {t : Nat} {G : GS} {G1 : GS} (h : fX2_holds_0 t G = some G1) : zRuns yX2_holds (ws_ yX2_holds cX2_holds 2 none) [vR (some t)] (.inl none, G, G1, 1) :=
  zentry (M := mX2_holds) (plainFor_of_name (by decide +kernel)) ⟨rfl, rfl, rfl, rfl⟩ (Nat.le_of_ble_eq_true rfl) (wfX2_holds_0 (Nat.le_refl _) t G h ⟨rfl, rfl⟩)
abbrev mX2_isAlike : zM := (cX2_isAlike, RX2, 3, (some Jvm.ClassFile.FieldType.boolean), "isAlike", [], "(II)Z")
def fX2_isAlike_52   (G : GS) : Option (Int32) :=
  zcond (zbb 0) (some 0)
theorem wfX2_isAlike_52 {F : zF} (hd : 2 ≤ F.2.2.2)   (G : GS) {a : Int32} (h : fX2_isAlike_52   G = some a) (hk : zKPI F G a) : J mX2_isAlike F G 52 [] [] := by
  unfold fX2_isAlike_52 at h
  refine j_iconst (v := 0) dX2_isAlike_52 (by decide) ?_
  replace h := zcondE h
  obtain ⟨e1, h⟩ := h
  obtain rfl := Option.some.inj h
  exact j_zret hk.1 hk.2 rfl (zbb_n e1) dX2_isAlike_53
def fX2_isAlike_0 (t : Nat) (x1 : Int32) (x2 : Int32)  (G : GS) : Option (Int32) :=
  (zgR G 2 t 0).bind fun r1 => r1.bind fun a3 => (zaI G 50 a3 x1).bind fun v5 => (zgR G 2 t 0).bind fun r7 => r7.bind fun a9 => (zaI G 50 a9 x2).bind fun v11 => if v5 = v11 then ((zgR G 2 t 1).bind fun r14 => r14.bind fun a16 => (zaI G 50 a16 x1).bind fun v18 => if v18 ≤ 0 then (fX2_isAlike_52 G) else ((zgR G 2 t 1).bind fun r21 => r21.bind fun a23 => (zaI G 50 a23 x2).bind fun v25 => if v25 ≤ 0 then (fX2_isAlike_52 G) else (zk [2] G t <| (fX2_at_0 t x1 0 G).bind fun v30 => zk [2] G t <| (fX2_at_0 t x2 0 G).bind fun v33 => if v30 = v33 then (zcond (zbb 1) (some 1)) else (fX2_isAlike_52 G)))) else (fX2_isAlike_52 G)
theorem wfX2_isAlike_0 {F : zF} (hd : 2 ≤ F.2.2.2) (t : Nat) (x1 : Int32) (x2 : Int32)  (G : GS) {a : Int32} (h : fX2_isAlike_0 t x1 x2  G = some a) (hk : zKPI F G a) : J mX2_isAlike F G 0 [(0, vR (some t)), (1, vI x1), (2, vI x2)] [] := by
  unfold fX2_isAlike_0 at h
  refine j_aload_n (j := 0) dX2_isAlike_0 rfl rfl ?_
  replace h := zbE h
  obtain ⟨r1, e2, h⟩ := h
  refine j_getR fgX2_7 (fun _ _ _ => rfl) dX2_isAlike_1 e2 ?_
  refine j_iload_n (j := 1) dX2_isAlike_4 rfl rfl ?_
  replace h := zbE h
  obtain ⟨a3, e4, h⟩ := h
  subst e4
  replace h := zbE h
  obtain ⟨v5, e6, h⟩ := h
  refine j_iald (Or.inl rfl) e6 dX2_isAlike_5 ?_
  refine j_aload_n (j := 0) dX2_isAlike_6 rfl rfl ?_
  replace h := zbE h
  obtain ⟨r7, e8, h⟩ := h
  refine j_getR fgX2_7 (fun _ _ _ => rfl) dX2_isAlike_7 e8 ?_
  refine j_iload_n (j := 2) dX2_isAlike_10 rfl rfl ?_
  replace h := zbE h
  obtain ⟨a9, e10, h⟩ := h
  subst e10
  replace h := zbE h
  obtain ⟨v11, e12, h⟩ := h
  refine j_iald (Or.inl rfl) e12 dX2_isAlike_11 ?_
  refine j_icmp_ne (tgt := 52) dX2_isAlike_12 (by decide) (fun c13 => ?_) (fun c13 => ?_)
  · rw [if_pos c13] at h
    refine j_aload_n (j := 0) dX2_isAlike_15 rfl rfl ?_
    replace h := zbE h
    obtain ⟨r14, e15, h⟩ := h
    refine j_getR fgX2_13 (fun _ _ _ => rfl) dX2_isAlike_16 e15 ?_
    refine j_iload_n (j := 1) dX2_isAlike_19 rfl rfl ?_
    replace h := zbE h
    obtain ⟨a16, e17, h⟩ := h
    subst e17
    replace h := zbE h
    obtain ⟨v18, e19, h⟩ := h
    refine j_iald (Or.inl rfl) e19 dX2_isAlike_20 ?_
    refine j_if_le (tgt := 52) dX2_isAlike_21 (by decide) (fun c20 => ?_) (fun c20 => ?_)
    · rw [if_pos c20] at h
      exact J.sub (zall [] rfl) (wfX2_isAlike_52 hd   G h hk)
    · rw [if_neg c20] at h
      refine j_aload_n (j := 0) dX2_isAlike_24 rfl rfl ?_
      replace h := zbE h
      obtain ⟨r21, e22, h⟩ := h
      refine j_getR fgX2_13 (fun _ _ _ => rfl) dX2_isAlike_25 e22 ?_
      refine j_iload_n (j := 2) dX2_isAlike_28 rfl rfl ?_
      replace h := zbE h
      obtain ⟨a23, e24, h⟩ := h
      subst e24
      replace h := zbE h
      obtain ⟨v25, e26, h⟩ := h
      refine j_iald (Or.inl rfl) e26 dX2_isAlike_29 ?_
      refine j_if_le (tgt := 52) dX2_isAlike_30 (by decide) (fun c27 => ?_) (fun c27 => ?_)
      · rw [if_pos c27] at h
        exact J.sub (zall [] rfl) (wfX2_isAlike_52 hd   G h hk)
      · rw [if_neg c27] at h
        refine j_aload_n (j := 0) dX2_isAlike_33 rfl rfl ?_
        refine j_iload_n (j := 1) dX2_isAlike_34 rfl rfl ?_
        refine j_iconst (v := 0) dX2_isAlike_35 (by decide) ?_
        replace h := zkE h
        obtain ⟨e28, h⟩ := h
        replace h := zbE h
        obtain ⟨v30, e29, h⟩ := h
        refine j_cont (zrV (As := [vI x1, vI 0]) msX2_187 (yX2_at_ok e29) (Nat.le_trans (Nat.le_of_ble_eq_true rfl) hd) (zk_2 _ e28) rfl rfl (Nat.le_of_ble_eq_true rfl) dX2_isAlike_36) ?_
        refine j_aload_n (j := 0) dX2_isAlike_39 rfl rfl ?_
        refine j_iload_n (j := 2) dX2_isAlike_40 rfl rfl ?_
        refine j_iconst (v := 0) dX2_isAlike_41 (by decide) ?_
        replace h := zkE h
        obtain ⟨e31, h⟩ := h
        replace h := zbE h
        obtain ⟨v33, e32, h⟩ := h
        refine j_cont (zrV (As := [vI x2, vI 0]) msX2_187 (yX2_at_ok e32) (Nat.le_trans (Nat.le_of_ble_eq_true rfl) hd) (zk_2 _ e31) rfl rfl (Nat.le_of_ble_eq_true rfl) dX2_isAlike_42) ?_
        refine j_icmp_ne (tgt := 52) dX2_isAlike_45 (by decide) (fun c34 => ?_) (fun c34 => ?_)
        · rw [if_pos c34] at h
          refine j_iconst (v := 1) dX2_isAlike_48 (by decide) ?_
          refine j_goto (tgt := 53) dX2_isAlike_49 (by decide) ?_
          replace h := zcondE h
          obtain ⟨e35, h⟩ := h
          obtain rfl := Option.some.inj h
          exact j_zret hk.1 hk.2 rfl (zbb_n e35) dX2_isAlike_53
        · rw [if_neg c34] at h
          exact J.sub (zall [] rfl) (wfX2_isAlike_52 hd   G h hk)
  · rw [if_neg c13] at h
    exact J.sub (zall [] rfl) (wfX2_isAlike_52 hd   G h hk)
theorem yX2_isAlike_ok {t : Nat} {x1 : Int32} {x2 : Int32} {G : GS} {r : Int32} (h : fX2_isAlike_0 t x1 x2 G = some r) : zRuns yX2_isAlike (ws_ yX2_isAlike cX2_isAlike 3 (some Jvm.ClassFile.FieldType.boolean)) [vR (some t), vI x1, vI x2] (.inl (some (vI r)), G, G, 2) :=
  zentry (M := mX2_isAlike) (plainFor_of_name (by decide +kernel)) ⟨rfl, rfl, rfl, rfl⟩ (Nat.le_of_ble_eq_true rfl) (wfX2_isAlike_0 (Nat.le_refl _) t x1 x2 G h ⟨rfl, rfl⟩)
theorem msX2_321 : zSV RX2 321 RX2 yX2_isAlike cX2_isAlike 3 (some Jvm.ClassFile.FieldType.boolean) 2 := ⟨lw_V q3129 q3131 qs108 q131 q3132, (by decide +kernel), (by decide)⟩
abbrev mX2_isShared : zM := (cX2_isShared, RX2, 3, (some Jvm.ClassFile.FieldType.boolean), "isShared", [], "(I)Z")
def fX2_isShared_26 (t : Nat) (x1 : Int32) (x2 : Int32)  (G : GS) : Option ((Int32) ⊕ (Int32)) :=
  some (.inl ((x2 + 1)))
theorem wfX2_isShared_26 {F : zF} (hd : 3 ≤ F.2.2.2) (t : Nat) (x1 : Int32) (x2 : Int32)  (G : GS) {a : (Int32) ⊕ (Int32)} (h : fX2_isShared_26 t x1 x2  G = some a) (hk : (zcase (fun s : Int32 => J mX2_isShared F G 2 [(0, vR (some t)), (1, vI x1), (2, vI s)] []) (zKPI F G)) a) : J mX2_isShared F G 26 [(0, vR (some t)), (1, vI x1), (2, vI x2)] [] := by
  unfold fX2_isShared_26 at h
  refine j_iinc (j := 2) (v := (x2 + 1)) (lv' := [(2, vI (x2 + 1)), (0, vR (some t)), (1, vI x1)]) dX2_isShared_26 rfl rfl (Nat.le_of_ble_eq_true rfl) rfl ?_
  refine j_goto (tgt := 2) dX2_isShared_29 (by decide) ?_
  obtain rfl := Option.some.inj h
  exact J.sub (zall [1, 2, 0] rfl) hk
def fbX2_isShared_2 (t : Nat) (x1 : Int32) (x2 : Int32)  (G : GS) : Option ((Int32) ⊕ (Int32)) :=
  (zgI G 2 t 6).bind fun v1 => if v1 ≤ x2 then (zo (zcond (zbb 0) (some 0))) else (if x2 = x1 then (fX2_isShared_26 t x1 x2 G) else (zk [2] G t <| (fX2_isAlike_0 t x2 x1 G).bind fun v8 => if v8 = 0 then (fX2_isShared_26 t x1 x2 G) else (zo (zcond (zbb 1) (some 1)))))
def flX2_isShared_2 (t : Nat) (x1 : Int32) (x2 : Int32) (G : GS) : Option (Int32) := zloop (fun s : Int32 => fbX2_isShared_2 t x1 s G) (x2)
theorem wfbX2_isShared_2 {F : zF} (hd : 3 ≤ F.2.2.2) (t : Nat) (x1 : Int32) (x2 : Int32) (G : GS) {a : (Int32) ⊕ (Int32)} (h : fbX2_isShared_2 t x1 x2 G = some a) (hk : (zcase (fun s : Int32 => J mX2_isShared F G 2 [(0, vR (some t)), (1, vI x1), (2, vI s)] []) (zKPI F G)) a) : J mX2_isShared F G 2 [(0, vR (some t)), (1, vI x1), (2, vI x2)] [] := by
  unfold fbX2_isShared_2 at h
  refine j_iload_n (j := 2) dX2_isShared_2 rfl rfl ?_
  refine j_aload_n (j := 0) dX2_isShared_3 rfl rfl ?_
  replace h := zbE h
  obtain ⟨v1, e2, h⟩ := h
  refine j_getI fgX2_113 (fun _ _ _ => rfl) dX2_isShared_4 e2 ?_
  refine j_icmp_ge (tgt := 32) dX2_isShared_7 (by decide) (fun c3 => ?_) (fun c3 => ?_)
  · rw [if_pos c3] at h
    replace h := zoE h
    obtain ⟨a, h, rfl⟩ := h
    replace hk := hk
    refine j_iconst (v := 0) dX2_isShared_32 (by decide) ?_
    replace h := zcondE h
    obtain ⟨e4, h⟩ := h
    obtain rfl := Option.some.inj h
    exact j_zret hk.1 hk.2 rfl (zbb_n e4) dX2_isShared_33
  · rw [if_neg c3] at h
    refine j_iload_n (j := 2) dX2_isShared_10 rfl rfl ?_
    refine j_iload_n (j := 1) dX2_isShared_11 rfl rfl ?_
    refine j_icmp_eq (tgt := 26) dX2_isShared_12 (by decide) (fun c5 => ?_) (fun c5 => ?_)
    · rw [if_pos c5] at h
      exact J.sub (zall [0, 1, 2] rfl) (wfX2_isShared_26 hd t x1 x2  G h hk)
    · rw [if_neg c5] at h
      refine j_aload_n (j := 0) dX2_isShared_15 rfl rfl ?_
      refine j_iload_n (j := 2) dX2_isShared_16 rfl rfl ?_
      refine j_iload_n (j := 1) dX2_isShared_17 rfl rfl ?_
      replace h := zkE h
      obtain ⟨e6, h⟩ := h
      replace h := zbE h
      obtain ⟨v8, e7, h⟩ := h
      refine j_cont (zrV (As := [vI x2, vI x1]) msX2_321 (yX2_isAlike_ok e7) (Nat.le_trans (Nat.le_of_ble_eq_true rfl) hd) (zk_2 _ e6) rfl rfl (Nat.le_of_ble_eq_true rfl) dX2_isShared_18) ?_
      refine j_if_eq (tgt := 26) dX2_isShared_21 (by decide) (fun c9 => ?_) (fun c9 => ?_)
      · rw [if_pos c9] at h
        exact J.sub (zall [0, 1, 2] rfl) (wfX2_isShared_26 hd t x1 x2  G h hk)
      · rw [if_neg c9] at h
        replace h := zoE h
        obtain ⟨a, h, rfl⟩ := h
        replace hk := hk
        refine j_iconst (v := 1) dX2_isShared_24 (by decide) ?_
        replace h := zcondE h
        obtain ⟨e10, h⟩ := h
        obtain rfl := Option.some.inj h
        exact j_zret hk.1 hk.2 rfl (zbb_n e10) dX2_isShared_25
theorem wflX2_isShared_2 {F : zF} (hd : 3 ≤ F.2.2.2) (t : Nat) (x1 : Int32) (x2 : Int32) (G : GS) {a : Int32} (h : flX2_isShared_2 t x1 x2 G = some a) (hk : zKPI F G a) : J mX2_isShared F G 2 [(0, vR (some t)), (1, vI x1), (2, vI x2)] [] := by
  unfold flX2_isShared_2 at h
  exact zloop_walk (P := (fun s : Int32 => J mX2_isShared F G 2 [(0, vR (some t)), (1, vI x1), (2, vI s)] [])) (fun s b e hk => wfbX2_isShared_2 hd t x1 s G e hk) (x2) _ h hk
def fX2_isShared_0 (t : Nat) (x1 : Int32)  (G : GS) : Option (Int32) :=
  flX2_isShared_2 t x1 0 G
theorem wfX2_isShared_0 {F : zF} (hd : 3 ≤ F.2.2.2) (t : Nat) (x1 : Int32)  (G : GS) {a : Int32} (h : fX2_isShared_0 t x1  G = some a) (hk : zKPI F G a) : J mX2_isShared F G 0 [(0, vR (some t)), (1, vI x1)] [] := by
  unfold fX2_isShared_0 at h
  refine j_iconst (v := 0) dX2_isShared_0 (by decide) ?_
  refine j_istore_n (lv' := [(2, vI 0), (0, vR (some t)), (1, vI x1)]) dX2_isShared_1 rfl (Nat.le_of_ble_eq_true rfl) rfl ?_
  exact J.sub (zall [1, 2, 0] rfl) (wflX2_isShared_2 hd t x1 0  G h hk)
theorem yX2_isShared_ok {t : Nat} {x1 : Int32} {G : GS} {r : Int32} (h : fX2_isShared_0 t x1 G = some r) : zRuns yX2_isShared (ws_ yX2_isShared cX2_isShared 3 (some Jvm.ClassFile.FieldType.boolean)) [vR (some t), vI x1] (.inl (some (vI r)), G, G, 3) :=
  zentry (M := mX2_isShared) (plainFor_of_name (by decide +kernel)) ⟨rfl, rfl, rfl, rfl⟩ (Nat.le_of_ble_eq_true rfl) (wfX2_isShared_0 (Nat.le_refl _) t x1 G h ⟨rfl, rfl⟩)
theorem msX2_324 : zSV RX2 324 RX2 yX2_isShared cX2_isShared 3 (some Jvm.ClassFile.FieldType.boolean) 1 := ⟨lw_V q3125 q3127 qs107 q131 q3128, (by decide +kernel), (by decide)⟩
abbrev mX2_groupHead : zM := (cX2_groupHead, RX2, 3, (some Jvm.ClassFile.FieldType.int), "groupHead", [], "()I")
def fX2_groupHead_42 (t : Nat) (x1 : Int32) (x2 : Int32)  (G : GS) : Option ((Int32 × Int32) ⊕ (Int32)) :=
  some (.inl (x1, (x2 + 1)))
theorem wfX2_groupHead_42 {F : zF} (hd : 4 ≤ F.2.2.2) (t : Nat) (x1 : Int32) (x2 : Int32)  (G : GS) {a : (Int32 × Int32) ⊕ (Int32)} (h : fX2_groupHead_42 t x1 x2  G = some a) (hk : (zcase (fun s : Int32 × Int32 => J mX2_groupHead F G 4 [(0, vR (some t)), (1, vI s.1), (2, vI s.2)] []) (zKPI F G)) a) : J mX2_groupHead F G 42 [(0, vR (some t)), (1, vI x1), (2, vI x2)] [] := by
  unfold fX2_groupHead_42 at h
  refine j_iinc (j := 2) (v := (x2 + 1)) (lv' := [(2, vI (x2 + 1)), (0, vR (some t)), (1, vI x1)]) dX2_groupHead_42 rfl rfl (Nat.le_of_ble_eq_true rfl) rfl ?_
  refine j_goto (tgt := 4) dX2_groupHead_45 (by decide) ?_
  obtain rfl := Option.some.inj h
  exact J.sub (zall [1, 2, 0] rfl) hk
def fX2_groupHead_40 (t : Nat) (x2 : Int32)  (G : GS) : Option ((Int32 × Int32) ⊕ (Int32)) :=
  fX2_groupHead_42 t x2 x2 G
theorem wfX2_groupHead_40 {F : zF} (hd : 4 ≤ F.2.2.2) (t : Nat) (x2 : Int32)  (G : GS) {a : (Int32 × Int32) ⊕ (Int32)} (h : fX2_groupHead_40 t x2  G = some a) (hk : (zcase (fun s : Int32 × Int32 => J mX2_groupHead F G 4 [(0, vR (some t)), (1, vI s.1), (2, vI s.2)] []) (zKPI F G)) a) : J mX2_groupHead F G 40 [(0, vR (some t)), (2, vI x2)] [] := by
  unfold fX2_groupHead_40 at h
  refine j_iload_n (j := 1) dX2_groupHead_40 rfl rfl ?_
  refine j_istore_n (lv' := [(1, vI x2), (0, vR (some t)), (2, vI x2)]) dX2_groupHead_41 rfl (Nat.le_of_ble_eq_true rfl) rfl ?_
  exact J.sub (zall [1, 0, 2] rfl) (wfX2_groupHead_42 hd t x2 x2  G h hk)
def fbX2_groupHead_4 (t : Nat) (x1 : Int32) (x2 : Int32)  (G : GS) : Option ((Int32 × Int32) ⊕ (Int32)) :=
  (zgI G 2 t 6).bind fun v1 => if v1 ≤ x2 then (zo (some x1)) else (zk [2] G t <| (fX2_isShared_0 t x2 G).bind fun v6 => if v6 = 0 then (fX2_groupHead_42 t x1 x2 G) else (if x1 = (-1) then (fX2_groupHead_40 t x2 G) else ((zgR G 2 t 0).bind fun r9 => r9.bind fun a11 => (zaI G 50 a11 x2).bind fun v13 => (zgR G 2 t 0).bind fun r15 => r15.bind fun a17 => (zaI G 50 a17 x1).bind fun v19 => if v19 ≤ v13 then (fX2_groupHead_42 t x1 x2 G) else (fX2_groupHead_40 t x2 G))))
def flX2_groupHead_4 (t : Nat) (x1 : Int32) (x2 : Int32) (G : GS) : Option (Int32) := zloop (fun s : Int32 × Int32 => fbX2_groupHead_4 t s.1 s.2 G) (x1, x2)
theorem wfbX2_groupHead_4 {F : zF} (hd : 4 ≤ F.2.2.2) (t : Nat) (x1 : Int32) (x2 : Int32) (G : GS) {a : (Int32 × Int32) ⊕ (Int32)} (h : fbX2_groupHead_4 t x1 x2 G = some a) (hk : (zcase (fun s : Int32 × Int32 => J mX2_groupHead F G 4 [(0, vR (some t)), (1, vI s.1), (2, vI s.2)] []) (zKPI F G)) a) : J mX2_groupHead F G 4 [(0, vR (some t)), (1, vI x1), (2, vI x2)] [] := by
  unfold fbX2_groupHead_4 at h
  refine j_iload_n (j := 2) dX2_groupHead_4 rfl rfl ?_
  refine j_aload_n (j := 0) dX2_groupHead_5 rfl rfl ?_
  replace h := zbE h
  obtain ⟨v1, e2, h⟩ := h
  refine j_getI fgX2_113 (fun _ _ _ => rfl) dX2_groupHead_6 e2 ?_
  refine j_icmp_ge (tgt := 48) dX2_groupHead_9 (by decide) (fun c3 => ?_) (fun c3 => ?_)
  · rw [if_pos c3] at h
    replace h := zoE h
    obtain ⟨a, h, rfl⟩ := h
    replace hk := hk
    refine j_iload_n (j := 1) dX2_groupHead_48 rfl rfl ?_
    obtain rfl := Option.some.inj h
    exact j_iret hk.1 hk.2 rfl dX2_groupHead_49
  · rw [if_neg c3] at h
    refine j_aload_n (j := 0) dX2_groupHead_12 rfl rfl ?_
    refine j_iload_n (j := 2) dX2_groupHead_13 rfl rfl ?_
    replace h := zkE h
    obtain ⟨e4, h⟩ := h
    replace h := zbE h
    obtain ⟨v6, e5, h⟩ := h
    refine j_cont (zrV (As := [vI x2]) msX2_324 (yX2_isShared_ok e5) (Nat.le_trans (Nat.le_of_ble_eq_true rfl) hd) (zk_2 _ e4) rfl rfl (Nat.le_of_ble_eq_true rfl) dX2_groupHead_14) ?_
    refine j_if_eq (tgt := 42) dX2_groupHead_17 (by decide) (fun c7 => ?_) (fun c7 => ?_)
    · rw [if_pos c7] at h
      exact J.sub (zall [0, 1, 2] rfl) (wfX2_groupHead_42 hd t x1 x2  G h hk)
    · rw [if_neg c7] at h
      refine j_iload_n (j := 1) dX2_groupHead_20 rfl rfl ?_
      refine j_iconst (v := (-1)) dX2_groupHead_21 (by decide) ?_
      refine j_icmp_eq (tgt := 40) dX2_groupHead_22 (by decide) (fun c8 => ?_) (fun c8 => ?_)
      · rw [if_pos c8] at h
        exact J.sub (zall [0, 2] rfl) (wfX2_groupHead_40 hd t x2  G h hk)
      · rw [if_neg c8] at h
        refine j_aload_n (j := 0) dX2_groupHead_25 rfl rfl ?_
        replace h := zbE h
        obtain ⟨r9, e10, h⟩ := h
        refine j_getR fgX2_7 (fun _ _ _ => rfl) dX2_groupHead_26 e10 ?_
        refine j_iload_n (j := 2) dX2_groupHead_29 rfl rfl ?_
        replace h := zbE h
        obtain ⟨a11, e12, h⟩ := h
        subst e12
        replace h := zbE h
        obtain ⟨v13, e14, h⟩ := h
        refine j_iald (Or.inl rfl) e14 dX2_groupHead_30 ?_
        refine j_aload_n (j := 0) dX2_groupHead_31 rfl rfl ?_
        replace h := zbE h
        obtain ⟨r15, e16, h⟩ := h
        refine j_getR fgX2_7 (fun _ _ _ => rfl) dX2_groupHead_32 e16 ?_
        refine j_iload_n (j := 1) dX2_groupHead_35 rfl rfl ?_
        replace h := zbE h
        obtain ⟨a17, e18, h⟩ := h
        subst e18
        replace h := zbE h
        obtain ⟨v19, e20, h⟩ := h
        refine j_iald (Or.inl rfl) e20 dX2_groupHead_36 ?_
        refine j_icmp_ge (tgt := 42) dX2_groupHead_37 (by decide) (fun c21 => ?_) (fun c21 => ?_)
        · rw [if_pos c21] at h
          exact J.sub (zall [0, 1, 2] rfl) (wfX2_groupHead_42 hd t x1 x2  G h hk)
        · rw [if_neg c21] at h
          exact J.sub (zall [0, 2] rfl) (wfX2_groupHead_40 hd t x2  G h hk)
theorem wflX2_groupHead_4 {F : zF} (hd : 4 ≤ F.2.2.2) (t : Nat) (x1 : Int32) (x2 : Int32) (G : GS) {a : Int32} (h : flX2_groupHead_4 t x1 x2 G = some a) (hk : zKPI F G a) : J mX2_groupHead F G 4 [(0, vR (some t)), (1, vI x1), (2, vI x2)] [] := by
  unfold flX2_groupHead_4 at h
  exact zloop_walk (P := (fun s : Int32 × Int32 => J mX2_groupHead F G 4 [(0, vR (some t)), (1, vI s.1), (2, vI s.2)] [])) (fun s b e hk => wfbX2_groupHead_4 hd t s.1 s.2 G e hk) (x1, x2) _ h hk
def fX2_groupHead_0 (t : Nat)  (G : GS) : Option (Int32) :=
  flX2_groupHead_4 t (-1) 0 G
theorem wfX2_groupHead_0 {F : zF} (hd : 4 ≤ F.2.2.2) (t : Nat)  (G : GS) {a : Int32} (h : fX2_groupHead_0 t  G = some a) (hk : zKPI F G a) : J mX2_groupHead F G 0 [(0, vR (some t))] [] := by
  unfold fX2_groupHead_0 at h
  refine j_iconst (v := (-1)) dX2_groupHead_0 (by decide) ?_
  refine j_istore_n (lv' := [(1, vI (-1)), (0, vR (some t))]) dX2_groupHead_1 rfl (Nat.le_of_ble_eq_true rfl) rfl ?_
  refine j_iconst (v := 0) dX2_groupHead_2 (by decide) ?_
  refine j_istore_n (lv' := [(2, vI 0), (1, vI (-1)), (0, vR (some t))]) dX2_groupHead_3 rfl (Nat.le_of_ble_eq_true rfl) rfl ?_
  exact J.sub (zall [2, 1, 0] rfl) (wflX2_groupHead_4 hd t (-1) 0  G h hk)
theorem yX2_groupHead_ok {t : Nat} {G : GS} {r : Int32} (h : fX2_groupHead_0 t G = some r) : zRuns yX2_groupHead (ws_ yX2_groupHead cX2_groupHead 3 (some Jvm.ClassFile.FieldType.int)) [vR (some t)] (.inl (some (vI r)), G, G, 4) :=
  zentry (M := mX2_groupHead) (plainFor_of_name (by decide +kernel)) ⟨rfl, rfl, rfl, rfl⟩ (Nat.le_of_ble_eq_true rfl) (wfX2_groupHead_0 (Nat.le_refl _) t G h ⟨rfl, rfl⟩)
abbrev mX2_used : zM := (cX2_used, RX2, 4, (some Jvm.ClassFile.FieldType.int), "used", [], "()I")
def fX2_used_74 (t : Nat) (x1 : Int32) (x2 : Int32)  (G : GS) : Option ((Int32 × Int32) ⊕ (Int32)) :=
  some (.inl (x1, (x2 + 1)))
theorem wfX2_used_74 {F : zF} (hd : 3 ≤ F.2.2.2) (t : Nat) (x1 : Int32) (x2 : Int32)  (G : GS) {a : (Int32 × Int32) ⊕ (Int32)} (h : fX2_used_74 t x1 x2  G = some a) (hk : (zcase (fun s : Int32 × Int32 => J mX2_used F G 4 [(0, vR (some t)), (1, vI s.1), (2, vI s.2)] []) (zKPI F G)) a) : J mX2_used F G 74 [(0, vR (some t)), (1, vI x1), (2, vI x2)] [] := by
  unfold fX2_used_74 at h
  refine j_iinc (j := 2) (v := (x2 + 1)) (lv' := [(2, vI (x2 + 1)), (0, vR (some t)), (1, vI x1)]) dX2_used_74 rfl rfl (Nat.le_of_ble_eq_true rfl) rfl ?_
  refine j_goto (tgt := 4) dX2_used_77 (by decide) ?_
  obtain rfl := Option.some.inj h
  exact J.sub (zall [1, 2, 0] rfl) hk
def fX2_used_66 (t : Nat) (x2 : Int32) (x3 : Int32) (s0 : Int32) (s1 : Int32) (G : GS) : Option ((Int32 × Int32) ⊕ ((Int32 × Int32) ⊕ (Int32))) :=
  some (.inl ((s0 ||| s1), (x3 + 1)))
theorem wfX2_used_66 {F : zF} (hd : 3 ≤ F.2.2.2) (t : Nat) (x2 : Int32) (x3 : Int32) (s0 : Int32) (s1 : Int32) (G : GS) {a : (Int32 × Int32) ⊕ ((Int32 × Int32) ⊕ (Int32))} (h : fX2_used_66 t x2 x3 s0 s1 G = some a) (hk : (zcase (fun s : Int32 × Int32 => J mX2_used F G 28 [(0, vR (some t)), (1, vI s.1), (2, vI x2), (3, vI s.2)] []) ((zcase (fun s : Int32 × Int32 => J mX2_used F G 4 [(0, vR (some t)), (1, vI s.1), (2, vI s.2)] []) (zKPI F G)))) a) : J mX2_used F G 66 [(0, vR (some t)), (2, vI x2), (3, vI x3)] [vI s1, vI s0] := by
  unfold fX2_used_66 at h
  refine j_ior dX2_used_66 ?_
  refine j_istore_n (lv' := [(1, vI (s0 ||| s1)), (0, vR (some t)), (2, vI x2), (3, vI x3)]) dX2_used_67 rfl (Nat.le_of_ble_eq_true rfl) rfl ?_
  refine j_iinc (j := 3) (v := (x3 + 1)) (lv' := [(3, vI (x3 + 1)), (1, vI (s0 ||| s1)), (0, vR (some t)), (2, vI x2)]) dX2_used_68 rfl rfl (Nat.le_of_ble_eq_true rfl) rfl ?_
  refine j_goto (tgt := 28) dX2_used_71 (by decide) ?_
  obtain rfl := Option.some.inj h
  exact J.sub (zall [2, 1, 3, 0] rfl) hk
def fbX2_used_28 (t : Nat) (x1 : Int32) (x2 : Int32) (x3 : Int32)  (G : GS) : Option ((Int32 × Int32) ⊕ ((Int32 × Int32) ⊕ (Int32))) :=
  (zgR G 2 t 1).bind fun r1 => r1.bind fun a3 => (zaI G 50 a3 x2).bind fun v5 => if v5 ≤ x3 then (zo (fX2_used_74 t x1 x2 G)) else (zk [2] G t <| (fX2_at_0 t x2 x3 G).bind fun v10 => (fX2_isNonterminal_0 v10 G).bind fun v12 => if v12 = 0 then (fX2_used_66 t x2 x3 x1 0 G) else (zk [2] G t <| (fX2_at_0 t x2 x3 G).bind fun v16 => fX2_used_66 t x2 x3 x1 ((1 : Int32) <<< ((v16 - 20) &&& 31)) G))
def flX2_used_28 (t : Nat) (x1 : Int32) (x2 : Int32) (x3 : Int32) (G : GS) : Option ((Int32 × Int32) ⊕ (Int32)) := zloop (fun s : Int32 × Int32 => fbX2_used_28 t s.1 x2 s.2 G) (x1, x3)
theorem wfbX2_used_28 {F : zF} (hd : 3 ≤ F.2.2.2) (t : Nat) (x1 : Int32) (x2 : Int32) (x3 : Int32) (G : GS) {a : (Int32 × Int32) ⊕ ((Int32 × Int32) ⊕ (Int32))} (h : fbX2_used_28 t x1 x2 x3 G = some a) (hk : (zcase (fun s : Int32 × Int32 => J mX2_used F G 28 [(0, vR (some t)), (1, vI s.1), (2, vI x2), (3, vI s.2)] []) ((zcase (fun s : Int32 × Int32 => J mX2_used F G 4 [(0, vR (some t)), (1, vI s.1), (2, vI s.2)] []) (zKPI F G)))) a) : J mX2_used F G 28 [(0, vR (some t)), (1, vI x1), (2, vI x2), (3, vI x3)] [] := by
  unfold fbX2_used_28 at h
  refine j_iload_n (j := 3) dX2_used_28 rfl rfl ?_
  refine j_aload_n (j := 0) dX2_used_29 rfl rfl ?_
  replace h := zbE h
  obtain ⟨r1, e2, h⟩ := h
  refine j_getR fgX2_13 (fun _ _ _ => rfl) dX2_used_30 e2 ?_
  refine j_iload_n (j := 2) dX2_used_33 rfl rfl ?_
  replace h := zbE h
  obtain ⟨a3, e4, h⟩ := h
  subst e4
  replace h := zbE h
  obtain ⟨v5, e6, h⟩ := h
  refine j_iald (Or.inl rfl) e6 dX2_used_34 ?_
  refine j_icmp_ge (tgt := 74) dX2_used_35 (by decide) (fun c7 => ?_) (fun c7 => ?_)
  · rw [if_pos c7] at h
    replace h := zoE h
    obtain ⟨a, h, rfl⟩ := h
    replace hk := hk
    exact J.sub (zall [0, 1, 2] rfl) (wfX2_used_74 hd t x1 x2  G h hk)
  · rw [if_neg c7] at h
    refine j_iload_n (j := 1) dX2_used_38 rfl rfl ?_
    refine j_aload_n (j := 0) dX2_used_39 rfl rfl ?_
    refine j_iload_n (j := 2) dX2_used_40 rfl rfl ?_
    refine j_iload_n (j := 3) dX2_used_41 rfl rfl ?_
    replace h := zkE h
    obtain ⟨e8, h⟩ := h
    replace h := zbE h
    obtain ⟨v10, e9, h⟩ := h
    refine j_cont (zrV (As := [vI x2, vI x3]) msX2_187 (yX2_at_ok e9) (Nat.le_trans (Nat.le_of_ble_eq_true rfl) hd) (zk_2 _ e8) rfl rfl (Nat.le_of_ble_eq_true rfl) dX2_used_42) ?_
    replace h := zbE h
    obtain ⟨v12, e11, h⟩ := h
    refine j_cont (zrS (As := [vI v10]) msX2_149 (yX2_isNonterminal_ok e11) (Nat.le_trans (Nat.le_of_ble_eq_true rfl) hd) rfl rfl (Nat.le_of_ble_eq_true rfl) dX2_used_45) ?_
    refine j_if_eq (tgt := 65) dX2_used_48 (by decide) (fun c13 => ?_) (fun c13 => ?_)
    · rw [if_pos c13] at h
      refine j_iconst (v := 0) dX2_used_65 (by decide) ?_
      exact J.sub (zall [0, 2, 3] rfl) (wfX2_used_66 hd t x2 x3 x1 0 G h hk)
    · rw [if_neg c13] at h
      refine j_iconst (v := 1) dX2_used_51 (by decide) ?_
      refine j_aload_n (j := 0) dX2_used_52 rfl rfl ?_
      refine j_iload_n (j := 2) dX2_used_53 rfl rfl ?_
      refine j_iload_n (j := 3) dX2_used_54 rfl rfl ?_
      replace h := zkE h
      obtain ⟨e14, h⟩ := h
      replace h := zbE h
      obtain ⟨v16, e15, h⟩ := h
      refine j_cont (zrV (As := [vI x2, vI x3]) msX2_187 (yX2_at_ok e15) (Nat.le_trans (Nat.le_of_ble_eq_true rfl) hd) (zk_2 _ e14) rfl rfl (Nat.le_of_ble_eq_true rfl) dX2_used_55) ?_
      refine j_bipush (v := 20) dX2_used_58 (by decide) ?_
      refine j_isub dX2_used_60 ?_
      refine j_ishl dX2_used_61 ?_
      refine j_goto (tgt := 66) dX2_used_62 (by decide) ?_
      exact J.sub (zall [0, 2, 3] rfl) (wfX2_used_66 hd t x2 x3 x1 ((1 : Int32) <<< ((v16 - 20) &&& 31)) G h hk)
theorem wflX2_used_28 {F : zF} (hd : 3 ≤ F.2.2.2) (t : Nat) (x1 : Int32) (x2 : Int32) (x3 : Int32) (G : GS) {a : (Int32 × Int32) ⊕ (Int32)} (h : flX2_used_28 t x1 x2 x3 G = some a) (hk : (zcase (fun s : Int32 × Int32 => J mX2_used F G 4 [(0, vR (some t)), (1, vI s.1), (2, vI s.2)] []) (zKPI F G)) a) : J mX2_used F G 28 [(0, vR (some t)), (1, vI x1), (2, vI x2), (3, vI x3)] [] := by
  unfold flX2_used_28 at h
  exact zloop_walk (P := (fun s : Int32 × Int32 => J mX2_used F G 28 [(0, vR (some t)), (1, vI s.1), (2, vI x2), (3, vI s.2)] [])) (fun s b e hk => wfbX2_used_28 hd t s.1 x2 s.2 G e hk) (x1, x3) _ h hk
def fbX2_used_4 (t : Nat) (x1 : Int32) (x2 : Int32)  (G : GS) : Option ((Int32 × Int32) ⊕ (Int32)) :=
  (zgI G 2 t 6).bind fun v1 => if v1 ≤ x2 then (zo (some x1)) else ((zgR G 2 t 0).bind fun r4 => r4.bind fun a6 => (zaI G 50 a6 x2).bind fun v8 => flX2_used_28 t (x1 ||| ((1 : Int32) <<< ((v8 - 20) &&& 31))) x2 0 G)
def flX2_used_4 (t : Nat) (x1 : Int32) (x2 : Int32) (G : GS) : Option (Int32) := zloop (fun s : Int32 × Int32 => fbX2_used_4 t s.1 s.2 G) (x1, x2)
theorem wfbX2_used_4 {F : zF} (hd : 3 ≤ F.2.2.2) (t : Nat) (x1 : Int32) (x2 : Int32) (G : GS) {a : (Int32 × Int32) ⊕ (Int32)} (h : fbX2_used_4 t x1 x2 G = some a) (hk : (zcase (fun s : Int32 × Int32 => J mX2_used F G 4 [(0, vR (some t)), (1, vI s.1), (2, vI s.2)] []) (zKPI F G)) a) : J mX2_used F G 4 [(0, vR (some t)), (1, vI x1), (2, vI x2)] [] := by
  unfold fbX2_used_4 at h
  refine j_iload_n (j := 2) dX2_used_4 rfl rfl ?_
  refine j_aload_n (j := 0) dX2_used_5 rfl rfl ?_
  replace h := zbE h
  obtain ⟨v1, e2, h⟩ := h
  refine j_getI fgX2_113 (fun _ _ _ => rfl) dX2_used_6 e2 ?_
  refine j_icmp_ge (tgt := 80) dX2_used_9 (by decide) (fun c3 => ?_) (fun c3 => ?_)
  · rw [if_pos c3] at h
    replace h := zoE h
    obtain ⟨a, h, rfl⟩ := h
    replace hk := hk
    refine j_iload_n (j := 1) dX2_used_80 rfl rfl ?_
    obtain rfl := Option.some.inj h
    exact j_iret hk.1 hk.2 rfl dX2_used_81
  · rw [if_neg c3] at h
    refine j_iload_n (j := 1) dX2_used_12 rfl rfl ?_
    refine j_iconst (v := 1) dX2_used_13 (by decide) ?_
    refine j_aload_n (j := 0) dX2_used_14 rfl rfl ?_
    replace h := zbE h
    obtain ⟨r4, e5, h⟩ := h
    refine j_getR fgX2_7 (fun _ _ _ => rfl) dX2_used_15 e5 ?_
    refine j_iload_n (j := 2) dX2_used_18 rfl rfl ?_
    replace h := zbE h
    obtain ⟨a6, e7, h⟩ := h
    subst e7
    replace h := zbE h
    obtain ⟨v8, e9, h⟩ := h
    refine j_iald (Or.inl rfl) e9 dX2_used_19 ?_
    refine j_bipush (v := 20) dX2_used_20 (by decide) ?_
    refine j_isub dX2_used_22 ?_
    refine j_ishl dX2_used_23 ?_
    refine j_ior dX2_used_24 ?_
    refine j_istore_n (lv' := [(1, vI (x1 ||| ((1 : Int32) <<< ((v8 - 20) &&& 31)))), (0, vR (some t)), (2, vI x2)]) dX2_used_25 rfl (Nat.le_of_ble_eq_true rfl) rfl ?_
    refine j_iconst (v := 0) dX2_used_26 (by decide) ?_
    refine j_istore_n (lv' := [(3, vI 0), (1, vI (x1 ||| ((1 : Int32) <<< ((v8 - 20) &&& 31)))), (0, vR (some t)), (2, vI x2)]) dX2_used_27 rfl (Nat.le_of_ble_eq_true rfl) rfl ?_
    exact J.sub (zall [2, 1, 3, 0] rfl) (wflX2_used_28 hd t (x1 ||| ((1 : Int32) <<< ((v8 - 20) &&& 31))) x2 0  G h hk)
theorem wflX2_used_4 {F : zF} (hd : 3 ≤ F.2.2.2) (t : Nat) (x1 : Int32) (x2 : Int32) (G : GS) {a : Int32} (h : flX2_used_4 t x1 x2 G = some a) (hk : zKPI F G a) : J mX2_used F G 4 [(0, vR (some t)), (1, vI x1), (2, vI x2)] [] := by
  unfold flX2_used_4 at h
  exact zloop_walk (P := (fun s : Int32 × Int32 => J mX2_used F G 4 [(0, vR (some t)), (1, vI s.1), (2, vI s.2)] [])) (fun s b e hk => wfbX2_used_4 hd t s.1 s.2 G e hk) (x1, x2) _ h hk
def fX2_used_0 (t : Nat)  (G : GS) : Option (Int32) :=
  flX2_used_4 t 1 0 G
theorem wfX2_used_0 {F : zF} (hd : 3 ≤ F.2.2.2) (t : Nat)  (G : GS) {a : Int32} (h : fX2_used_0 t  G = some a) (hk : zKPI F G a) : J mX2_used F G 0 [(0, vR (some t))] [] := by
  unfold fX2_used_0 at h
  refine j_iconst (v := 1) dX2_used_0 (by decide) ?_
  refine j_istore_n (lv' := [(1, vI 1), (0, vR (some t))]) dX2_used_1 rfl (Nat.le_of_ble_eq_true rfl) rfl ?_
  refine j_iconst (v := 0) dX2_used_2 (by decide) ?_
  refine j_istore_n (lv' := [(2, vI 0), (1, vI 1), (0, vR (some t))]) dX2_used_3 rfl (Nat.le_of_ble_eq_true rfl) rfl ?_
  exact J.sub (zall [2, 1, 0] rfl) (wflX2_used_4 hd t 1 0  G h hk)
theorem yX2_used_ok {t : Nat} {G : GS} {r : Int32} (h : fX2_used_0 t G = some r) : zRuns yX2_used (ws_ yX2_used cX2_used 4 (some Jvm.ClassFile.FieldType.int)) [vR (some t)] (.inl (some (vI r)), G, G, 3) :=
  zentry (M := mX2_used) (plainFor_of_name (by decide +kernel)) ⟨rfl, rfl, rfl, rfl⟩ (Nat.le_of_ble_eq_true rfl) (wfX2_used_0 (Nat.le_refl _) t G h ⟨rfl, rfl⟩)
theorem msX2_191 : zSV RX2 191 RX2 yX2_used cX2_used 4 (some Jvm.ClassFile.FieldType.int) 0 := ⟨lw_V q2899 q2901 qs70 q131 q2902, (by decide +kernel), (by decide)⟩
abbrev mX2_unused : zM := (cX2_unused, RX2, 3, (some Jvm.ClassFile.FieldType.int), "unused", [], "()I")
def fX2_unused_21 (x2 : Int32)  (G : GS) : Option (Int32) :=
  some (20 + x2)
theorem wfX2_unused_21 {F : zF} (hd : 4 ≤ F.2.2.2) (x2 : Int32)  (G : GS) {a : Int32} (h : fX2_unused_21 x2  G = some a) (hk : zKPI F G a) : J mX2_unused F G 21 [(2, vI x2)] [] := by
  unfold fX2_unused_21 at h
  refine j_bipush (v := 20) dX2_unused_21 (by decide) ?_
  refine j_iload_n (j := 0) dX2_unused_23 rfl rfl ?_
  refine j_iadd dX2_unused_24 ?_
  obtain rfl := Option.some.inj h
  exact j_iret hk.1 hk.2 rfl dX2_unused_25
def fbX2_unused_7 (x1 : Int32) (x2 : Int32)  (G : GS) : Option ((Int32) ⊕ (Int32)) :=
  if 12 ≤ x2 then (zo (some (-1))) else ((fX2_has_0 x1 x2 G).bind fun v3 => if v3 = 0 then (zo (fX2_unused_21 x2 G)) else (some (.inl ((x2 + 1)))))
def flX2_unused_7 (x1 : Int32) (x2 : Int32) (G : GS) : Option (Int32) := zloop (fun s : Int32 => fbX2_unused_7 x1 s G) (x2)
theorem wfbX2_unused_7 {F : zF} (hd : 4 ≤ F.2.2.2) (x1 : Int32) (x2 : Int32) (G : GS) {a : (Int32) ⊕ (Int32)} (h : fbX2_unused_7 x1 x2 G = some a) (hk : (zcase (fun s : Int32 => J mX2_unused F G 7 [(1, vI x1), (2, vI s)] []) (zKPI F G)) a) : J mX2_unused F G 7 [(1, vI x1), (2, vI x2)] [] := by
  unfold fbX2_unused_7 at h
  refine j_iload_n (j := 1) dX2_unused_7 rfl rfl ?_
  refine j_bipush (v := 12) dX2_unused_8 (by decide) ?_
  refine j_icmp_ge (tgt := 32) dX2_unused_10 (by decide) (fun c1 => ?_) (fun c1 => ?_)
  · rw [if_pos c1] at h
    replace h := zoE h
    obtain ⟨a, h, rfl⟩ := h
    replace hk := hk
    refine j_iconst (v := (-1)) dX2_unused_32 (by decide) ?_
    obtain rfl := Option.some.inj h
    exact j_iret hk.1 hk.2 rfl dX2_unused_33
  · rw [if_neg c1] at h
    refine j_iload_n (j := 0) dX2_unused_13 rfl rfl ?_
    refine j_iload_n (j := 1) dX2_unused_14 rfl rfl ?_
    replace h := zbE h
    obtain ⟨v3, e2, h⟩ := h
    refine j_cont (zrS (As := [vI x1, vI x2]) msX2_198 (yX2_has_ok e2) (Nat.le_trans (Nat.le_of_ble_eq_true rfl) hd) rfl rfl (Nat.le_of_ble_eq_true rfl) dX2_unused_15) ?_
    refine j_if_ne (tgt := 26) dX2_unused_18 (by decide) (fun c4 => ?_) (fun c4 => ?_)
    · rw [if_pos c4] at h
      replace h := zoE h
      obtain ⟨a, h, rfl⟩ := h
      replace hk := hk
      exact J.sub (zall [1] rfl) (wfX2_unused_21 hd x2  G h hk)
    · rw [if_neg c4] at h
      refine j_iinc (j := 1) (v := (x2 + 1)) (lv' := [(2, vI (x2 + 1)), (1, vI x1)]) dX2_unused_26 rfl rfl (Nat.le_of_ble_eq_true rfl) rfl ?_
      refine j_goto (tgt := 7) dX2_unused_29 (by decide) ?_
      obtain rfl := Option.some.inj h
      exact J.sub (zall [1, 0] rfl) hk
theorem wflX2_unused_7 {F : zF} (hd : 4 ≤ F.2.2.2) (x1 : Int32) (x2 : Int32) (G : GS) {a : Int32} (h : flX2_unused_7 x1 x2 G = some a) (hk : zKPI F G a) : J mX2_unused F G 7 [(1, vI x1), (2, vI x2)] [] := by
  unfold flX2_unused_7 at h
  exact zloop_walk (P := (fun s : Int32 => J mX2_unused F G 7 [(1, vI x1), (2, vI s)] [])) (fun s b e hk => wfbX2_unused_7 hd x1 s G e hk) (x2) _ h hk
def fX2_unused_0 (t : Nat)  (G : GS) : Option (Int32) :=
  zk [2] G t <| (fX2_used_0 t G).bind fun v3 => flX2_unused_7 v3 0 G
theorem wfX2_unused_0 {F : zF} (hd : 4 ≤ F.2.2.2) (t : Nat)  (G : GS) {a : Int32} (h : fX2_unused_0 t  G = some a) (hk : zKPI F G a) : J mX2_unused F G 0 [(0, vR (some t))] [] := by
  unfold fX2_unused_0 at h
  refine j_aload_n (j := 0) dX2_unused_0 rfl rfl ?_
  replace h := zkE h
  obtain ⟨e1, h⟩ := h
  replace h := zbE h
  obtain ⟨v3, e2, h⟩ := h
  refine j_cont (zrV (As := []) msX2_191 (yX2_used_ok e2) (Nat.le_trans (Nat.le_of_ble_eq_true rfl) hd) (zk_2 _ e1) rfl rfl (Nat.le_of_ble_eq_true rfl) dX2_unused_1) ?_
  refine j_istore_n (lv' := [(1, vI v3), (0, vR (some t))]) dX2_unused_4 rfl (Nat.le_of_ble_eq_true rfl) rfl ?_
  refine j_iconst (v := 0) dX2_unused_5 (by decide) ?_
  refine j_istore_n (lv' := [(2, vI 0), (1, vI v3), (0, vR (some t))]) dX2_unused_6 rfl (Nat.le_of_ble_eq_true rfl) rfl ?_
  exact J.sub (zall [1, 0] rfl) (wflX2_unused_7 hd v3 0  G h hk)
theorem yX2_unused_ok {t : Nat} {G : GS} {r : Int32} (h : fX2_unused_0 t G = some r) : zRuns yX2_unused (ws_ yX2_unused cX2_unused 3 (some Jvm.ClassFile.FieldType.int)) [vR (some t)] (.inl (some (vI r)), G, G, 4) :=
  zentry (M := mX2_unused) (plainFor_of_name (by decide +kernel)) ⟨rfl, rfl, rfl, rfl⟩ (Nat.le_of_ble_eq_true rfl) (wfX2_unused_0 (Nat.le_refl _) t G h ⟨rfl, rfl⟩)
abbrev mX2_sharedLength : zM := (cX2_sharedLength, RX2, 5, (some Jvm.ClassFile.FieldType.int), "sharedLength", [], "(I)I")
def fX2_sharedLength_75 (t : Nat) (x1 : Int32) (x2 : Int32) (x3 : Int32)  (G : GS) : Option ((Int32 × Int32) ⊕ (Int32)) :=
  some (.inl (x2, (x3 + 1)))
theorem wfX2_sharedLength_75 {F : zF} (hd : 3 ≤ F.2.2.2) (t : Nat) (x1 : Int32) (x2 : Int32) (x3 : Int32)  (G : GS) {a : (Int32 × Int32) ⊕ (Int32)} (h : fX2_sharedLength_75 t x1 x2 x3  G = some a) (hk : (zcase (fun s : Int32 × Int32 => J mX2_sharedLength F G 9 [(0, vR (some t)), (1, vI x1), (2, vI s.1), (3, vI s.2)] []) (zKPI F G)) a) : J mX2_sharedLength F G 75 [(0, vR (some t)), (1, vI x1), (2, vI x2), (3, vI x3)] [] := by
  unfold fX2_sharedLength_75 at h
  refine j_iinc (j := 3) (v := (x3 + 1)) (lv' := [(3, vI (x3 + 1)), (0, vR (some t)), (1, vI x1), (2, vI x2)]) dX2_sharedLength_75 rfl rfl (Nat.le_of_ble_eq_true rfl) rfl ?_
  refine j_goto (tgt := 9) dX2_sharedLength_78 (by decide) ?_
  obtain rfl := Option.some.inj h
  exact J.sub (zall [1, 2, 3, 0] rfl) hk
def fX2_sharedLength_72 (t : Nat) (x1 : Int32) (x3 : Int32) (x4 : Int32)  (G : GS) : Option ((Int32 × Int32) ⊕ (Int32)) :=
  fX2_sharedLength_75 t x1 x4 x3 G
theorem wfX2_sharedLength_72 {F : zF} (hd : 3 ≤ F.2.2.2) (t : Nat) (x1 : Int32) (x3 : Int32) (x4 : Int32)  (G : GS) {a : (Int32 × Int32) ⊕ (Int32)} (h : fX2_sharedLength_72 t x1 x3 x4  G = some a) (hk : (zcase (fun s : Int32 × Int32 => J mX2_sharedLength F G 9 [(0, vR (some t)), (1, vI x1), (2, vI s.1), (3, vI s.2)] []) (zKPI F G)) a) : J mX2_sharedLength F G 72 [(0, vR (some t)), (1, vI x1), (3, vI x3), (4, vI x4)] [] := by
  unfold fX2_sharedLength_72 at h
  refine j_iload (j := 3) dX2_sharedLength_72 rfl ?_
  refine j_istore_n (lv' := [(2, vI x4), (0, vR (some t)), (1, vI x1), (3, vI x3), (4, vI x4)]) dX2_sharedLength_74 rfl (Nat.le_of_ble_eq_true rfl) rfl ?_
  exact J.sub (zall [1, 2, 0, 3] rfl) (wfX2_sharedLength_75 hd t x1 x4 x3  G h hk)
def fbX2_sharedLength_32 (t : Nat) (x1 : Int32) (x2 : Int32) (x3 : Int32) (x4 : Int32)  (G : GS) : Option ((Int32) ⊕ ((Int32 × Int32) ⊕ (Int32))) :=
  if x2 ≤ x4 then (zo (fX2_sharedLength_72 t x1 x3 x4 G)) else ((zgR G 2 t 1).bind fun r2 => r2.bind fun a4 => (zaI G 50 a4 x3).bind fun v6 => if v6 ≤ x4 then (zo (fX2_sharedLength_72 t x1 x3 x4 G)) else (zk [2] G t <| (fX2_at_0 t x3 x4 G).bind fun v11 => zk [2] G t <| (fX2_at_0 t x1 x4 G).bind fun v14 => if v11 = v14 then (some (.inl ((x4 + 1)))) else (zo (fX2_sharedLength_72 t x1 x3 x4 G))))
def flX2_sharedLength_32 (t : Nat) (x1 : Int32) (x2 : Int32) (x3 : Int32) (x4 : Int32) (G : GS) : Option ((Int32 × Int32) ⊕ (Int32)) := zloop (fun s : Int32 => fbX2_sharedLength_32 t x1 x2 x3 s G) (x4)
theorem wfbX2_sharedLength_32 {F : zF} (hd : 3 ≤ F.2.2.2) (t : Nat) (x1 : Int32) (x2 : Int32) (x3 : Int32) (x4 : Int32) (G : GS) {a : (Int32) ⊕ ((Int32 × Int32) ⊕ (Int32))} (h : fbX2_sharedLength_32 t x1 x2 x3 x4 G = some a) (hk : (zcase (fun s : Int32 => J mX2_sharedLength F G 32 [(0, vR (some t)), (1, vI x1), (2, vI x2), (3, vI x3), (4, vI s)] []) ((zcase (fun s : Int32 × Int32 => J mX2_sharedLength F G 9 [(0, vR (some t)), (1, vI x1), (2, vI s.1), (3, vI s.2)] []) (zKPI F G)))) a) : J mX2_sharedLength F G 32 [(0, vR (some t)), (1, vI x1), (2, vI x2), (3, vI x3), (4, vI x4)] [] := by
  unfold fbX2_sharedLength_32 at h
  refine j_iload (j := 4) dX2_sharedLength_32 rfl ?_
  refine j_iload_n (j := 2) dX2_sharedLength_34 rfl rfl ?_
  refine j_icmp_ge (tgt := 72) dX2_sharedLength_35 (by decide) (fun c1 => ?_) (fun c1 => ?_)
  · rw [if_pos c1] at h
    replace h := zoE h
    obtain ⟨a, h, rfl⟩ := h
    replace hk := hk
    exact J.sub (zall [0, 1, 3, 4] rfl) (wfX2_sharedLength_72 hd t x1 x3 x4  G h hk)
  · rw [if_neg c1] at h
    refine j_iload (j := 4) dX2_sharedLength_38 rfl ?_
    refine j_aload_n (j := 0) dX2_sharedLength_40 rfl rfl ?_
    replace h := zbE h
    obtain ⟨r2, e3, h⟩ := h
    refine j_getR fgX2_13 (fun _ _ _ => rfl) dX2_sharedLength_41 e3 ?_
    refine j_iload_n (j := 3) dX2_sharedLength_44 rfl rfl ?_
    replace h := zbE h
    obtain ⟨a4, e5, h⟩ := h
    subst e5
    replace h := zbE h
    obtain ⟨v6, e7, h⟩ := h
    refine j_iald (Or.inl rfl) e7 dX2_sharedLength_45 ?_
    refine j_icmp_ge (tgt := 72) dX2_sharedLength_46 (by decide) (fun c8 => ?_) (fun c8 => ?_)
    · rw [if_pos c8] at h
      replace h := zoE h
      obtain ⟨a, h, rfl⟩ := h
      replace hk := hk
      exact J.sub (zall [0, 1, 3, 4] rfl) (wfX2_sharedLength_72 hd t x1 x3 x4  G h hk)
    · rw [if_neg c8] at h
      refine j_aload_n (j := 0) dX2_sharedLength_49 rfl rfl ?_
      refine j_iload_n (j := 3) dX2_sharedLength_50 rfl rfl ?_
      refine j_iload (j := 4) dX2_sharedLength_51 rfl ?_
      replace h := zkE h
      obtain ⟨e9, h⟩ := h
      replace h := zbE h
      obtain ⟨v11, e10, h⟩ := h
      refine j_cont (zrV (As := [vI x3, vI x4]) msX2_187 (yX2_at_ok e10) (Nat.le_trans (Nat.le_of_ble_eq_true rfl) hd) (zk_2 _ e9) rfl rfl (Nat.le_of_ble_eq_true rfl) dX2_sharedLength_53) ?_
      refine j_aload_n (j := 0) dX2_sharedLength_56 rfl rfl ?_
      refine j_iload_n (j := 1) dX2_sharedLength_57 rfl rfl ?_
      refine j_iload (j := 4) dX2_sharedLength_58 rfl ?_
      replace h := zkE h
      obtain ⟨e12, h⟩ := h
      replace h := zbE h
      obtain ⟨v14, e13, h⟩ := h
      refine j_cont (zrV (As := [vI x1, vI x4]) msX2_187 (yX2_at_ok e13) (Nat.le_trans (Nat.le_of_ble_eq_true rfl) hd) (zk_2 _ e12) rfl rfl (Nat.le_of_ble_eq_true rfl) dX2_sharedLength_60) ?_
      refine j_icmp_ne (tgt := 72) dX2_sharedLength_63 (by decide) (fun c15 => ?_) (fun c15 => ?_)
      · rw [if_pos c15] at h
        refine j_iinc (j := 4) (v := (x4 + 1)) (lv' := [(4, vI (x4 + 1)), (0, vR (some t)), (1, vI x1), (2, vI x2), (3, vI x3)]) dX2_sharedLength_66 rfl rfl (Nat.le_of_ble_eq_true rfl) rfl ?_
        refine j_goto (tgt := 32) dX2_sharedLength_69 (by decide) ?_
        obtain rfl := Option.some.inj h
        exact J.sub (zall [1, 2, 3, 4, 0] rfl) hk
      · rw [if_neg c15] at h
        replace h := zoE h
        obtain ⟨a, h, rfl⟩ := h
        replace hk := hk
        exact J.sub (zall [0, 1, 3, 4] rfl) (wfX2_sharedLength_72 hd t x1 x3 x4  G h hk)
theorem wflX2_sharedLength_32 {F : zF} (hd : 3 ≤ F.2.2.2) (t : Nat) (x1 : Int32) (x2 : Int32) (x3 : Int32) (x4 : Int32) (G : GS) {a : (Int32 × Int32) ⊕ (Int32)} (h : flX2_sharedLength_32 t x1 x2 x3 x4 G = some a) (hk : (zcase (fun s : Int32 × Int32 => J mX2_sharedLength F G 9 [(0, vR (some t)), (1, vI x1), (2, vI s.1), (3, vI s.2)] []) (zKPI F G)) a) : J mX2_sharedLength F G 32 [(0, vR (some t)), (1, vI x1), (2, vI x2), (3, vI x3), (4, vI x4)] [] := by
  unfold flX2_sharedLength_32 at h
  exact zloop_walk (P := (fun s : Int32 => J mX2_sharedLength F G 32 [(0, vR (some t)), (1, vI x1), (2, vI x2), (3, vI x3), (4, vI s)] [])) (fun s b e hk => wfbX2_sharedLength_32 hd t x1 x2 x3 s G e hk) (x4) _ h hk
def fbX2_sharedLength_9 (t : Nat) (x1 : Int32) (x2 : Int32) (x3 : Int32)  (G : GS) : Option ((Int32 × Int32) ⊕ (Int32)) :=
  (zgI G 2 t 6).bind fun v1 => if v1 ≤ x3 then (zo (some x2)) else (zk [2] G t <| (fX2_isAlike_0 t x3 x1 G).bind fun v6 => if v6 = 0 then (fX2_sharedLength_75 t x1 x2 x3 G) else (flX2_sharedLength_32 t x1 x2 x3 0 G))
def flX2_sharedLength_9 (t : Nat) (x1 : Int32) (x2 : Int32) (x3 : Int32) (G : GS) : Option (Int32) := zloop (fun s : Int32 × Int32 => fbX2_sharedLength_9 t x1 s.1 s.2 G) (x2, x3)
theorem wfbX2_sharedLength_9 {F : zF} (hd : 3 ≤ F.2.2.2) (t : Nat) (x1 : Int32) (x2 : Int32) (x3 : Int32) (G : GS) {a : (Int32 × Int32) ⊕ (Int32)} (h : fbX2_sharedLength_9 t x1 x2 x3 G = some a) (hk : (zcase (fun s : Int32 × Int32 => J mX2_sharedLength F G 9 [(0, vR (some t)), (1, vI x1), (2, vI s.1), (3, vI s.2)] []) (zKPI F G)) a) : J mX2_sharedLength F G 9 [(0, vR (some t)), (1, vI x1), (2, vI x2), (3, vI x3)] [] := by
  unfold fbX2_sharedLength_9 at h
  refine j_iload_n (j := 3) dX2_sharedLength_9 rfl rfl ?_
  refine j_aload_n (j := 0) dX2_sharedLength_10 rfl rfl ?_
  replace h := zbE h
  obtain ⟨v1, e2, h⟩ := h
  refine j_getI fgX2_113 (fun _ _ _ => rfl) dX2_sharedLength_11 e2 ?_
  refine j_icmp_ge (tgt := 81) dX2_sharedLength_14 (by decide) (fun c3 => ?_) (fun c3 => ?_)
  · rw [if_pos c3] at h
    replace h := zoE h
    obtain ⟨a, h, rfl⟩ := h
    replace hk := hk
    refine j_iload_n (j := 2) dX2_sharedLength_81 rfl rfl ?_
    obtain rfl := Option.some.inj h
    exact j_iret hk.1 hk.2 rfl dX2_sharedLength_82
  · rw [if_neg c3] at h
    refine j_aload_n (j := 0) dX2_sharedLength_17 rfl rfl ?_
    refine j_iload_n (j := 3) dX2_sharedLength_18 rfl rfl ?_
    refine j_iload_n (j := 1) dX2_sharedLength_19 rfl rfl ?_
    replace h := zkE h
    obtain ⟨e4, h⟩ := h
    replace h := zbE h
    obtain ⟨v6, e5, h⟩ := h
    refine j_cont (zrV (As := [vI x3, vI x1]) msX2_321 (yX2_isAlike_ok e5) (Nat.le_trans (Nat.le_of_ble_eq_true rfl) hd) (zk_2 _ e4) rfl rfl (Nat.le_of_ble_eq_true rfl) dX2_sharedLength_20) ?_
    refine j_if_ne (tgt := 29) dX2_sharedLength_23 (by decide) (fun c7 => ?_) (fun c7 => ?_)
    · rw [if_pos c7] at h
      refine j_goto (tgt := 75) dX2_sharedLength_26 (by decide) ?_
      exact J.sub (zall [0, 1, 2, 3] rfl) (wfX2_sharedLength_75 hd t x1 x2 x3  G h hk)
    · rw [if_neg c7] at h
      refine j_iconst (v := 0) dX2_sharedLength_29 (by decide) ?_
      refine j_istore (lv' := [(4, vI 0), (0, vR (some t)), (1, vI x1), (2, vI x2), (3, vI x3)]) dX2_sharedLength_30 (Nat.le_of_ble_eq_true rfl) rfl ?_
      exact J.sub (zall [1, 2, 3, 4, 0] rfl) (wflX2_sharedLength_32 hd t x1 x2 x3 0  G h hk)
theorem wflX2_sharedLength_9 {F : zF} (hd : 3 ≤ F.2.2.2) (t : Nat) (x1 : Int32) (x2 : Int32) (x3 : Int32) (G : GS) {a : Int32} (h : flX2_sharedLength_9 t x1 x2 x3 G = some a) (hk : zKPI F G a) : J mX2_sharedLength F G 9 [(0, vR (some t)), (1, vI x1), (2, vI x2), (3, vI x3)] [] := by
  unfold flX2_sharedLength_9 at h
  exact zloop_walk (P := (fun s : Int32 × Int32 => J mX2_sharedLength F G 9 [(0, vR (some t)), (1, vI x1), (2, vI s.1), (3, vI s.2)] [])) (fun s b e hk => wfbX2_sharedLength_9 hd t x1 s.1 s.2 G e hk) (x2, x3) _ h hk
def fX2_sharedLength_0 (t : Nat) (x1 : Int32)  (G : GS) : Option (Int32) :=
  (zgR G 2 t 1).bind fun r1 => r1.bind fun a3 => (zaI G 50 a3 x1).bind fun v5 => flX2_sharedLength_9 t x1 v5 0 G
theorem wfX2_sharedLength_0 {F : zF} (hd : 3 ≤ F.2.2.2) (t : Nat) (x1 : Int32)  (G : GS) {a : Int32} (h : fX2_sharedLength_0 t x1  G = some a) (hk : zKPI F G a) : J mX2_sharedLength F G 0 [(0, vR (some t)), (1, vI x1)] [] := by
  unfold fX2_sharedLength_0 at h
  refine j_aload_n (j := 0) dX2_sharedLength_0 rfl rfl ?_
  replace h := zbE h
  obtain ⟨r1, e2, h⟩ := h
  refine j_getR fgX2_13 (fun _ _ _ => rfl) dX2_sharedLength_1 e2 ?_
  refine j_iload_n (j := 1) dX2_sharedLength_4 rfl rfl ?_
  replace h := zbE h
  obtain ⟨a3, e4, h⟩ := h
  subst e4
  replace h := zbE h
  obtain ⟨v5, e6, h⟩ := h
  refine j_iald (Or.inl rfl) e6 dX2_sharedLength_5 ?_
  refine j_istore_n (lv' := [(2, vI v5), (0, vR (some t)), (1, vI x1)]) dX2_sharedLength_6 rfl (Nat.le_of_ble_eq_true rfl) rfl ?_
  refine j_iconst (v := 0) dX2_sharedLength_7 (by decide) ?_
  refine j_istore_n (lv' := [(3, vI 0), (2, vI v5), (0, vR (some t)), (1, vI x1)]) dX2_sharedLength_8 rfl (Nat.le_of_ble_eq_true rfl) rfl ?_
  exact J.sub (zall [2, 3, 1, 0] rfl) (wflX2_sharedLength_9 hd t x1 v5 0  G h hk)
theorem yX2_sharedLength_ok {t : Nat} {x1 : Int32} {G : GS} {r : Int32} (h : fX2_sharedLength_0 t x1 G = some r) : zRuns yX2_sharedLength (ws_ yX2_sharedLength cX2_sharedLength 5 (some Jvm.ClassFile.FieldType.int)) [vR (some t), vI x1] (.inl (some (vI r)), G, G, 3) :=
  zentry (M := mX2_sharedLength) (plainFor_of_name (by decide +kernel)) ⟨rfl, rfl, rfl, rfl⟩ (Nat.le_of_ble_eq_true rfl) (wfX2_sharedLength_0 (Nat.le_refl _) t x1 G h ⟨rfl, rfl⟩)
end
