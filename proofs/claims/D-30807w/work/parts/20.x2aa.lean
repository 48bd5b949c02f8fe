/-! printed: functions and walks -/
set_option maxRecDepth 100000
noncomputable section
theorem fpX2_13_X2 : zFP RX2 13 1 1 (.array (.int)) true := ⟨(RX2, TX2, 42, tyX2), rfl, by decide, in_X2, tyX2_ok, nmX2, rfl, rfl, (by intro _; rfl), "SelahGeneratorModel", Or.inl rfl, q2673⟩
theorem fpX2_16_X2 : zFP RX2 16 1 2 (.array (.int)) true := ⟨(RX2, TX2, 42, tyX2), rfl, by decide, in_X2, tyX2_ok, nmX2, rfl, rfl, (by intro _; rfl), "SelahGeneratorModel", Or.inl rfl, q2674⟩
theorem fpX2_19_X2 : zFP RX2 19 1 3 (.array (.int)) true := ⟨(RX2, TX2, 42, tyX2), rfl, by decide, in_X2, tyX2_ok, nmX2, rfl, rfl, (by intro _; rfl), "SelahGeneratorModel", Or.inl rfl, q2675⟩
theorem fpX2_22_X2 : zFP RX2 22 1 4 (.array (.int)) true := ⟨(RX2, TX2, 42, tyX2), rfl, by decide, in_X2, tyX2_ok, nmX2, rfl, rfl, (by intro _; rfl), "SelahGeneratorModel", Or.inl rfl, q2676⟩
theorem fpX2_25_X2 : zFP RX2 25 1 5 (.array (.int)) true := ⟨(RX2, TX2, 42, tyX2), rfl, by decide, in_X2, tyX2_ok, nmX2, rfl, rfl, (by intro _; rfl), "SelahGeneratorModel", Or.inl rfl, q2677⟩
theorem fpX2_28_X2 : zFP RX2 28 1 9 (.array (.int)) true := ⟨(RX2, TX2, 42, tyX2), rfl, by decide, in_X2, tyX2_ok, nmX2, rfl, rfl, (by intro _; rfl), "SelahGeneratorModel", Or.inl rfl, q2681⟩
theorem fpX2_31_X2 : zFP RX2 31 1 10 (.array (.int)) true := ⟨(RX2, TX2, 42, tyX2), rfl, by decide, in_X2, tyX2_ok, nmX2, rfl, rfl, (by intro _; rfl), "SelahGeneratorModel", Or.inl rfl, q2682⟩
theorem fpX2_34_X2 : zFP RX2 34 1 14 (.array (.int)) true := ⟨(RX2, TX2, 42, tyX2), rfl, by decide, in_X2, tyX2_ok, nmX2, rfl, rfl, (by intro _; rfl), "SelahGeneratorModel", Or.inl rfl, q2686⟩
theorem fpX2_37_X2 : zFP RX2 37 1 15 (.array (.boolean)) true := ⟨(RX2, TX2, 42, tyX2), rfl, by decide, in_X2, tyX2_ok, nmX2, rfl, rfl, (by intro _; rfl), "SelahGeneratorModel", Or.inl rfl, q2687⟩
theorem fpX2_41_X2 : zFP RX2 41 1 16 (.array (.boolean)) true := ⟨(RX2, TX2, 42, tyX2), rfl, by decide, in_X2, tyX2_ok, nmX2, rfl, rfl, (by intro _; rfl), "SelahGeneratorModel", Or.inl rfl, q2688⟩
theorem fpX2_44_X2 : zFP RX2 44 1 17 (.array (.boolean)) true := ⟨(RX2, TX2, 42, tyX2), rfl, by decide, in_X2, tyX2_ok, nmX2, rfl, rfl, (by intro _; rfl), "SelahGeneratorModel", Or.inl rfl, q2689⟩
theorem fpX2_47_X2 : zFP RX2 47 1 18 (.array (.boolean)) true := ⟨(RX2, TX2, 42, tyX2), rfl, by decide, in_X2, tyX2_ok, nmX2, rfl, rfl, (by intro _; rfl), "SelahGeneratorModel", Or.inl rfl, q2690⟩
theorem fpX2_50_X2 : zFP RX2 50 1 20 (.array (.boolean)) true := ⟨(RX2, TX2, 42, tyX2), rfl, by decide, in_X2, tyX2_ok, nmX2, rfl, rfl, (by intro _; rfl), "SelahGeneratorModel", Or.inl rfl, q2692⟩
theorem fpX2_53_X2 : zFP RX2 53 1 21 (.array (.int)) true := ⟨(RX2, TX2, 42, tyX2), rfl, by decide, in_X2, tyX2_ok, nmX2, rfl, rfl, (by intro _; rfl), "SelahGeneratorModel", Or.inl rfl, q2693⟩
theorem fpX2_56_X2 : zFP RX2 56 1 22 (.array (.int)) true := ⟨(RX2, TX2, 42, tyX2), rfl, by decide, in_X2, tyX2_ok, nmX2, rfl, rfl, (by intro _; rfl), "SelahGeneratorModel", Or.inl rfl, q2694⟩
theorem fpX2_59_X2 : zFP RX2 59 1 23 (.array (.int)) true := ⟨(RX2, TX2, 42, tyX2), rfl, by decide, in_X2, tyX2_ok, nmX2, rfl, rfl, (by intro _; rfl), "SelahGeneratorModel", Or.inl rfl, q2695⟩
theorem fpX2_62_X2 : zFP RX2 62 1 24 (.array (.int)) true := ⟨(RX2, TX2, 42, tyX2), rfl, by decide, in_X2, tyX2_ok, nmX2, rfl, rfl, (by intro _; rfl), "SelahGeneratorModel", Or.inl rfl, q2696⟩
theorem fpX2_65_X2 : zFP RX2 65 1 25 (.array (.int)) true := ⟨(RX2, TX2, 42, tyX2), rfl, by decide, in_X2, tyX2_ok, nmX2, rfl, rfl, (by intro _; rfl), "SelahGeneratorModel", Or.inl rfl, q2697⟩
theorem fpX2_68_X2 : zFP RX2 68 1 26 (.array (.int)) true := ⟨(RX2, TX2, 42, tyX2), rfl, by decide, in_X2, tyX2_ok, nmX2, rfl, rfl, (by intro _; rfl), "SelahGeneratorModel", Or.inl rfl, q2698⟩
theorem fpX2_71_X2 : zFP RX2 71 1 27 (.array (.int)) true := ⟨(RX2, TX2, 42, tyX2), rfl, by decide, in_X2, tyX2_ok, nmX2, rfl, rfl, (by intro _; rfl), "SelahGeneratorModel", Or.inl rfl, q2699⟩
theorem fpX2_74_X2 : zFP RX2 74 1 28 (.array (.int)) true := ⟨(RX2, TX2, 42, tyX2), rfl, by decide, in_X2, tyX2_ok, nmX2, rfl, rfl, (by intro _; rfl), "SelahGeneratorModel", Or.inl rfl, q2700⟩
theorem fpX2_77_X2 : zFP RX2 77 1 29 (.array (.boolean)) true := ⟨(RX2, TX2, 42, tyX2), rfl, by decide, in_X2, tyX2_ok, nmX2, rfl, rfl, (by intro _; rfl), "SelahGeneratorModel", Or.inl rfl, q2701⟩
theorem fpX2_7_X2 : zFP RX2 7 1 0 (.array (.int)) true := ⟨(RX2, TX2, 42, tyX2), rfl, by decide, in_X2, tyX2_ok, nmX2, rfl, rfl, (by intro _; rfl), "SelahGeneratorModel", Or.inl rfl, q2672⟩
theorem fpX2_80_X2 : zFP RX2 80 1 37 (.array (.long)) true := ⟨(RX2, TX2, 42, tyX2), rfl, by decide, in_X2, tyX2_ok, nmX2, rfl, rfl, (by intro _; rfl), "SelahGeneratorModel", Or.inl rfl, q2709⟩
theorem fpX2_84_X2 : zFP RX2 84 1 38 (.array (.long)) true := ⟨(RX2, TX2, 42, tyX2), rfl, by decide, in_X2, tyX2_ok, nmX2, rfl, rfl, (by intro _; rfl), "SelahGeneratorModel", Or.inl rfl, q2710⟩
theorem fpX2_87_X2 : zFP RX2 87 1 39 (.array (.long)) true := ⟨(RX2, TX2, 42, tyX2), rfl, by decide, in_X2, tyX2_ok, nmX2, rfl, rfl, (by intro _; rfl), "SelahGeneratorModel", Or.inl rfl, q2711⟩
theorem fpX2_90_X2 : zFP RX2 90 1 40 (.array (.int)) true := ⟨(RX2, TX2, 42, tyX2), rfl, by decide, in_X2, tyX2_ok, nmX2, rfl, rfl, (by intro _; rfl), "SelahGeneratorModel", Or.inl rfl, q2712⟩
abbrev mX2_init : zM := (cX2_init, RX2, 1, none, "<init>", [], "()V")
def fX2_init_0 (t : Nat)  (G : GS) : Option (GS) :=
  (zna G 50 (100 : Int32)).bind fun G1 => (zpR G1 2 t 0 (some (gz G))).bind fun G3 => (zna G3 50 (100 : Int32)).bind fun G5 => (zpR G5 2 t 1 (some (gz G3))).bind fun G7 => (zna G7 50 (2000 : Int32)).bind fun G9 => (zpR G9 2 t 2 (some (gz G7))).bind fun G11 => (zna G11 50 (100 : Int32)).bind fun G13 => (zpR G13 2 t 3 (some (gz G11))).bind fun G15 => (zna G15 50 (100 : Int32)).bind fun G17 => (zpR G17 2 t 4 (some (gz G15))).bind fun G19 => (zna G19 50 (2000 : Int32)).bind fun G21 => (zpR G21 2 t 5 (some (gz G19))).bind fun G23 => (zna G23 50 (12 : Int32)).bind fun G25 => (zpR G25 2 t 9 (some (gz G23))).bind fun G27 => (zna G27 50 (12 : Int32)).bind fun G29 => (zpR G29 2 t 10 (some (gz G27))).bind fun G31 => (zna G31 50 (12 : Int32)).bind fun G33 => (zpR G33 2 t 14 (some (gz G31))).bind fun G35 => (zna G35 52 (2196 : Int32)).bind fun G37 => (zpR G37 2 t 15 (some (gz G35))).bind fun G39 => (zna G39 52 (2196 : Int32)).bind fun G41 => (zpR G41 2 t 16 (some (gz G39))).bind fun G43 => (zna G43 52 (183 : Int32)).bind fun G45 => (zpR G45 2 t 17 (some (gz G43))).bind fun G47 => (zna G47 52 (183 : Int32)).bind fun G49 => (zpR G49 2 t 18 (some (gz G47))).bind fun G51 => (zna G51 52 (8784 : Int32)).bind fun G53 => (zpR G53 2 t 20 (some (gz G51))).bind fun G55 => (zna G55 50 (12 : Int32)).bind fun G57 => (zpR G57 2 t 21 (some (gz G55))).bind fun G59 => (zna G59 50 (20 : Int32)).bind fun G61 => (zpR G61 2 t 22 (some (gz G59))).bind fun G63 => (zna G63 50 (100 : Int32)).bind fun G65 => (zpR G65 2 t 23 (some (gz G63))).bind fun G67 => (zna G67 50 (3700 : Int32)).bind fun G69 => (zpR G69 2 t 24 (some (gz G67))).bind fun G71 => (zna G71 50 (40 : Int32)).bind fun G73 => (zpR G73 2 t 25 (some (gz G71))).bind fun G75 => (zna G75 50 (400 : Int32)).bind fun G77 => (zpR G77 2 t 26 (some (gz G75))).bind fun G79 => (zna G79 50 (4200 : Int32)).bind fun G81 => (zpR G81 2 t 27 (some (gz G79))).bind fun G83 => (zna G83 50 (4200 : Int32)).bind fun G85 => (zpR G85 2 t 28 (some (gz G83))).bind fun G87 => (zna G87 52 (4200 : Int32)).bind fun G89 => (zpR G89 2 t 29 (some (gz G87))).bind fun G91 => (zna G91 51 (3468 : Int32)).bind fun G93 => (zpR G93 2 t 37 (some (gz G91))).bind fun G95 => (zna G95 51 (17 : Int32)).bind fun G97 => (zpR G97 2 t 38 (some (gz G95))).bind fun G99 => (zna G99 51 (17 : Int32)).bind fun G101 => (zpR G101 2 t 39 (some (gz G99))).bind fun G103 => (zna G103 50 (20 : Int32)).bind fun G105 => (zpR G105 2 t 40 (some (gz G103))).bind fun G107 => some G107
theorem wfX2_init_0 {F : zF} (hd : 2 ≤ F.2.2.2) (t : Nat)  (G : GS) {a : GS} (h : fX2_init_0 t  G = some a) (hk : zKV F a) : J mX2_init F G 0 [(0, vR (some t))] [] := by
  unfold fX2_init_0 at h
  refine j_aload_n (j := 0) dX2_init_0 rfl rfl ?_
  refine j_objinit q2671 q181 q182 (Nat.le_trans (Nat.le_of_ble_eq_true rfl) hd) (Nat.le_of_ble_eq_true rfl) dX2_init_1 ?_
  refine j_aload_n (j := 0) dX2_init_4 rfl rfl ?_
  refine j_bipush (v := 100) dX2_init_5 (by decide) ?_
  replace h := zbE h
  obtain ⟨G1, e2, h⟩ := h
  refine j_newa (t := 0) (ty := .int) rfl rfl q455 (fun _ _ _ e1 e2 e3 => by simp only [zfv, e1, e2, e3] <;> rfl) (by decide) (fun _ _ h => h) e2 dX2_init_7 ?_
  replace h := zbE h
  obtain ⟨G3, e4, h⟩ := h
  refine j_putR fpX2_7_X2 (Or.inr rfl) (Or.inr ⟨_, rfl⟩) dX2_init_9 e4 ?_
  refine j_aload_n (j := 0) dX2_init_12 rfl rfl ?_
  refine j_bipush (v := 100) dX2_init_13 (by decide) ?_
  replace h := zbE h
  obtain ⟨G5, e6, h⟩ := h
  refine j_newa (t := 0) (ty := .int) rfl rfl q455 (fun _ _ _ e1 e2 e3 => by simp only [zfv, e1, e2, e3] <;> rfl) (by decide) (fun _ _ h => h) e6 dX2_init_15 ?_
  replace h := zbE h
  obtain ⟨G7, e8, h⟩ := h
  refine j_putR fpX2_13_X2 (Or.inr rfl) (Or.inr ⟨_, rfl⟩) dX2_init_17 e8 ?_
  refine j_aload_n (j := 0) dX2_init_20 rfl rfl ?_
  refine j_sipush (v := 2000) dX2_init_21 (by decide) ?_
  replace h := zbE h
  obtain ⟨G9, e10, h⟩ := h
  refine j_newa (t := 0) (ty := .int) rfl rfl q455 (fun _ _ _ e1 e2 e3 => by simp only [zfv, e1, e2, e3] <;> rfl) (by decide) (fun _ _ h => h) e10 dX2_init_24 ?_
  replace h := zbE h
  obtain ⟨G11, e12, h⟩ := h
  refine j_putR fpX2_16_X2 (Or.inr rfl) (Or.inr ⟨_, rfl⟩) dX2_init_26 e12 ?_
  refine j_aload_n (j := 0) dX2_init_29 rfl rfl ?_
  refine j_bipush (v := 100) dX2_init_30 (by decide) ?_
  replace h := zbE h
  obtain ⟨G13, e14, h⟩ := h
  refine j_newa (t := 0) (ty := .int) rfl rfl q455 (fun _ _ _ e1 e2 e3 => by simp only [zfv, e1, e2, e3] <;> rfl) (by decide) (fun _ _ h => h) e14 dX2_init_32 ?_
  replace h := zbE h
  obtain ⟨G15, e16, h⟩ := h
  refine j_putR fpX2_19_X2 (Or.inr rfl) (Or.inr ⟨_, rfl⟩) dX2_init_34 e16 ?_
  refine j_aload_n (j := 0) dX2_init_37 rfl rfl ?_
  refine j_bipush (v := 100) dX2_init_38 (by decide) ?_
  replace h := zbE h
  obtain ⟨G17, e18, h⟩ := h
  refine j_newa (t := 0) (ty := .int) rfl rfl q455 (fun _ _ _ e1 e2 e3 => by simp only [zfv, e1, e2, e3] <;> rfl) (by decide) (fun _ _ h => h) e18 dX2_init_40 ?_
  replace h := zbE h
  obtain ⟨G19, e20, h⟩ := h
  refine j_putR fpX2_22_X2 (Or.inr rfl) (Or.inr ⟨_, rfl⟩) dX2_init_42 e20 ?_
  refine j_aload_n (j := 0) dX2_init_45 rfl rfl ?_
  refine j_sipush (v := 2000) dX2_init_46 (by decide) ?_
  replace h := zbE h
  obtain ⟨G21, e22, h⟩ := h
  refine j_newa (t := 0) (ty := .int) rfl rfl q455 (fun _ _ _ e1 e2 e3 => by simp only [zfv, e1, e2, e3] <;> rfl) (by decide) (fun _ _ h => h) e22 dX2_init_49 ?_
  replace h := zbE h
  obtain ⟨G23, e24, h⟩ := h
  refine j_putR fpX2_25_X2 (Or.inr rfl) (Or.inr ⟨_, rfl⟩) dX2_init_51 e24 ?_
  refine j_aload_n (j := 0) dX2_init_54 rfl rfl ?_
  refine j_bipush (v := 12) dX2_init_55 (by decide) ?_
  replace h := zbE h
  obtain ⟨G25, e26, h⟩ := h
  refine j_newa (t := 0) (ty := .int) rfl rfl q455 (fun _ _ _ e1 e2 e3 => by simp only [zfv, e1, e2, e3] <;> rfl) (by decide) (fun _ _ h => h) e26 dX2_init_57 ?_
  replace h := zbE h
  obtain ⟨G27, e28, h⟩ := h
  refine j_putR fpX2_28_X2 (Or.inr rfl) (Or.inr ⟨_, rfl⟩) dX2_init_59 e28 ?_
  refine j_aload_n (j := 0) dX2_init_62 rfl rfl ?_
  refine j_bipush (v := 12) dX2_init_63 (by decide) ?_
  replace h := zbE h
  obtain ⟨G29, e30, h⟩ := h
  refine j_newa (t := 0) (ty := .int) rfl rfl q455 (fun _ _ _ e1 e2 e3 => by simp only [zfv, e1, e2, e3] <;> rfl) (by decide) (fun _ _ h => h) e30 dX2_init_65 ?_
  replace h := zbE h
  obtain ⟨G31, e32, h⟩ := h
  refine j_putR fpX2_31_X2 (Or.inr rfl) (Or.inr ⟨_, rfl⟩) dX2_init_67 e32 ?_
  refine j_aload_n (j := 0) dX2_init_70 rfl rfl ?_
  refine j_bipush (v := 12) dX2_init_71 (by decide) ?_
  replace h := zbE h
  obtain ⟨G33, e34, h⟩ := h
  refine j_newa (t := 0) (ty := .int) rfl rfl q455 (fun _ _ _ e1 e2 e3 => by simp only [zfv, e1, e2, e3] <;> rfl) (by decide) (fun _ _ h => h) e34 dX2_init_73 ?_
  replace h := zbE h
  obtain ⟨G35, e36, h⟩ := h
  refine j_putR fpX2_34_X2 (Or.inr rfl) (Or.inr ⟨_, rfl⟩) dX2_init_75 e36 ?_
  refine j_aload_n (j := 0) dX2_init_78 rfl rfl ?_
  refine j_sipush (v := 2196) dX2_init_79 (by decide) ?_
  replace h := zbE h
  obtain ⟨G37, e38, h⟩ := h
  refine j_newa (t := 2) (ty := .boolean) rfl rfl q2799 (fun _ _ _ e1 e2 e3 => by simp only [zfv, e1, e2, e3] <;> rfl) (by decide) (fun _ _ h => h) e38 dX2_init_82 ?_
  replace h := zbE h
  obtain ⟨G39, e40, h⟩ := h
  refine j_putR fpX2_37_X2 (Or.inr rfl) (Or.inr ⟨_, rfl⟩) dX2_init_84 e40 ?_
  refine j_aload_n (j := 0) dX2_init_87 rfl rfl ?_
  refine j_sipush (v := 2196) dX2_init_88 (by decide) ?_
  replace h := zbE h
  obtain ⟨G41, e42, h⟩ := h
  refine j_newa (t := 2) (ty := .boolean) rfl rfl q2799 (fun _ _ _ e1 e2 e3 => by simp only [zfv, e1, e2, e3] <;> rfl) (by decide) (fun _ _ h => h) e42 dX2_init_91 ?_
  replace h := zbE h
  obtain ⟨G43, e44, h⟩ := h
  refine j_putR fpX2_41_X2 (Or.inr rfl) (Or.inr ⟨_, rfl⟩) dX2_init_93 e44 ?_
  refine j_aload_n (j := 0) dX2_init_96 rfl rfl ?_
  refine j_sipush (v := 183) dX2_init_97 (by decide) ?_
  replace h := zbE h
  obtain ⟨G45, e46, h⟩ := h
  refine j_newa (t := 2) (ty := .boolean) rfl rfl q2799 (fun _ _ _ e1 e2 e3 => by simp only [zfv, e1, e2, e3] <;> rfl) (by decide) (fun _ _ h => h) e46 dX2_init_100 ?_
  replace h := zbE h
  obtain ⟨G47, e48, h⟩ := h
  refine j_putR fpX2_44_X2 (Or.inr rfl) (Or.inr ⟨_, rfl⟩) dX2_init_102 e48 ?_
  refine j_aload_n (j := 0) dX2_init_105 rfl rfl ?_
  refine j_sipush (v := 183) dX2_init_106 (by decide) ?_
  replace h := zbE h
  obtain ⟨G49, e50, h⟩ := h
  refine j_newa (t := 2) (ty := .boolean) rfl rfl q2799 (fun _ _ _ e1 e2 e3 => by simp only [zfv, e1, e2, e3] <;> rfl) (by decide) (fun _ _ h => h) e50 dX2_init_109 ?_
  replace h := zbE h
  obtain ⟨G51, e52, h⟩ := h
  refine j_putR fpX2_47_X2 (Or.inr rfl) (Or.inr ⟨_, rfl⟩) dX2_init_111 e52 ?_
  refine j_aload_n (j := 0) dX2_init_114 rfl rfl ?_
  refine j_sipush (v := 8784) dX2_init_115 (by decide) ?_
  replace h := zbE h
  obtain ⟨G53, e54, h⟩ := h
  refine j_newa (t := 2) (ty := .boolean) rfl rfl q2799 (fun _ _ _ e1 e2 e3 => by simp only [zfv, e1, e2, e3] <;> rfl) (by decide) (fun _ _ h => h) e54 dX2_init_118 ?_
  replace h := zbE h
  obtain ⟨G55, e56, h⟩ := h
  refine j_putR fpX2_50_X2 (Or.inr rfl) (Or.inr ⟨_, rfl⟩) dX2_init_120 e56 ?_
  refine j_aload_n (j := 0) dX2_init_123 rfl rfl ?_
  refine j_bipush (v := 12) dX2_init_124 (by decide) ?_
  replace h := zbE h
  obtain ⟨G57, e58, h⟩ := h
  refine j_newa (t := 0) (ty := .int) rfl rfl q455 (fun _ _ _ e1 e2 e3 => by simp only [zfv, e1, e2, e3] <;> rfl) (by decide) (fun _ _ h => h) e58 dX2_init_126 ?_
  replace h := zbE h
  obtain ⟨G59, e60, h⟩ := h
  refine j_putR fpX2_53_X2 (Or.inr rfl) (Or.inr ⟨_, rfl⟩) dX2_init_128 e60 ?_
  refine j_aload_n (j := 0) dX2_init_131 rfl rfl ?_
  refine j_bipush (v := 20) dX2_init_132 (by decide) ?_
  replace h := zbE h
  obtain ⟨G61, e62, h⟩ := h
  refine j_newa (t := 0) (ty := .int) rfl rfl q455 (fun _ _ _ e1 e2 e3 => by simp only [zfv, e1, e2, e3] <;> rfl) (by decide) (fun _ _ h => h) e62 dX2_init_134 ?_
  replace h := zbE h
  obtain ⟨G63, e64, h⟩ := h
  refine j_putR fpX2_56_X2 (Or.inr rfl) (Or.inr ⟨_, rfl⟩) dX2_init_136 e64 ?_
  refine j_aload_n (j := 0) dX2_init_139 rfl rfl ?_
  refine j_bipush (v := 100) dX2_init_140 (by decide) ?_
  replace h := zbE h
  obtain ⟨G65, e66, h⟩ := h
  refine j_newa (t := 0) (ty := .int) rfl rfl q455 (fun _ _ _ e1 e2 e3 => by simp only [zfv, e1, e2, e3] <;> rfl) (by decide) (fun _ _ h => h) e66 dX2_init_142 ?_
  replace h := zbE h
  obtain ⟨G67, e68, h⟩ := h
  refine j_putR fpX2_59_X2 (Or.inr rfl) (Or.inr ⟨_, rfl⟩) dX2_init_144 e68 ?_
  refine j_aload_n (j := 0) dX2_init_147 rfl rfl ?_
  refine j_sipush (v := 3700) dX2_init_148 (by decide) ?_
  replace h := zbE h
  obtain ⟨G69, e70, h⟩ := h
  refine j_newa (t := 0) (ty := .int) rfl rfl q455 (fun _ _ _ e1 e2 e3 => by simp only [zfv, e1, e2, e3] <;> rfl) (by decide) (fun _ _ h => h) e70 dX2_init_151 ?_
  replace h := zbE h
  obtain ⟨G71, e72, h⟩ := h
  refine j_putR fpX2_62_X2 (Or.inr rfl) (Or.inr ⟨_, rfl⟩) dX2_init_153 e72 ?_
  refine j_aload_n (j := 0) dX2_init_156 rfl rfl ?_
  refine j_bipush (v := 40) dX2_init_157 (by decide) ?_
  replace h := zbE h
  obtain ⟨G73, e74, h⟩ := h
  refine j_newa (t := 0) (ty := .int) rfl rfl q455 (fun _ _ _ e1 e2 e3 => by simp only [zfv, e1, e2, e3] <;> rfl) (by decide) (fun _ _ h => h) e74 dX2_init_159 ?_
  replace h := zbE h
  obtain ⟨G75, e76, h⟩ := h
  refine j_putR fpX2_65_X2 (Or.inr rfl) (Or.inr ⟨_, rfl⟩) dX2_init_161 e76 ?_
  refine j_aload_n (j := 0) dX2_init_164 rfl rfl ?_
  refine j_sipush (v := 400) dX2_init_165 (by decide) ?_
  replace h := zbE h
  obtain ⟨G77, e78, h⟩ := h
  refine j_newa (t := 0) (ty := .int) rfl rfl q455 (fun _ _ _ e1 e2 e3 => by simp only [zfv, e1, e2, e3] <;> rfl) (by decide) (fun _ _ h => h) e78 dX2_init_168 ?_
  replace h := zbE h
  obtain ⟨G79, e80, h⟩ := h
  refine j_putR fpX2_68_X2 (Or.inr rfl) (Or.inr ⟨_, rfl⟩) dX2_init_170 e80 ?_
  refine j_aload_n (j := 0) dX2_init_173 rfl rfl ?_
  refine j_sipush (v := 4200) dX2_init_174 (by decide) ?_
  replace h := zbE h
  obtain ⟨G81, e82, h⟩ := h
  refine j_newa (t := 0) (ty := .int) rfl rfl q455 (fun _ _ _ e1 e2 e3 => by simp only [zfv, e1, e2, e3] <;> rfl) (by decide) (fun _ _ h => h) e82 dX2_init_177 ?_
  replace h := zbE h
  obtain ⟨G83, e84, h⟩ := h
  refine j_putR fpX2_71_X2 (Or.inr rfl) (Or.inr ⟨_, rfl⟩) dX2_init_179 e84 ?_
  refine j_aload_n (j := 0) dX2_init_182 rfl rfl ?_
  refine j_sipush (v := 4200) dX2_init_183 (by decide) ?_
  replace h := zbE h
  obtain ⟨G85, e86, h⟩ := h
  refine j_newa (t := 0) (ty := .int) rfl rfl q455 (fun _ _ _ e1 e2 e3 => by simp only [zfv, e1, e2, e3] <;> rfl) (by decide) (fun _ _ h => h) e86 dX2_init_186 ?_
  replace h := zbE h
  obtain ⟨G87, e88, h⟩ := h
  refine j_putR fpX2_74_X2 (Or.inr rfl) (Or.inr ⟨_, rfl⟩) dX2_init_188 e88 ?_
  refine j_aload_n (j := 0) dX2_init_191 rfl rfl ?_
  refine j_sipush (v := 4200) dX2_init_192 (by decide) ?_
  replace h := zbE h
  obtain ⟨G89, e90, h⟩ := h
  refine j_newa (t := 2) (ty := .boolean) rfl rfl q2799 (fun _ _ _ e1 e2 e3 => by simp only [zfv, e1, e2, e3] <;> rfl) (by decide) (fun _ _ h => h) e90 dX2_init_195 ?_
  replace h := zbE h
  obtain ⟨G91, e92, h⟩ := h
  refine j_putR fpX2_77_X2 (Or.inr rfl) (Or.inr ⟨_, rfl⟩) dX2_init_197 e92 ?_
  refine j_aload_n (j := 0) dX2_init_200 rfl rfl ?_
  refine j_sipush (v := 3468) dX2_init_201 (by decide) ?_
  replace h := zbE h
  obtain ⟨G93, e94, h⟩ := h
  refine j_newa (t := 1) (ty := .long) rfl rfl q1339 (fun _ _ _ e1 e2 e3 => by simp only [zfv, e1, e2, e3] <;> rfl) (by decide) (fun _ _ h => h) e94 dX2_init_204 ?_
  replace h := zbE h
  obtain ⟨G95, e96, h⟩ := h
  refine j_putR fpX2_80_X2 (Or.inr rfl) (Or.inr ⟨_, rfl⟩) dX2_init_206 e96 ?_
  refine j_aload_n (j := 0) dX2_init_209 rfl rfl ?_
  refine j_bipush (v := 17) dX2_init_210 (by decide) ?_
  replace h := zbE h
  obtain ⟨G97, e98, h⟩ := h
  refine j_newa (t := 1) (ty := .long) rfl rfl q1339 (fun _ _ _ e1 e2 e3 => by simp only [zfv, e1, e2, e3] <;> rfl) (by decide) (fun _ _ h => h) e98 dX2_init_212 ?_
  replace h := zbE h
  obtain ⟨G99, e100, h⟩ := h
  refine j_putR fpX2_84_X2 (Or.inr rfl) (Or.inr ⟨_, rfl⟩) dX2_init_214 e100 ?_
  refine j_aload_n (j := 0) dX2_init_217 rfl rfl ?_
  refine j_bipush (v := 17) dX2_init_218 (by decide) ?_
  replace h := zbE h
  obtain ⟨G101, e102, h⟩ := h
  refine j_newa (t := 1) (ty := .long) rfl rfl q1339 (fun _ _ _ e1 e2 e3 => by simp only [zfv, e1, e2, e3] <;> rfl) (by decide) (fun _ _ h => h) e102 dX2_init_220 ?_
  replace h := zbE h
  obtain ⟨G103, e104, h⟩ := h
  refine j_putR fpX2_87_X2 (Or.inr rfl) (Or.inr ⟨_, rfl⟩) dX2_init_222 e104 ?_
  refine j_aload_n (j := 0) dX2_init_225 rfl rfl ?_
  refine j_bipush (v := 20) dX2_init_226 (by decide) ?_
  replace h := zbE h
  obtain ⟨G105, e106, h⟩ := h
  refine j_newa (t := 0) (ty := .int) rfl rfl q455 (fun _ _ _ e1 e2 e3 => by simp only [zfv, e1, e2, e3] <;> rfl) (by decide) (fun _ _ h => h) e106 dX2_init_228 ?_
  replace h := zbE h
  obtain ⟨G107, e108, h⟩ := h
  refine j_putR fpX2_90_X2 (Or.inr rfl) (Or.inr ⟨_, rfl⟩) dX2_init_230 e108 ?_
  obtain rfl := Option.some.inj h
  exact j_vret hk.1 hk.2 rfl dX2_init_233
theorem yX2_init_ok {t : Nat} {G : GS} {G1 : GS} (h : fX2_init_0 t G = some G1) : zRuns yX2_init (ws_ yX2_init cX2_init 1 none) [vR (some t)] (.inl none, G, G1, 2) :=
  zentry (M := mX2_init) (plainFor_of_name (by decide +kernel)) ⟨rfl, rfl, rfl, rfl⟩ (Nat.le_of_ble_eq_true rfl) (wfX2_init_0 (Nat.le_refl _) t G h ⟨rfl, rfl⟩)
abbrev mX2_isIn : zM := (cX2_isIn, RX2, 6, (some Jvm.ClassFile.FieldType.boolean), "isIn", [], "(JJJ)Z")
def fX2_isIn_17   (G : GS) : Option (Int32) :=
  zcond (zbb 0) (some 0)
theorem wfX2_isIn_17 {F : zF} (hd : 1 ≤ F.2.2.2)   (G : GS) {a : Int32} (h : fX2_isIn_17   G = some a) (hk : zKPI F G a) : J mX2_isIn F G 17 [] [] := by
  unfold fX2_isIn_17 at h
  refine j_iconst (v := 0) dX2_isIn_17 (by decide) ?_
  replace h := zcondE h
  obtain ⟨e1, h⟩ := h
  obtain rfl := Option.some.inj h
  exact j_zret hk.1 hk.2 rfl (zbb_n e1) dX2_isIn_18
def fX2_isIn_0 (x0 : Int64) (x2 : Int64) (x4 : Int64)  (G : GS) : Option (Int32) :=
  if (lg_cmp x0 x2) < 0 then (fX2_isIn_17 G) else (if 0 < (lg_cmp x0 x4) then (fX2_isIn_17 G) else (zcond (zbb 1) (some 1)))
theorem wfX2_isIn_0 {F : zF} (hd : 1 ≤ F.2.2.2) (x0 : Int64) (x2 : Int64) (x4 : Int64)  (G : GS) {a : Int32} (h : fX2_isIn_0 x0 x2 x4  G = some a) (hk : zKPI F G a) : J mX2_isIn F G 0 [(0, vL x0), (2, vL x2), (4, vL x4)] [] := by
  unfold fX2_isIn_0 at h
  refine j_lload_n (j := 0) dX2_isIn_0 rfl rfl ?_
  refine j_lload_n (j := 1) dX2_isIn_1 rfl rfl ?_
  refine j_lcmp dX2_isIn_2 ?_
  refine j_if_lt (tgt := 17) dX2_isIn_3 (by decide) (fun c1 => ?_) (fun c1 => ?_)
  · rw [if_pos c1] at h
    exact J.sub (zall [] rfl) (wfX2_isIn_17 hd   G h hk)
  · rw [if_neg c1] at h
    refine j_lload_n (j := 0) dX2_isIn_6 rfl rfl ?_
    refine j_lload (j := 2) dX2_isIn_7 rfl ?_
    refine j_lcmp dX2_isIn_9 ?_
    refine j_if_gt (tgt := 17) dX2_isIn_10 (by decide) (fun c2 => ?_) (fun c2 => ?_)
    · rw [if_pos c2] at h
      exact J.sub (zall [] rfl) (wfX2_isIn_17 hd   G h hk)
    · rw [if_neg c2] at h
      refine j_iconst (v := 1) dX2_isIn_13 (by decide) ?_
      refine j_goto (tgt := 18) dX2_isIn_14 (by decide) ?_
      replace h := zcondE h
      obtain ⟨e3, h⟩ := h
      obtain rfl := Option.some.inj h
      exact j_zret hk.1 hk.2 rfl (zbb_n e3) dX2_isIn_18
theorem yX2_isIn_ok {x0 : Int64} {x2 : Int64} {x4 : Int64} {G : GS} {r : Int32} (h : fX2_isIn_0 x0 x2 x4 G = some r) : zRuns yX2_isIn (ws_ yX2_isIn cX2_isIn 6 (some Jvm.ClassFile.FieldType.boolean)) [vL x0, vL x2, vL x4] (.inl (some (vI r)), G, G, 1) :=
  zentry (M := mX2_isIn) (plainFor_of_name (by decide +kernel)) ⟨rfl, rfl, rfl, rfl⟩ (Nat.le_of_ble_eq_true rfl) (wfX2_isIn_0 (Nat.le_refl _) x0 x2 x4 G h ⟨rfl, rfl⟩)
theorem msX2_103 : zSS RX2 103 yX2_isIn cX2_isIn 6 (some Jvm.ClassFile.FieldType.boolean) 3 := ⟨lw_S q2813 q2814 q131 q2815, (by decide +kernel), (by decide)⟩
abbrev mX2_isNonterminal : zM := (cX2_isNonterminal, RX2, 1, (some Jvm.ClassFile.FieldType.boolean), "isNonterminal", [], "(I)Z")
def fX2_isNonterminal_0 (x0 : Int32)  (G : GS) : Option (Int32) :=
  (fX2_isIn_0 x0.toInt64 20 31 G).bind fun v2 => zcond (zbb v2) (some v2)
theorem wfX2_isNonterminal_0 {F : zF} (hd : 2 ≤ F.2.2.2) (x0 : Int32)  (G : GS) {a : Int32} (h : fX2_isNonterminal_0 x0  G = some a) (hk : zKPI F G a) : J mX2_isNonterminal F G 0 [(0, vI x0)] [] := by
  unfold fX2_isNonterminal_0 at h
  refine j_iload_n (j := 0) dX2_isNonterminal_0 rfl rfl ?_
  refine j_i2l dX2_isNonterminal_1 ?_
  refine j_ldc2 (v := 20) q2811 dX2_isNonterminal_2 ?_
  refine j_ldc2 (v := 31) q2812 dX2_isNonterminal_5 ?_
  replace h := zbE h
  obtain ⟨v2, e1, h⟩ := h
  refine j_cont (zrS (As := [vL x0.toInt64, vL 20, vL 31]) msX2_103 (yX2_isIn_ok e1) (Nat.le_trans (Nat.le_of_ble_eq_true rfl) hd) rfl rfl (Nat.le_of_ble_eq_true rfl) dX2_isNonterminal_8) ?_
  replace h := zcondE h
  obtain ⟨e3, h⟩ := h
  obtain rfl := Option.some.inj h
  exact j_zret hk.1 hk.2 rfl (zbb_n e3) dX2_isNonterminal_11
theorem yX2_isNonterminal_ok {x0 : Int32} {G : GS} {r : Int32} (h : fX2_isNonterminal_0 x0 G = some r) : zRuns yX2_isNonterminal (ws_ yX2_isNonterminal cX2_isNonterminal 1 (some Jvm.ClassFile.FieldType.boolean)) [vI x0] (.inl (some (vI r)), G, G, 2) :=
  zentry (M := mX2_isNonterminal) (plainFor_of_name (by decide +kernel)) ⟨rfl, rfl, rfl, rfl⟩ (Nat.le_of_ble_eq_true rfl) (wfX2_isNonterminal_0 (Nat.le_refl _) x0 G h ⟨rfl, rfl⟩)
theorem fgX2_93 : zFG RX2 93 1 8 (.int) := ⟨(RX2, TX2, 42, tyX2), rfl, by decide, in_X2, rfl, "SelahGeneratorModel", Or.inl rfl, Or.inl q2680⟩
theorem fpX2_93_X2 : zFP RX2 93 1 8 (.int) false := ⟨(RX2, TX2, 42, tyX2), rfl, by decide, in_X2, tyX2_ok, nmX2, rfl, rfl, (by decide), "SelahGeneratorModel", Or.inl rfl, q2680⟩
abbrev mX2_goesBoth : zM := (cX2_goesBoth, RX2, 3, (some Jvm.ClassFile.FieldType.boolean), "goesBoth", [], "(ZZ)Z")
def fX2_goesBoth_18 (t : Nat) (s0 : Option Nat) (s1 : Int32) (G : GS) : Option ((Int32) × GS) :=
  s0.bind fun a1 => (zpI G 2 a1 8 s1).bind fun G3 => (zgI G3 2 t 8).bind fun v5 => if v5 = 0 then (zcond (zbb 1) (some (1, G3))) else (zcond (zbb 0) (some (0, G3)))
theorem wfX2_goesBoth_18 {F : zF} (hd : 1 ≤ F.2.2.2) (t : Nat) (s0 : Option Nat) (s1 : Int32) (G : GS) {a : (Int32) × GS} (h : fX2_goesBoth_18 t s0 s1 G = some a) (hk : zKI F a) : J mX2_goesBoth F G 18 [(0, vR (some t))] [vI s1, vR s0] := by
  unfold fX2_goesBoth_18 at h
  replace h := zbE h
  obtain ⟨a1, e2, h⟩ := h
  subst e2
  replace h := zbE h
  obtain ⟨G3, e4, h⟩ := h
  refine j_putI fpX2_93_X2 (Or.inl rfl) rfl dX2_goesBoth_18 e4 ?_
  refine j_aload_n (j := 0) dX2_goesBoth_21 rfl rfl ?_
  replace h := zbE h
  obtain ⟨v5, e6, h⟩ := h
  refine j_getI fgX2_93 (fun _ _ _ => rfl) dX2_goesBoth_22 e6 ?_
  refine j_if_ne (tgt := 32) dX2_goesBoth_25 (by decide) (fun c7 => ?_) (fun c7 => ?_)
  · rw [if_pos c7] at h
    refine j_iconst (v := 1) dX2_goesBoth_28 (by decide) ?_
    refine j_goto (tgt := 33) dX2_goesBoth_29 (by decide) ?_
    replace h := zcondE h
    obtain ⟨e8, h⟩ := h
    obtain rfl := Option.some.inj h
    exact j_zret hk.1 hk.2 rfl (zbb_n e8) dX2_goesBoth_33
  · rw [if_neg c7] at h
    refine j_iconst (v := 0) dX2_goesBoth_32 (by decide) ?_
    replace h := zcondE h
    obtain ⟨e9, h⟩ := h
    obtain rfl := Option.some.inj h
    exact j_zret hk.1 hk.2 rfl (zbb_n e9) dX2_goesBoth_33
def fX2_goesBoth_0 (t : Nat) (x1 : Int32) (x2 : Int32)  (G : GS) : Option ((Int32) × GS) :=
  if x1 = 0 then (fX2_goesBoth_18 t (some t) 1 G) else (if x2 = 0 then (fX2_goesBoth_18 t (some t) 2 G) else (fX2_goesBoth_18 t (some t) 0 G))
theorem wfX2_goesBoth_0 {F : zF} (hd : 1 ≤ F.2.2.2) (t : Nat) (x1 : Int32) (x2 : Int32)  (G : GS) {a : (Int32) × GS} (h : fX2_goesBoth_0 t x1 x2  G = some a) (hk : zKI F a) : J mX2_goesBoth F G 0 [(0, vR (some t)), (1, vI x1), (2, vI x2)] [] := by
  unfold fX2_goesBoth_0 at h
  refine j_aload_n (j := 0) dX2_goesBoth_0 rfl rfl ?_
  refine j_iload_n (j := 1) dX2_goesBoth_1 rfl rfl ?_
  refine j_if_ne (tgt := 9) dX2_goesBoth_2 (by decide) (fun c1 => ?_) (fun c1 => ?_)
  · rw [if_pos c1] at h
    refine j_iconst (v := 1) dX2_goesBoth_5 (by decide) ?_
    refine j_goto (tgt := 18) dX2_goesBoth_6 (by decide) ?_
    exact J.sub (zall [0] rfl) (wfX2_goesBoth_18 hd t (some t) 1 G h hk)
  · rw [if_neg c1] at h
    refine j_iload_n (j := 2) dX2_goesBoth_9 rfl rfl ?_
    refine j_if_ne (tgt := 17) dX2_goesBoth_10 (by decide) (fun c2 => ?_) (fun c2 => ?_)
    · rw [if_pos c2] at h
      refine j_iconst (v := 2) dX2_goesBoth_13 (by decide) ?_
      refine j_goto (tgt := 18) dX2_goesBoth_14 (by decide) ?_
      exact J.sub (zall [0] rfl) (wfX2_goesBoth_18 hd t (some t) 2 G h hk)
    · rw [if_neg c2] at h
      refine j_iconst (v := 0) dX2_goesBoth_17 (by decide) ?_
      exact J.sub (zall [0] rfl) (wfX2_goesBoth_18 hd t (some t) 0 G h hk)
theorem yX2_goesBoth_ok {t : Nat} {x1 : Int32} {x2 : Int32} {G : GS} {r : Int32} {G1 : GS} (h : fX2_goesBoth_0 t x1 x2 G = some (r, G1)) : zRuns yX2_goesBoth (ws_ yX2_goesBoth cX2_goesBoth 3 (some Jvm.ClassFile.FieldType.boolean)) [vR (some t), vI x1, vI x2] (.inl (some (vI r)), G, G1, 1) :=
  zentry (M := mX2_goesBoth) (plainFor_of_name (by decide +kernel)) ⟨rfl, rfl, rfl, rfl⟩ (Nat.le_of_ble_eq_true rfl) (wfX2_goesBoth_0 (Nat.le_refl _) t x1 x2 G h ⟨rfl, rfl⟩)
theorem fpX2_127_X2 : zFP RX2 127 1 13 (.boolean) false := ⟨(RX2, TX2, 42, tyX2), rfl, by decide, in_X2, tyX2_ok, nmX2, rfl, rfl, (by decide), "SelahGeneratorModel", Or.inl rfl, q2685⟩
theorem fpX2_131_X2 : zFP RX2 131 1 19 (.boolean) false := ⟨(RX2, TX2, 42, tyX2), rfl, by decide, in_X2, tyX2_ok, nmX2, rfl, rfl, (by decide), "SelahGeneratorModel", Or.inl rfl, q2691⟩
theorem fpX2_134_X2 : zFP RX2 134 1 30 (.int) false := ⟨(RX2, TX2, 42, tyX2), rfl, by decide, in_X2, tyX2_ok, nmX2, rfl, rfl, (by decide), "SelahGeneratorModel", Or.inl rfl, q2702⟩
theorem fpX2_137_X2 : zFP RX2 137 1 32 (.int) false := ⟨(RX2, TX2, 42, tyX2), rfl, by decide, in_X2, tyX2_ok, nmX2, rfl, rfl, (by decide), "SelahGeneratorModel", Or.inl rfl, q2704⟩
theorem fpX2_140_X2 : zFP RX2 140 1 33 (.int) false := ⟨(RX2, TX2, 42, tyX2), rfl, by decide, in_X2, tyX2_ok, nmX2, rfl, rfl, (by decide), "SelahGeneratorModel", Or.inl rfl, q2705⟩
theorem fpX2_143_X2 : zFP RX2 143 1 34 (.int) false := ⟨(RX2, TX2, 42, tyX2), rfl, by decide, in_X2, tyX2_ok, nmX2, rfl, rfl, (by decide), "SelahGeneratorModel", Or.inl rfl, q2706⟩
theorem fpX2_146_X2 : zFP RX2 146 1 35 (.int) false := ⟨(RX2, TX2, 42, tyX2), rfl, by decide, in_X2, tyX2_ok, nmX2, rfl, rfl, (by decide), "SelahGeneratorModel", Or.inl rfl, q2707⟩
abbrev mX2_changes : zM := (cX2_changes, RX2, 1, none, "changes", [], "()V")
def fX2_changes_0 (t : Nat)  (G : GS) : Option (GS) :=
  (zpZ G 2 t 13 0).bind fun G1 => (zpZ G1 2 t 19 0).bind fun G3 => (zpI G3 2 t 30 0).bind fun G5 => (zpI G5 2 t 32 0).bind fun G7 => (zpI G7 2 t 33 0).bind fun G9 => (zpI G9 2 t 34 0).bind fun G11 => (zpI G11 2 t 35 0).bind fun G13 => some G13
theorem wfX2_changes_0 {F : zF} (hd : 1 ≤ F.2.2.2) (t : Nat)  (G : GS) {a : GS} (h : fX2_changes_0 t  G = some a) (hk : zKV F a) : J mX2_changes F G 0 [(0, vR (some t))] [] := by
  unfold fX2_changes_0 at h
  refine j_aload_n (j := 0) dX2_changes_0 rfl rfl ?_
  refine j_iconst (v := 0) dX2_changes_1 (by decide) ?_
  replace h := zbE h
  obtain ⟨G1, e2, h⟩ := h
  refine j_putZ fpX2_127_X2 (Or.inl rfl) rfl dX2_changes_2 e2 ?_
  refine j_aload_n (j := 0) dX2_changes_5 rfl rfl ?_
  refine j_iconst (v := 0) dX2_changes_6 (by decide) ?_
  replace h := zbE h
  obtain ⟨G3, e4, h⟩ := h
  refine j_putZ fpX2_131_X2 (Or.inl rfl) rfl dX2_changes_7 e4 ?_
  refine j_aload_n (j := 0) dX2_changes_10 rfl rfl ?_
  refine j_iconst (v := 0) dX2_changes_11 (by decide) ?_
  replace h := zbE h
  obtain ⟨G5, e6, h⟩ := h
  refine j_putI fpX2_134_X2 (Or.inl rfl) rfl dX2_changes_12 e6 ?_
  refine j_aload_n (j := 0) dX2_changes_15 rfl rfl ?_
  refine j_iconst (v := 0) dX2_changes_16 (by decide) ?_
  replace h := zbE h
  obtain ⟨G7, e8, h⟩ := h
  refine j_putI fpX2_137_X2 (Or.inl rfl) rfl dX2_changes_17 e8 ?_
  refine j_aload_n (j := 0) dX2_changes_20 rfl rfl ?_
  refine j_iconst (v := 0) dX2_changes_21 (by decide) ?_
  replace h := zbE h
  obtain ⟨G9, e10, h⟩ := h
  refine j_putI fpX2_140_X2 (Or.inl rfl) rfl dX2_changes_22 e10 ?_
  refine j_aload_n (j := 0) dX2_changes_25 rfl rfl ?_
  refine j_iconst (v := 0) dX2_changes_26 (by decide) ?_
  replace h := zbE h
  obtain ⟨G11, e12, h⟩ := h
  refine j_putI fpX2_143_X2 (Or.inl rfl) rfl dX2_changes_27 e12 ?_
  refine j_aload_n (j := 0) dX2_changes_30 rfl rfl ?_
  refine j_iconst (v := 0) dX2_changes_31 (by decide) ?_
  replace h := zbE h
  obtain ⟨G13, e14, h⟩ := h
  refine j_putI fpX2_146_X2 (Or.inl rfl) rfl dX2_changes_32 e14 ?_
  obtain rfl := Option.some.inj h
  exact j_vret hk.1 hk.2 rfl dX2_changes_35
theorem yX2_changes_ok {t : Nat} {G : GS} {G1 : GS} (h : fX2_changes_0 t G = some G1) : zRuns yX2_changes (ws_ yX2_changes cX2_changes 1 none) [vR (some t)] (.inl none, G, G1, 1) :=
  zentry (M := mX2_changes) (plainFor_of_name (by decide +kernel)) ⟨rfl, rfl, rfl, rfl⟩ (Nat.le_of_ble_eq_true rfl) (wfX2_changes_0 (Nat.le_refl _) t G h ⟨rfl, rfl⟩)
theorem fgX2_13 : zFG RX2 13 1 1 (.array (.int)) := ⟨(RX2, TX2, 42, tyX2), rfl, by decide, in_X2, rfl, "SelahGeneratorModel", Or.inl rfl, Or.inl q2673⟩
theorem fgX2_16 : zFG RX2 16 1 2 (.array (.int)) := ⟨(RX2, TX2, 42, tyX2), rfl, by decide, in_X2, rfl, "SelahGeneratorModel", Or.inl rfl, Or.inl q2674⟩
theorem fgX2_7 : zFG RX2 7 1 0 (.array (.int)) := ⟨(RX2, TX2, 42, tyX2), rfl, by decide, in_X2, rfl, "SelahGeneratorModel", Or.inl rfl, Or.inl q2672⟩
abbrev mX2_copies : zM := (cX2_copies, RX2, 4, none, "copies", [], "(II)V")
def fbX2_copies_26 (t : Nat) (x1 : Int32) (x2 : Int32) (x3 : Int32)  (G : GS) : Option ((Int32 × GS) ⊕ (GS)) :=
  if 20 ≤ x3 then (zo (some G)) else ((zgR G 2 t 2).bind fun r2 => (zgR G 2 t 2).bind fun r4 => r4.bind fun a6 => (zaI G 50 a6 ((20 * x1) + x3)).bind fun v8 => r2.bind fun a10 => (zsI G 50 a10 ((20 * x2) + x3) v8).bind fun G12 => some (.inl ((x3 + 1), G12)))
def flX2_copies_26 (t : Nat) (x1 : Int32) (x2 : Int32) (x3 : Int32) (G : GS) : Option (GS) := zloop (fun s : Int32 × GS => fbX2_copies_26 t x1 x2 s.1 s.2) (x3, G)
theorem wfbX2_copies_26 {F : zF} (hd : 1 ≤ F.2.2.2) (t : Nat) (x1 : Int32) (x2 : Int32) (x3 : Int32) (G : GS) {a : (Int32 × GS) ⊕ (GS)} (h : fbX2_copies_26 t x1 x2 x3 G = some a) (hk : (zcase (fun s : Int32 × GS => J mX2_copies F s.2 26 [(0, vR (some t)), (1, vI x1), (2, vI x2), (3, vI s.1)] []) (zKV F)) a) : J mX2_copies F G 26 [(0, vR (some t)), (1, vI x1), (2, vI x2), (3, vI x3)] [] := by
  unfold fbX2_copies_26 at h
  refine j_iload_n (j := 3) dX2_copies_26 rfl rfl ?_
  refine j_bipush (v := 20) dX2_copies_27 (by decide) ?_
  refine j_icmp_ge (tgt := 60) dX2_copies_29 (by decide) (fun c1 => ?_) (fun c1 => ?_)
  · rw [if_pos c1] at h
    replace h := zoE h
    obtain ⟨a, h, rfl⟩ := h
    replace hk := hk
    obtain rfl := Option.some.inj h
    exact j_vret hk.1 hk.2 rfl dX2_copies_60
  · rw [if_neg c1] at h
    refine j_aload_n (j := 0) dX2_copies_32 rfl rfl ?_
    replace h := zbE h
    obtain ⟨r2, e3, h⟩ := h
    refine j_getR fgX2_16 (fun _ _ _ => rfl) dX2_copies_33 e3 ?_
    refine j_bipush (v := 20) dX2_copies_36 (by decide) ?_
    refine j_iload_n (j := 2) dX2_copies_38 rfl rfl ?_
    refine j_imul dX2_copies_39 ?_
    refine j_iload_n (j := 3) dX2_copies_40 rfl rfl ?_
    refine j_iadd dX2_copies_41 ?_
    refine j_aload_n (j := 0) dX2_copies_42 rfl rfl ?_
    replace h := zbE h
    obtain ⟨r4, e5, h⟩ := h
    refine j_getR fgX2_16 (fun _ _ _ => rfl) dX2_copies_43 e5 ?_
    refine j_bipush (v := 20) dX2_copies_46 (by decide) ?_
    refine j_iload_n (j := 1) dX2_copies_48 rfl rfl ?_
    refine j_imul dX2_copies_49 ?_
    refine j_iload_n (j := 3) dX2_copies_50 rfl rfl ?_
    refine j_iadd dX2_copies_51 ?_
    replace h := zbE h
    obtain ⟨a6, e7, h⟩ := h
    subst e7
    replace h := zbE h
    obtain ⟨v8, e9, h⟩ := h
    refine j_iald (Or.inl rfl) e9 dX2_copies_52 ?_
    replace h := zbE h
    obtain ⟨a10, e11, h⟩ := h
    subst e11
    replace h := zbE h
    obtain ⟨G12, e13, h⟩ := h
    refine j_iast e13 dX2_copies_53 ?_
    refine j_iinc (j := 3) (v := (x3 + 1)) (lv' := [(3, vI (x3 + 1)), (0, vR (some t)), (1, vI x1), (2, vI x2)]) dX2_copies_54 rfl rfl (Nat.le_of_ble_eq_true rfl) rfl ?_
    refine j_goto (tgt := 26) dX2_copies_57 (by decide) ?_
    obtain rfl := Option.some.inj h
    exact J.sub (zall [1, 2, 3, 0] rfl) hk
theorem wflX2_copies_26 {F : zF} (hd : 1 ≤ F.2.2.2) (t : Nat) (x1 : Int32) (x2 : Int32) (x3 : Int32) (G : GS) {a : GS} (h : flX2_copies_26 t x1 x2 x3 G = some a) (hk : zKV F a) : J mX2_copies F G 26 [(0, vR (some t)), (1, vI x1), (2, vI x2), (3, vI x3)] [] := by
  unfold flX2_copies_26 at h
  exact zloop_walk (P := (fun s : Int32 × GS => J mX2_copies F s.2 26 [(0, vR (some t)), (1, vI x1), (2, vI x2), (3, vI s.1)] [])) (fun s b e hk => wfbX2_copies_26 hd t x1 x2 s.1 s.2 e hk) (x3, G) _ h hk
def fX2_copies_0 (t : Nat) (x1 : Int32) (x2 : Int32)  (G : GS) : Option (GS) :=
  (zgR G 2 t 0).bind fun r1 => (zgR G 2 t 0).bind fun r3 => r3.bind fun a5 => (zaI G 50 a5 x1).bind fun v7 => r1.bind fun a9 => (zsI G 50 a9 x2 v7).bind fun G11 => (zgR G11 2 t 1).bind fun r13 => (zgR G11 2 t 1).bind fun r15 => r15.bind fun a17 => (zaI G11 50 a17 x1).bind fun v19 => r13.bind fun a21 => (zsI G11 50 a21 x2 v19).bind fun G23 => flX2_copies_26 t x1 x2 0 G23
theorem wfX2_copies_0 {F : zF} (hd : 1 ≤ F.2.2.2) (t : Nat) (x1 : Int32) (x2 : Int32)  (G : GS) {a : GS} (h : fX2_copies_0 t x1 x2  G = some a) (hk : zKV F a) : J mX2_copies F G 0 [(0, vR (some t)), (1, vI x1), (2, vI x2)] [] := by
  unfold fX2_copies_0 at h
  refine j_aload_n (j := 0) dX2_copies_0 rfl rfl ?_
  replace h := zbE h
  obtain ⟨r1, e2, h⟩ := h
  refine j_getR fgX2_7 (fun _ _ _ => rfl) dX2_copies_1 e2 ?_
  refine j_iload_n (j := 2) dX2_copies_4 rfl rfl ?_
  refine j_aload_n (j := 0) dX2_copies_5 rfl rfl ?_
  replace h := zbE h
  obtain ⟨r3, e4, h⟩ := h
  refine j_getR fgX2_7 (fun _ _ _ => rfl) dX2_copies_6 e4 ?_
  refine j_iload_n (j := 1) dX2_copies_9 rfl rfl ?_
  replace h := zbE h
  obtain ⟨a5, e6, h⟩ := h
  subst e6
  replace h := zbE h
  obtain ⟨v7, e8, h⟩ := h
  refine j_iald (Or.inl rfl) e8 dX2_copies_10 ?_
  replace h := zbE h
  obtain ⟨a9, e10, h⟩ := h
  subst e10
  replace h := zbE h
  obtain ⟨G11, e12, h⟩ := h
  refine j_iast e12 dX2_copies_11 ?_
  refine j_aload_n (j := 0) dX2_copies_12 rfl rfl ?_
  replace h := zbE h
  obtain ⟨r13, e14, h⟩ := h
  refine j_getR fgX2_13 (fun _ _ _ => rfl) dX2_copies_13 e14 ?_
  refine j_iload_n (j := 2) dX2_copies_16 rfl rfl ?_
  refine j_aload_n (j := 0) dX2_copies_17 rfl rfl ?_
  replace h := zbE h
  obtain ⟨r15, e16, h⟩ := h
  refine j_getR fgX2_13 (fun _ _ _ => rfl) dX2_copies_18 e16 ?_
  refine j_iload_n (j := 1) dX2_copies_21 rfl rfl ?_
  replace h := zbE h
  obtain ⟨a17, e18, h⟩ := h
  subst e18
  replace h := zbE h
  obtain ⟨v19, e20, h⟩ := h
  refine j_iald (Or.inl rfl) e20 dX2_copies_22 ?_
  replace h := zbE h
  obtain ⟨a21, e22, h⟩ := h
  subst e22
  replace h := zbE h
  obtain ⟨G23, e24, h⟩ := h
  refine j_iast e24 dX2_copies_23 ?_
  refine j_iconst (v := 0) dX2_copies_24 (by decide) ?_
  refine j_istore_n (lv' := [(3, vI 0), (0, vR (some t)), (1, vI x1), (2, vI x2)]) dX2_copies_25 rfl (Nat.le_of_ble_eq_true rfl) rfl ?_
  exact J.sub (zall [1, 2, 3, 0] rfl) (wflX2_copies_26 hd t x1 x2 0  G23 h hk)
theorem yX2_copies_ok {t : Nat} {x1 : Int32} {x2 : Int32} {G : GS} {G1 : GS} (h : fX2_copies_0 t x1 x2 G = some G1) : zRuns yX2_copies (ws_ yX2_copies cX2_copies 4 none) [vR (some t), vI x1, vI x2] (.inl none, G, G1, 1) :=
  zentry (M := mX2_copies) (plainFor_of_name (by decide +kernel)) ⟨rfl, rfl, rfl, rfl⟩ (Nat.le_of_ble_eq_true rfl) (wfX2_copies_0 (Nat.le_refl _) t x1 x2 G h ⟨rfl, rfl⟩)
theorem zk_2 : ∀ k, [2].contains k = true → zKc k = some "SelahGeneratorModel" := fun k h => by rw [zKc_one h]; rfl
theorem fgX2_113 : zFG RX2 113 1 6 (.int) := ⟨(RX2, TX2, 42, tyX2), rfl, by decide, in_X2, rfl, "SelahGeneratorModel", Or.inl rfl, Or.inl q2678⟩
theorem fpX2_113_X2 : zFP RX2 113 1 6 (.int) false := ⟨(RX2, TX2, 42, tyX2), rfl, by decide, in_X2, tyX2_ok, nmX2, rfl, rfl, (by decide), "SelahGeneratorModel", Or.inl rfl, q2678⟩
theorem msX2_116 : zSV RX2 116 RX2 yX2_copies cX2_copies 4 none 2 := ⟨lw_V q2832 q2834 qs62 q131 q2835, (by decide +kernel), (by decide)⟩
abbrev mX2_opens : zM := (cX2_opens, RX2, 3, none, "opens", [], "(I)V")
def fX2_opens_24 (t : Nat) (x1 : Int32)  (G : GS) : Option (GS) :=
  (zgI G 2 t 6).bind fun v1 => (zpI G 2 t 6 (v1 + 1)).bind fun G3 => (zgR G3 2 t 1).bind fun r5 => r5.bind fun a7 => (zsI G3 50 a7 x1 0).bind fun G9 => some G9
theorem wfX2_opens_24 {F : zF} (hd : 2 ≤ F.2.2.2) (t : Nat) (x1 : Int32)  (G : GS) {a : GS} (h : fX2_opens_24 t x1  G = some a) (hk : zKV F a) : J mX2_opens F G 24 [(0, vR (some t)), (1, vI x1)] [] := by
  unfold fX2_opens_24 at h
  refine j_aload_n (j := 0) dX2_opens_24 rfl rfl ?_
  refine j_dup dX2_opens_25 rfl ?_
  replace h := zbE h
  obtain ⟨v1, e2, h⟩ := h
  refine j_getI fgX2_113 (fun _ _ _ => rfl) dX2_opens_26 e2 ?_
  refine j_iconst (v := 1) dX2_opens_29 (by decide) ?_
  refine j_iadd dX2_opens_30 ?_
  replace h := zbE h
  obtain ⟨G3, e4, h⟩ := h
  refine j_putI fpX2_113_X2 (Or.inl rfl) rfl dX2_opens_31 e4 ?_
  refine j_aload_n (j := 0) dX2_opens_34 rfl rfl ?_
  replace h := zbE h
  obtain ⟨r5, e6, h⟩ := h
  refine j_getR fgX2_13 (fun _ _ _ => rfl) dX2_opens_35 e6 ?_
  refine j_iload_n (j := 1) dX2_opens_38 rfl rfl ?_
  refine j_iconst (v := 0) dX2_opens_39 (by decide) ?_
  replace h := zbE h
  obtain ⟨a7, e8, h⟩ := h
  subst e8
  replace h := zbE h
  obtain ⟨G9, e10, h⟩ := h
  refine j_iast e10 dX2_opens_40 ?_
  obtain rfl := Option.some.inj h
  exact j_vret hk.1 hk.2 rfl dX2_opens_41
def fbX2_opens_5 (t : Nat) (x1 : Int32) (x2 : Int32)  (G : GS) : Option ((Int32 × GS) ⊕ (GS)) :=
  if x2 ≤ x1 then (zo (fX2_opens_24 t x1 G)) else (zk [2] G t <| (fX2_copies_0 t (x2 - 1) x2 G).bind fun G4 => some (.inl ((x2 + (-1)), G4)))
def flX2_opens_5 (t : Nat) (x1 : Int32) (x2 : Int32) (G : GS) : Option (GS) := zloop (fun s : Int32 × GS => fbX2_opens_5 t x1 s.1 s.2) (x2, G)
theorem wfbX2_opens_5 {F : zF} (hd : 2 ≤ F.2.2.2) (t : Nat) (x1 : Int32) (x2 : Int32) (G : GS) {a : (Int32 × GS) ⊕ (GS)} (h : fbX2_opens_5 t x1 x2 G = some a) (hk : (zcase (fun s : Int32 × GS => J mX2_opens F s.2 5 [(0, vR (some t)), (1, vI x1), (2, vI s.1)] []) (zKV F)) a) : J mX2_opens F G 5 [(0, vR (some t)), (1, vI x1), (2, vI x2)] [] := by
  unfold fbX2_opens_5 at h
  refine j_iload_n (j := 2) dX2_opens_5 rfl rfl ?_
  refine j_iload_n (j := 1) dX2_opens_6 rfl rfl ?_
  refine j_icmp_le (tgt := 24) dX2_opens_7 (by decide) (fun c1 => ?_) (fun c1 => ?_)
  · rw [if_pos c1] at h
    replace h := zoE h
    obtain ⟨a, h, rfl⟩ := h
    replace hk := hk
    exact J.sub (zall [0, 1] rfl) (wfX2_opens_24 hd t x1  G h hk)
  · rw [if_neg c1] at h
    refine j_aload_n (j := 0) dX2_opens_10 rfl rfl ?_
    refine j_iload_n (j := 2) dX2_opens_11 rfl rfl ?_
    refine j_iconst (v := 1) dX2_opens_12 (by decide) ?_
    refine j_isub dX2_opens_13 ?_
    refine j_iload_n (j := 2) dX2_opens_14 rfl rfl ?_
    replace h := zkE h
    obtain ⟨e2, h⟩ := h
    replace h := zbE h
    obtain ⟨G4, e3, h⟩ := h
    refine j_cont (zrV (As := [vI (x2 - 1), vI x2]) msX2_116 (yX2_copies_ok e3) (Nat.le_trans (Nat.le_of_ble_eq_true rfl) hd) (zk_2 _ e2) rfl rfl (Nat.le_of_ble_eq_true rfl) dX2_opens_15) ?_
    refine j_iinc (j := 2) (v := (x2 + (-1))) (lv' := [(2, vI (x2 + (-1))), (0, vR (some t)), (1, vI x1)]) dX2_opens_18 rfl rfl (Nat.le_of_ble_eq_true rfl) rfl ?_
    refine j_goto (tgt := 5) dX2_opens_21 (by decide) ?_
    obtain rfl := Option.some.inj h
    exact J.sub (zall [1, 2, 0] rfl) hk
theorem wflX2_opens_5 {F : zF} (hd : 2 ≤ F.2.2.2) (t : Nat) (x1 : Int32) (x2 : Int32) (G : GS) {a : GS} (h : flX2_opens_5 t x1 x2 G = some a) (hk : zKV F a) : J mX2_opens F G 5 [(0, vR (some t)), (1, vI x1), (2, vI x2)] [] := by
  unfold flX2_opens_5 at h
  exact zloop_walk (P := (fun s : Int32 × GS => J mX2_opens F s.2 5 [(0, vR (some t)), (1, vI x1), (2, vI s.1)] [])) (fun s b e hk => wfbX2_opens_5 hd t x1 s.1 s.2 e hk) (x2, G) _ h hk
def fX2_opens_0 (t : Nat) (x1 : Int32)  (G : GS) : Option (GS) :=
  (zgI G 2 t 6).bind fun v1 => flX2_opens_5 t x1 v1 G
theorem wfX2_opens_0 {F : zF} (hd : 2 ≤ F.2.2.2) (t : Nat) (x1 : Int32)  (G : GS) {a : GS} (h : fX2_opens_0 t x1  G = some a) (hk : zKV F a) : J mX2_opens F G 0 [(0, vR (some t)), (1, vI x1)] [] := by
  unfold fX2_opens_0 at h
  refine j_aload_n (j := 0) dX2_opens_0 rfl rfl ?_
  replace h := zbE h
  obtain ⟨v1, e2, h⟩ := h
  refine j_getI fgX2_113 (fun _ _ _ => rfl) dX2_opens_1 e2 ?_
  refine j_istore_n (lv' := [(2, vI v1), (0, vR (some t)), (1, vI x1)]) dX2_opens_4 rfl (Nat.le_of_ble_eq_true rfl) rfl ?_
  exact J.sub (zall [1, 2, 0] rfl) (wflX2_opens_5 hd t x1 v1  G h hk)
theorem yX2_opens_ok {t : Nat} {x1 : Int32} {G : GS} {G1 : GS} (h : fX2_opens_0 t x1 G = some G1) : zRuns yX2_opens (ws_ yX2_opens cX2_opens 3 none) [vR (some t), vI x1] (.inl none, G, G1, 2) :=
  zentry (M := mX2_opens) (plainFor_of_name (by decide +kernel)) ⟨rfl, rfl, rfl, rfl⟩ (Nat.le_of_ble_eq_true rfl) (wfX2_opens_0 (Nat.le_refl _) t x1 G h ⟨rfl, rfl⟩)
theorem msX2_120 : zSV RX2 120 RX2 yX2_opens cX2_opens 3 none 1 := ⟨lw_V q2828 q2830 qs61 q131 q2831, (by decide +kernel), (by decide)⟩
abbrev mX2_begins : zM := (cX2_begins, RX2, 2, (some Jvm.ClassFile.FieldType.int), "begins", [], "(I)I")
def fX2_begins_0 (t : Nat) (x1 : Int32)  (G : GS) : Option ((Int32) × GS) :=
  (zgI G 2 t 6).bind fun v1 => zk [2] G t <| (fX2_opens_0 t v1 G).bind fun G5 => (zgR G5 2 t 0).bind fun r6 => (zgI G5 2 t 6).bind fun v8 => r6.bind fun a10 => (zsI G5 50 a10 (v8 - 1) x1).bind fun G12 => (zgI G12 2 t 6).bind fun v14 => some ((v14 - 1), G12)
theorem wfX2_begins_0 {F : zF} (hd : 3 ≤ F.2.2.2) (t : Nat) (x1 : Int32)  (G : GS) {a : (Int32) × GS} (h : fX2_begins_0 t x1  G = some a) (hk : zKI F a) : J mX2_begins F G 0 [(0, vR (some t)), (1, vI x1)] [] := by
  unfold fX2_begins_0 at h
  refine j_aload_n (j := 0) dX2_begins_0 rfl rfl ?_
  refine j_aload_n (j := 0) dX2_begins_1 rfl rfl ?_
  replace h := zbE h
  obtain ⟨v1, e2, h⟩ := h
  refine j_getI fgX2_113 (fun _ _ _ => rfl) dX2_begins_2 e2 ?_
  replace h := zkE h
  obtain ⟨e3, h⟩ := h
  replace h := zbE h
  obtain ⟨G5, e4, h⟩ := h
  refine j_cont (zrV (As := [vI v1]) msX2_120 (yX2_opens_ok e4) (Nat.le_trans (Nat.le_of_ble_eq_true rfl) hd) (zk_2 _ e3) rfl rfl (Nat.le_of_ble_eq_true rfl) dX2_begins_5) ?_
  refine j_aload_n (j := 0) dX2_begins_8 rfl rfl ?_
  replace h := zbE h
  obtain ⟨r6, e7, h⟩ := h
  refine j_getR fgX2_7 (fun _ _ _ => rfl) dX2_begins_9 e7 ?_
  refine j_aload_n (j := 0) dX2_begins_12 rfl rfl ?_
  replace h := zbE h
  obtain ⟨v8, e9, h⟩ := h
  refine j_getI fgX2_113 (fun _ _ _ => rfl) dX2_begins_13 e9 ?_
  refine j_iconst (v := 1) dX2_begins_16 (by decide) ?_
  refine j_isub dX2_begins_17 ?_
  refine j_iload_n (j := 1) dX2_begins_18 rfl rfl ?_
  replace h := zbE h
  obtain ⟨a10, e11, h⟩ := h
  subst e11
  replace h := zbE h
  obtain ⟨G12, e13, h⟩ := h
  refine j_iast e13 dX2_begins_19 ?_
  refine j_aload_n (j := 0) dX2_begins_20 rfl rfl ?_
  replace h := zbE h
  obtain ⟨v14, e15, h⟩ := h
  refine j_getI fgX2_113 (fun _ _ _ => rfl) dX2_begins_21 e15 ?_
  refine j_iconst (v := 1) dX2_begins_24 (by decide) ?_
  refine j_isub dX2_begins_25 ?_
  obtain rfl := Option.some.inj h
  exact j_iret hk.1 hk.2 rfl dX2_begins_26
theorem yX2_begins_ok {t : Nat} {x1 : Int32} {G : GS} {r : Int32} {G1 : GS} (h : fX2_begins_0 t x1 G = some (r, G1)) : zRuns yX2_begins (ws_ yX2_begins cX2_begins 2 (some Jvm.ClassFile.FieldType.int)) [vR (some t), vI x1] (.inl (some (vI r)), G, G1, 3) :=
  zentry (M := mX2_begins) (plainFor_of_name (by decide +kernel)) ⟨rfl, rfl, rfl, rfl⟩ (Nat.le_of_ble_eq_true rfl) (wfX2_begins_0 (Nat.le_refl _) t x1 G h ⟨rfl, rfl⟩)
theorem msX2_149 : zSS RX2 149 yX2_isNonterminal cX2_isNonterminal 1 (some Jvm.ClassFile.FieldType.boolean) 1 := ⟨lw_S q2808 q2809 q131 q2810, (by decide +kernel), (by decide)⟩
theorem msX2_153 : zSV RX2 153 RX2 yX2_goesBoth cX2_goesBoth 3 (some Jvm.ClassFile.FieldType.boolean) 2 := ⟨lw_V q2816 q2818 qs58 q131 q2819, (by decide +kernel), (by decide)⟩
theorem msX2_157 : zSV RX2 157 RX2 yX2_changes cX2_changes 1 none 0 := ⟨lw_V q2820 q2822 qs59 q131 q2823, (by decide +kernel), (by decide)⟩
theorem msX2_160 : zSV RX2 160 RX2 yX2_begins cX2_begins 2 (some Jvm.ClassFile.FieldType.int) 1 := ⟨lw_V q2824 q2826 qs60 q131 q2827, (by decide +kernel), (by decide)⟩
abbrev mX2_addRule : zM := (cX2_addRule, RX2, 2, (some Jvm.ClassFile.FieldType.int), "addRule", [], "(I)I")
def fX2_addRule_19 (t : Nat) (x1 : Int32) (s0 : Option Nat) (s1 : Int32) (s2 : Int32) (G : GS) : Option ((Int32) × GS) :=
  s0.bind fun a1 => zk [2] G a1 <| zb2 (fX2_goesBoth_0 a1 s1 s2 G) fun v5 G6 => if v5 = 0 then (some (0, G6)) else (zk [2] G6 t <| (fX2_changes_0 t G6).bind fun G10 => zk [2] G10 t <| zb2 (fX2_begins_0 t x1 G10) fun v13 G14 => some (v13, G14))
theorem wfX2_addRule_19 {F : zF} (hd : 4 ≤ F.2.2.2) (t : Nat) (x1 : Int32) (s0 : Option Nat) (s1 : Int32) (s2 : Int32) (G : GS) {a : (Int32) × GS} (h : fX2_addRule_19 t x1 s0 s1 s2 G = some a) (hk : zKI F a) : J mX2_addRule F G 19 [(0, vR (some t)), (1, vI x1)] [vI s2, vI s1, vR s0] := by
  unfold fX2_addRule_19 at h
  replace h := zbE h
  obtain ⟨a1, e2, h⟩ := h
  subst e2
  replace h := zkE h
  obtain ⟨e3, h⟩ := h
  replace h := zb2E h
  obtain ⟨v5, G6, e4, h⟩ := h
  refine j_cont (zrV (As := [vI s1, vI s2]) msX2_153 (yX2_goesBoth_ok e4) (Nat.le_trans (Nat.le_of_ble_eq_true rfl) hd) (zk_2 _ e3) rfl rfl (Nat.le_of_ble_eq_true rfl) dX2_addRule_19) ?_
  refine j_if_ne (tgt := 27) dX2_addRule_22 (by decide) (fun c7 => ?_) (fun c7 => ?_)
  · rw [if_pos c7] at h
    refine j_iconst (v := 0) dX2_addRule_25 (by decide) ?_
    obtain rfl := Option.some.inj h
    exact j_iret hk.1 hk.2 rfl dX2_addRule_26
  · rw [if_neg c7] at h
    refine j_aload_n (j := 0) dX2_addRule_27 rfl rfl ?_
    replace h := zkE h
    obtain ⟨e8, h⟩ := h
    replace h := zbE h
    obtain ⟨G10, e9, h⟩ := h
    refine j_cont (zrV (As := []) msX2_157 (yX2_changes_ok e9) (Nat.le_trans (Nat.le_of_ble_eq_true rfl) hd) (zk_2 _ e8) rfl rfl (Nat.le_of_ble_eq_true rfl) dX2_addRule_28) ?_
    refine j_aload_n (j := 0) dX2_addRule_31 rfl rfl ?_
    refine j_iload_n (j := 1) dX2_addRule_32 rfl rfl ?_
    replace h := zkE h
    obtain ⟨e11, h⟩ := h
    replace h := zb2E h
    obtain ⟨v13, G14, e12, h⟩ := h
    refine j_cont (zrV (As := [vI x1]) msX2_160 (yX2_begins_ok e12) (Nat.le_trans (Nat.le_of_ble_eq_true rfl) hd) (zk_2 _ e11) rfl rfl (Nat.le_of_ble_eq_true rfl) dX2_addRule_33) ?_
    obtain rfl := Option.some.inj h
    exact j_iret hk.1 hk.2 rfl dX2_addRule_36
def fX2_addRule_0 (t : Nat) (x1 : Int32)  (G : GS) : Option ((Int32) × GS) :=
  (fX2_isNonterminal_0 x1 G).bind fun v2 => (zgI G 2 t 6).bind fun v3 => if 48 ≤ v3 then (fX2_addRule_19 t x1 (some t) v2 0 G) else (fX2_addRule_19 t x1 (some t) v2 1 G)
theorem wfX2_addRule_0 {F : zF} (hd : 4 ≤ F.2.2.2) (t : Nat) (x1 : Int32)  (G : GS) {a : (Int32) × GS} (h : fX2_addRule_0 t x1  G = some a) (hk : zKI F a) : J mX2_addRule F G 0 [(0, vR (some t)), (1, vI x1)] [] := by
  unfold fX2_addRule_0 at h
  refine j_aload_n (j := 0) dX2_addRule_0 rfl rfl ?_
  refine j_iload_n (j := 1) dX2_addRule_1 rfl rfl ?_
  replace h := zbE h
  obtain ⟨v2, e1, h⟩ := h
  refine j_cont (zrS (As := [vI x1]) msX2_149 (yX2_isNonterminal_ok e1) (Nat.le_trans (Nat.le_of_ble_eq_true rfl) hd) rfl rfl (Nat.le_of_ble_eq_true rfl) dX2_addRule_2) ?_
  refine j_aload_n (j := 0) dX2_addRule_5 rfl rfl ?_
  replace h := zbE h
  obtain ⟨v3, e4, h⟩ := h
  refine j_getI fgX2_113 (fun _ _ _ => rfl) dX2_addRule_6 e4 ?_
  refine j_bipush (v := 48) dX2_addRule_9 (by decide) ?_
  refine j_icmp_ge (tgt := 18) dX2_addRule_11 (by decide) (fun c5 => ?_) (fun c5 => ?_)
  · rw [if_pos c5] at h
    refine j_iconst (v := 0) dX2_addRule_18 (by decide) ?_
    exact J.sub (zall [0, 1] rfl) (wfX2_addRule_19 hd t x1 (some t) v2 0 G h hk)
  · rw [if_neg c5] at h
    refine j_iconst (v := 1) dX2_addRule_14 (by decide) ?_
    refine j_goto (tgt := 19) dX2_addRule_15 (by decide) ?_
    exact J.sub (zall [0, 1] rfl) (wfX2_addRule_19 hd t x1 (some t) v2 1 G h hk)
theorem yX2_addRule_ok {t : Nat} {x1 : Int32} {G : GS} {r : Int32} {G1 : GS} (h : fX2_addRule_0 t x1 G = some (r, G1)) : zRuns yX2_addRule (ws_ yX2_addRule cX2_addRule 2 (some Jvm.ClassFile.FieldType.int)) [vR (some t), vI x1] (.inl (some (vI r)), G, G1, 4) :=
  zentry (M := mX2_addRule) (plainFor_of_name (by decide +kernel)) ⟨rfl, rfl, rfl, rfl⟩ (Nat.le_of_ble_eq_true rfl) (wfX2_addRule_0 (Nat.le_refl _) t x1 G h ⟨rfl, rfl⟩)
theorem fgX2_44 : zFG RX2 44 1 17 (.array (.boolean)) := ⟨(RX2, TX2, 42, tyX2), rfl, by decide, in_X2, rfl, "SelahGeneratorModel", Or.inl rfl, Or.inl q2689⟩
abbrev mX2_adds : zM := (cX2_adds, RX2, 6, (some Jvm.ClassFile.FieldType.boolean), "adds", [], "([ZII)Z")
def fX2_adds_74 (t : Nat) (x1 : Option Nat) (x2 : Int32) (x4 : Int32) (x5 : Int32) (s0 : Option Nat) (s1 : Int32) (s2 : Int32) (G : GS) : Option ((Int32 × Int32 × GS) ⊕ ((Int32) × GS)) :=
  s0.bind fun a1 => (zsZ G 52 a1 s1 s2).bind fun G3 => some (.inl (x4, (x5 + 1), G3))
theorem wfX2_adds_74 {F : zF} (hd : 1 ≤ F.2.2.2) (t : Nat) (x1 : Option Nat) (x2 : Int32) (x4 : Int32) (x5 : Int32) (s0 : Option Nat) (s1 : Int32) (s2 : Int32) (G : GS) {a : (Int32 × Int32 × GS) ⊕ ((Int32) × GS)} (h : fX2_adds_74 t x1 x2 x4 x5 s0 s1 s2 G = some a) (hk : (zcase (fun s : Int32 × Int32 × GS => J mX2_adds F s.2.2 6 [(0, vR (some t)), (1, vR x1), (2, vI x2), (4, vI s.1), (5, vI s.2.1)] []) (zKI F)) a) : J mX2_adds F G 74 [(0, vR (some t)), (1, vR x1), (2, vI x2), (4, vI x4), (5, vI x5)] [vI s2, vI s1, vR s0] := by
  unfold fX2_adds_74 at h
  replace h := zbE h
  obtain ⟨a1, e2, h⟩ := h
  subst e2
  replace h := zbE h
  obtain ⟨G3, e4, h⟩ := h
  refine j_zast e4 dX2_adds_74 ?_
  refine j_iinc (j := 4) (v := (x5 + 1)) (lv' := [(5, vI (x5 + 1)), (0, vR (some t)), (1, vR x1), (2, vI x2), (4, vI x4)]) dX2_adds_75 rfl rfl (Nat.le_of_ble_eq_true rfl) rfl ?_
  refine j_goto (tgt := 6) dX2_adds_78 (by decide) ?_
  obtain rfl := Option.some.inj h
  exact J.sub (zall [1, 2, 3, 4, 0] rfl) hk
def fX2_adds_69 (t : Nat) (x1 : Option Nat) (x2 : Int32) (x4 : Int32) (x5 : Int32) (s0 : Option Nat) (s1 : Int32) (G : GS) : Option ((Int32 × Int32 × GS) ⊕ ((Int32) × GS)) :=
  fX2_adds_74 t x1 x2 x4 x5 s0 s1 1 G
theorem wfX2_adds_69 {F : zF} (hd : 1 ≤ F.2.2.2) (t : Nat) (x1 : Option Nat) (x2 : Int32) (x4 : Int32) (x5 : Int32) (s0 : Option Nat) (s1 : Int32) (G : GS) {a : (Int32 × Int32 × GS) ⊕ ((Int32) × GS)} (h : fX2_adds_69 t x1 x2 x4 x5 s0 s1 G = some a) (hk : (zcase (fun s : Int32 × Int32 × GS => J mX2_adds F s.2.2 6 [(0, vR (some t)), (1, vR x1), (2, vI x2), (4, vI s.1), (5, vI s.2.1)] []) (zKI F)) a) : J mX2_adds F G 69 [(0, vR (some t)), (1, vR x1), (2, vI x2), (4, vI x4), (5, vI x5)] [vI s1, vR s0] := by
  unfold fX2_adds_69 at h
  refine j_iconst (v := 1) dX2_adds_69 (by decide) ?_
  refine j_goto (tgt := 74) dX2_adds_70 (by decide) ?_
  exact J.sub (zall [0, 1, 2, 3, 4] rfl) (wfX2_adds_74 hd t x1 x2 x4 x5 s0 s1 1 G h hk)
def fX2_adds_43 (t : Nat) (x1 : Option Nat) (x2 : Int32) (x5 : Int32) (s0 : Int32) (G : GS) : Option ((Int32 × Int32 × GS) ⊕ ((Int32) × GS)) :=
  x1.bind fun a1 => (zaI G 52 a1 (x2 + x5)).bind fun v3 => if v3 = 0 then ((zgR G 2 t 17).bind fun r6 => r6.bind fun a8 => (zaI G 52 a8 x5).bind fun v10 => if v10 = 0 then (fX2_adds_74 t (some a1) x2 s0 x5 (some a1) (x2 + x5) 0 G) else (fX2_adds_69 t (some a1) x2 s0 x5 (some a1) (x2 + x5) G)) else (fX2_adds_69 t (some a1) x2 s0 x5 (some a1) (x2 + x5) G)
theorem wfX2_adds_43 {F : zF} (hd : 1 ≤ F.2.2.2) (t : Nat) (x1 : Option Nat) (x2 : Int32) (x5 : Int32) (s0 : Int32) (G : GS) {a : (Int32 × Int32 × GS) ⊕ ((Int32) × GS)} (h : fX2_adds_43 t x1 x2 x5 s0 G = some a) (hk : (zcase (fun s : Int32 × Int32 × GS => J mX2_adds F s.2.2 6 [(0, vR (some t)), (1, vR x1), (2, vI x2), (4, vI s.1), (5, vI s.2.1)] []) (zKI F)) a) : J mX2_adds F G 43 [(0, vR (some t)), (1, vR x1), (2, vI x2), (5, vI x5)] [vI s0] := by
  unfold fX2_adds_43 at h
  refine j_istore (lv' := [(4, vI s0), (0, vR (some t)), (1, vR x1), (2, vI x2), (5, vI x5)]) dX2_adds_43 (Nat.le_of_ble_eq_true rfl) rfl ?_
  refine j_aload_n (j := 2) dX2_adds_45 rfl rfl ?_
  refine j_iload_n (j := 3) dX2_adds_46 rfl rfl ?_
  refine j_iload (j := 4) dX2_adds_47 rfl ?_
  refine j_iadd dX2_adds_49 ?_
  refine j_aload_n (j := 2) dX2_adds_50 rfl rfl ?_
  refine j_iload_n (j := 3) dX2_adds_51 rfl rfl ?_
  refine j_iload (j := 4) dX2_adds_52 rfl ?_
  refine j_iadd dX2_adds_54 ?_
  replace h := zbE h
  obtain ⟨a1, e2, h⟩ := h
  subst e2
  replace h := zbE h
  obtain ⟨v3, e4, h⟩ := h
  refine j_zald rfl e4 dX2_adds_55 ?_
  refine j_if_ne (tgt := 69) dX2_adds_56 (by decide) (fun c5 => ?_) (fun c5 => ?_)
  · rw [if_pos c5] at h
    refine j_aload_n (j := 1) dX2_adds_59 rfl rfl ?_
    replace h := zbE h
    obtain ⟨r6, e7, h⟩ := h
    refine j_getR fgX2_44 (fun _ _ _ => rfl) dX2_adds_60 e7 ?_
    refine j_iload (j := 4) dX2_adds_63 rfl ?_
    replace h := zbE h
    obtain ⟨a8, e9, h⟩ := h
    subst e9
    replace h := zbE h
    obtain ⟨v10, e11, h⟩ := h
    refine j_zald rfl e11 dX2_adds_65 ?_
    refine j_if_eq (tgt := 73) dX2_adds_66 (by decide) (fun c12 => ?_) (fun c12 => ?_)
    · rw [if_pos c12] at h
      refine j_iconst (v := 0) dX2_adds_73 (by decide) ?_
      exact J.sub (zall [1, 2, 3, 0, 4] rfl) (wfX2_adds_74 hd t (some a1) x2 s0 x5 (some a1) (x2 + x5) 0 G h hk)
    · rw [if_neg c12] at h
      exact J.sub (zall [1, 2, 3, 0, 4] rfl) (wfX2_adds_69 hd t (some a1) x2 s0 x5 (some a1) (x2 + x5) G h hk)
  · rw [if_neg c5] at h
    exact J.sub (zall [1, 2, 3, 0, 4] rfl) (wfX2_adds_69 hd t (some a1) x2 s0 x5 (some a1) (x2 + x5) G h hk)
def fX2_adds_42 (t : Nat) (x1 : Option Nat) (x2 : Int32) (x5 : Int32)  (G : GS) : Option ((Int32 × Int32 × GS) ⊕ ((Int32) × GS)) :=
  fX2_adds_43 t x1 x2 x5 0 G
theorem wfX2_adds_42 {F : zF} (hd : 1 ≤ F.2.2.2) (t : Nat) (x1 : Option Nat) (x2 : Int32) (x5 : Int32)  (G : GS) {a : (Int32 × Int32 × GS) ⊕ ((Int32) × GS)} (h : fX2_adds_42 t x1 x2 x5  G = some a) (hk : (zcase (fun s : Int32 × Int32 × GS => J mX2_adds F s.2.2 6 [(0, vR (some t)), (1, vR x1), (2, vI x2), (4, vI s.1), (5, vI s.2.1)] []) (zKI F)) a) : J mX2_adds F G 42 [(0, vR (some t)), (1, vR x1), (2, vI x2), (5, vI x5)] [] := by
  unfold fX2_adds_42 at h
  refine j_iconst (v := 0) dX2_adds_42 (by decide) ?_
  exact J.sub (zall [0, 1, 2, 3] rfl) (wfX2_adds_43 hd t x1 x2 x5 0 G h hk)
def fX2_adds_38 (t : Nat) (x1 : Option Nat) (x2 : Int32) (x5 : Int32)  (G : GS) : Option ((Int32 × Int32 × GS) ⊕ ((Int32) × GS)) :=
  fX2_adds_43 t x1 x2 x5 1 G
theorem wfX2_adds_38 {F : zF} (hd : 1 ≤ F.2.2.2) (t : Nat) (x1 : Option Nat) (x2 : Int32) (x5 : Int32)  (G : GS) {a : (Int32 × Int32 × GS) ⊕ ((Int32) × GS)} (h : fX2_adds_38 t x1 x2 x5  G = some a) (hk : (zcase (fun s : Int32 × Int32 × GS => J mX2_adds F s.2.2 6 [(0, vR (some t)), (1, vR x1), (2, vI x2), (4, vI s.1), (5, vI s.2.1)] []) (zKI F)) a) : J mX2_adds F G 38 [(0, vR (some t)), (1, vR x1), (2, vI x2), (5, vI x5)] [] := by
  unfold fX2_adds_38 at h
  refine j_iconst (v := 1) dX2_adds_38 (by decide) ?_
  refine j_goto (tgt := 43) dX2_adds_39 (by decide) ?_
  exact J.sub (zall [0, 1, 2, 3] rfl) (wfX2_adds_43 hd t x1 x2 x5 1 G h hk)
def fbX2_adds_6 (t : Nat) (x1 : Option Nat) (x2 : Int32) (x4 : Int32) (x5 : Int32)  (G : GS) : Option ((Int32 × Int32 × GS) ⊕ ((Int32) × GS)) :=
  if 183 ≤ x5 then (zo (zcond (zbb x4) (some (x4, G)))) else (if x4 = 0 then ((zgR G 2 t 17).bind fun r4 => r4.bind fun a6 => (zaI G 52 a6 x5).bind fun v8 => if v8 = 0 then (fX2_adds_42 t x1 x2 x5 G) else (x1.bind fun a11 => (zaI G 52 a11 (x2 + x5)).bind fun v13 => if v13 = 0 then (fX2_adds_38 t (some a11) x2 x5 G) else (fX2_adds_42 t (some a11) x2 x5 G))) else (fX2_adds_38 t x1 x2 x5 G))
def flX2_adds_6 (t : Nat) (x1 : Option Nat) (x2 : Int32) (x4 : Int32) (x5 : Int32) (G : GS) : Option ((Int32) × GS) := zloop (fun s : Int32 × Int32 × GS => fbX2_adds_6 t x1 x2 s.1 s.2.1 s.2.2) (x4, x5, G)
theorem wfbX2_adds_6 {F : zF} (hd : 1 ≤ F.2.2.2) (t : Nat) (x1 : Option Nat) (x2 : Int32) (x4 : Int32) (x5 : Int32) (G : GS) {a : (Int32 × Int32 × GS) ⊕ ((Int32) × GS)} (h : fbX2_adds_6 t x1 x2 x4 x5 G = some a) (hk : (zcase (fun s : Int32 × Int32 × GS => J mX2_adds F s.2.2 6 [(0, vR (some t)), (1, vR x1), (2, vI x2), (4, vI s.1), (5, vI s.2.1)] []) (zKI F)) a) : J mX2_adds F G 6 [(0, vR (some t)), (1, vR x1), (2, vI x2), (4, vI x4), (5, vI x5)] [] := by
  unfold fbX2_adds_6 at h
  refine j_iload (j := 4) dX2_adds_6 rfl ?_
  refine j_sipush (v := 183) dX2_adds_8 (by decide) ?_
  refine j_icmp_ge (tgt := 81) dX2_adds_11 (by decide) (fun c1 => ?_) (fun c1 => ?_)
  · rw [if_pos c1] at h
    replace h := zoE h
    obtain ⟨a, h, rfl⟩ := h
    replace hk := hk
    refine j_iload (j := 3) dX2_adds_81 rfl ?_
    replace h := zcondE h
    obtain ⟨e2, h⟩ := h
    obtain rfl := Option.some.inj h
    exact j_zret hk.1 hk.2 rfl (zbb_n e2) dX2_adds_83
  · rw [if_neg c1] at h
    refine j_iload (j := 3) dX2_adds_14 rfl ?_
    refine j_if_ne (tgt := 38) dX2_adds_16 (by decide) (fun c3 => ?_) (fun c3 => ?_)
    · rw [if_pos c3] at h
      refine j_aload_n (j := 0) dX2_adds_19 rfl rfl ?_
      replace h := zbE h
      obtain ⟨r4, e5, h⟩ := h
      refine j_getR fgX2_44 (fun _ _ _ => rfl) dX2_adds_20 e5 ?_
      refine j_iload (j := 4) dX2_adds_23 rfl ?_
      replace h := zbE h
      obtain ⟨a6, e7, h⟩ := h
      subst e7
      replace h := zbE h
      obtain ⟨v8, e9, h⟩ := h
      refine j_zald rfl e9 dX2_adds_25 ?_
      refine j_if_eq (tgt := 42) dX2_adds_26 (by decide) (fun c10 => ?_) (fun c10 => ?_)
      · rw [if_pos c10] at h
        exact J.sub (zall [0, 1, 2, 4] rfl) (wfX2_adds_42 hd t x1 x2 x5  G h hk)
      · rw [if_neg c10] at h
        refine j_aload_n (j := 1) dX2_adds_29 rfl rfl ?_
        refine j_iload_n (j := 2) dX2_adds_30 rfl rfl ?_
        refine j_iload (j := 4) dX2_adds_31 rfl ?_
        refine j_iadd dX2_adds_33 ?_
        replace h := zbE h
        obtain ⟨a11, e12, h⟩ := h
        subst e12
        replace h := zbE h
        obtain ⟨v13, e14, h⟩ := h
        refine j_zald rfl e14 dX2_adds_34 ?_
        refine j_if_ne (tgt := 42) dX2_adds_35 (by decide) (fun c15 => ?_) (fun c15 => ?_)
        · rw [if_pos c15] at h
          exact J.sub (zall [0, 1, 2, 4] rfl) (wfX2_adds_38 hd t (some a11) x2 x5  G h hk)
        · rw [if_neg c15] at h
          exact J.sub (zall [0, 1, 2, 4] rfl) (wfX2_adds_42 hd t (some a11) x2 x5  G h hk)
    · rw [if_neg c3] at h
      exact J.sub (zall [0, 1, 2, 4] rfl) (wfX2_adds_38 hd t x1 x2 x5  G h hk)
theorem wflX2_adds_6 {F : zF} (hd : 1 ≤ F.2.2.2) (t : Nat) (x1 : Option Nat) (x2 : Int32) (x4 : Int32) (x5 : Int32) (G : GS) {a : (Int32) × GS} (h : flX2_adds_6 t x1 x2 x4 x5 G = some a) (hk : zKI F a) : J mX2_adds F G 6 [(0, vR (some t)), (1, vR x1), (2, vI x2), (4, vI x4), (5, vI x5)] [] := by
  unfold flX2_adds_6 at h
  exact zloop_walk (P := (fun s : Int32 × Int32 × GS => J mX2_adds F s.2.2 6 [(0, vR (some t)), (1, vR x1), (2, vI x2), (4, vI s.1), (5, vI s.2.1)] [])) (fun s b e hk => wfbX2_adds_6 hd t x1 x2 s.1 s.2.1 s.2.2 e hk) (x4, x5, G) _ h hk
def fX2_adds_0 (t : Nat) (x1 : Option Nat) (x2 : Int32) (x3 : Int32)  (G : GS) : Option ((Int32) × GS) :=
  flX2_adds_6 t x1 x2 0 x3 G
theorem wfX2_adds_0 {F : zF} (hd : 1 ≤ F.2.2.2) (t : Nat) (x1 : Option Nat) (x2 : Int32) (x3 : Int32)  (G : GS) {a : (Int32) × GS} (h : fX2_adds_0 t x1 x2 x3  G = some a) (hk : zKI F a) : J mX2_adds F G 0 [(0, vR (some t)), (1, vR x1), (2, vI x2), (3, vI x3)] [] := by
  unfold fX2_adds_0 at h
  refine j_iconst (v := 0) dX2_adds_0 (by decide) ?_
  refine j_istore (lv' := [(4, vI 0), (0, vR (some t)), (1, vR x1), (2, vI x2), (3, vI x3)]) dX2_adds_1 (Nat.le_of_ble_eq_true rfl) rfl ?_
  refine j_iload_n (j := 4) dX2_adds_3 rfl rfl ?_
  refine j_istore (lv' := [(5, vI x3), (4, vI 0), (0, vR (some t)), (1, vR x1), (2, vI x2), (3, vI x3)]) dX2_adds_4 (Nat.le_of_ble_eq_true rfl) rfl ?_
  exact J.sub (zall [2, 3, 4, 1, 0] rfl) (wflX2_adds_6 hd t x1 x2 0 x3  G h hk)
theorem yX2_adds_ok {t : Nat} {x1 : Option Nat} {x2 : Int32} {x3 : Int32} {G : GS} {r : Int32} {G1 : GS} (h : fX2_adds_0 t x1 x2 x3 G = some (r, G1)) : zRuns yX2_adds (ws_ yX2_adds cX2_adds 6 (some Jvm.ClassFile.FieldType.boolean)) [vR (some t), vR x1, vI x2, vI x3] (.inl (some (vI r)), G, G1, 1) :=
  zentry (M := mX2_adds) (plainFor_of_name (by decide +kernel)) ⟨rfl, rfl, rfl, rfl⟩ (Nat.le_of_ble_eq_true rfl) (wfX2_adds_0 (Nat.le_refl _) t x1 x2 x3 G h ⟨rfl, rfl⟩)
abbrev mX2_at : zM := (cX2_at, RX2, 3, (some Jvm.ClassFile.FieldType.int), "at", [], "(II)I")
def fX2_at_0 (t : Nat) (x1 : Int32) (x2 : Int32)  (G : GS) : Option (Int32) :=
  (zgR G 2 t 2).bind fun r1 => r1.bind fun a3 => (zaI G 50 a3 ((20 * x1) + x2)).bind fun v5 => some v5
theorem wfX2_at_0 {F : zF} (hd : 1 ≤ F.2.2.2) (t : Nat) (x1 : Int32) (x2 : Int32)  (G : GS) {a : Int32} (h : fX2_at_0 t x1 x2  G = some a) (hk : zKPI F G a) : J mX2_at F G 0 [(0, vR (some t)), (1, vI x1), (2, vI x2)] [] := by
  unfold fX2_at_0 at h
  refine j_aload_n (j := 0) dX2_at_0 rfl rfl ?_
  replace h := zbE h
  obtain ⟨r1, e2, h⟩ := h
  refine j_getR fgX2_16 (fun _ _ _ => rfl) dX2_at_1 e2 ?_
  refine j_bipush (v := 20) dX2_at_4 (by decide) ?_
  refine j_iload_n (j := 1) dX2_at_6 rfl rfl ?_
  refine j_imul dX2_at_7 ?_
  refine j_iload_n (j := 2) dX2_at_8 rfl rfl ?_
  refine j_iadd dX2_at_9 ?_
  replace h := zbE h
  obtain ⟨a3, e4, h⟩ := h
  subst e4
  replace h := zbE h
  obtain ⟨v5, e6, h⟩ := h
  refine j_iald (Or.inl rfl) e6 dX2_at_10 ?_
  obtain rfl := Option.some.inj h
  exact j_iret hk.1 hk.2 rfl dX2_at_11
theorem yX2_at_ok {t : Nat} {x1 : Int32} {x2 : Int32} {G : GS} {r : Int32} (h : fX2_at_0 t x1 x2 G = some r) : zRuns yX2_at (ws_ yX2_at cX2_at 3 (some Jvm.ClassFile.FieldType.int)) [vR (some t), vI x1, vI x2] (.inl (some (vI r)), G, G, 1) :=
  zentry (M := mX2_at) (plainFor_of_name (by decide +kernel)) ⟨rfl, rfl, rfl, rfl⟩ (Nat.le_of_ble_eq_true rfl) (wfX2_at_0 (Nat.le_refl _) t x1 x2 G h ⟨rfl, rfl⟩)
abbrev mX2_isTerminal : zM := (cX2_isTerminal, RX2, 1, (some Jvm.ClassFile.FieldType.boolean), "isTerminal", [], "(I)Z")
def fX2_isTerminal_0 (x0 : Int32)  (G : GS) : Option (Int32) :=
  (fX2_isIn_0 x0.toInt64 0 11 G).bind fun v2 => zcond (zbb v2) (some v2)
theorem wfX2_isTerminal_0 {F : zF} (hd : 2 ≤ F.2.2.2) (x0 : Int32)  (G : GS) {a : Int32} (h : fX2_isTerminal_0 x0  G = some a) (hk : zKPI F G a) : J mX2_isTerminal F G 0 [(0, vI x0)] [] := by
  unfold fX2_isTerminal_0 at h
  refine j_iload_n (j := 0) dX2_isTerminal_0 rfl rfl ?_
  refine j_i2l dX2_isTerminal_1 ?_
  refine j_lconst (v := 0) dX2_isTerminal_2 rfl ?_
  refine j_ldc2 (v := 11) q2847 dX2_isTerminal_3 ?_
  replace h := zbE h
  obtain ⟨v2, e1, h⟩ := h
  refine j_cont (zrS (As := [vL x0.toInt64, vL 0, vL 11]) msX2_103 (yX2_isIn_ok e1) (Nat.le_trans (Nat.le_of_ble_eq_true rfl) hd) rfl rfl (Nat.le_of_ble_eq_true rfl) dX2_isTerminal_6) ?_
  replace h := zcondE h
  obtain ⟨e3, h⟩ := h
  obtain rfl := Option.some.inj h
  exact j_zret hk.1 hk.2 rfl (zbb_n e3) dX2_isTerminal_9
theorem yX2_isTerminal_ok {x0 : Int32} {G : GS} {r : Int32} (h : fX2_isTerminal_0 x0 G = some r) : zRuns yX2_isTerminal (ws_ yX2_isTerminal cX2_isTerminal 1 (some Jvm.ClassFile.FieldType.boolean)) [vI x0] (.inl (some (vI r)), G, G, 2) :=
  zentry (M := mX2_isTerminal) (plainFor_of_name (by decide +kernel)) ⟨rfl, rfl, rfl, rfl⟩ (Nat.le_of_ble_eq_true rfl) (wfX2_isTerminal_0 (Nat.le_refl _) x0 G h ⟨rfl, rfl⟩)
abbrev mX2_has : zM := (cX2_has, RX2, 2, (some Jvm.ClassFile.FieldType.boolean), "has", [], "(II)Z")
def fX2_has_0 (x0 : Int32) (x1 : Int32)  (G : GS) : Option (Int32) :=
  if ((x0 >>> (x1 &&& 31)) &&& 1) = 1 then (zcond (zbb 1) (some 1)) else (zcond (zbb 0) (some 0))
theorem wfX2_has_0 {F : zF} (hd : 1 ≤ F.2.2.2) (x0 : Int32) (x1 : Int32)  (G : GS) {a : Int32} (h : fX2_has_0 x0 x1  G = some a) (hk : zKPI F G a) : J mX2_has F G 0 [(0, vI x0), (1, vI x1)] [] := by
  unfold fX2_has_0 at h
  refine j_iload_n (j := 0) dX2_has_0 rfl rfl ?_
  refine j_iload_n (j := 1) dX2_has_1 rfl rfl ?_
  refine j_ishr dX2_has_2 ?_
  refine j_iconst (v := 1) dX2_has_3 (by decide) ?_
  refine j_iand dX2_has_4 ?_
  refine j_iconst (v := 1) dX2_has_5 (by decide) ?_
  refine j_icmp_ne (tgt := 13) dX2_has_6 (by decide) (fun c1 => ?_) (fun c1 => ?_)
  · rw [if_pos c1] at h
    refine j_iconst (v := 1) dX2_has_9 (by decide) ?_
    refine j_goto (tgt := 14) dX2_has_10 (by decide) ?_
    replace h := zcondE h
    obtain ⟨e2, h⟩ := h
    obtain rfl := Option.some.inj h
    exact j_zret hk.1 hk.2 rfl (zbb_n e2) dX2_has_14
  · rw [if_neg c1] at h
    refine j_iconst (v := 0) dX2_has_13 (by decide) ?_
    replace h := zcondE h
    obtain ⟨e3, h⟩ := h
    obtain rfl := Option.some.inj h
    exact j_zret hk.1 hk.2 rfl (zbb_n e3) dX2_has_14
theorem yX2_has_ok {x0 : Int32} {x1 : Int32} {G : GS} {r : Int32} (h : fX2_has_0 x0 x1 G = some r) : zRuns yX2_has (ws_ yX2_has cX2_has 2 (some Jvm.ClassFile.FieldType.boolean)) [vI x0, vI x1] (.inl (some (vI r)), G, G, 1) :=
  zentry (M := mX2_has) (plainFor_of_name (by decide +kernel)) ⟨rfl, rfl, rfl, rfl⟩ (Nat.le_of_ble_eq_true rfl) (wfX2_has_0 (Nat.le_refl _) x0 x1 G h ⟨rfl, rfl⟩)
theorem fgX2_195 : zFG RX2 195 1 11 (.int) := ⟨(RX2, TX2, 42, tyX2), rfl, by decide, in_X2, rfl, "SelahGeneratorModel", Or.inl rfl, Or.inl q2683⟩
theorem msX2_198 : zSS RX2 198 yX2_has cX2_has 2 (some Jvm.ClassFile.FieldType.boolean) 2 := ⟨lw_S q2923 q2924 q131 q2925, (by decide +kernel), (by decide)⟩
abbrev mX2_isEmptyable : zM := (cX2_isEmptyable, RX2, 2, (some Jvm.ClassFile.FieldType.boolean), "isEmptyable", [], "(I)Z")
def fX2_isEmptyable_25   (G : GS) : Option (Int32) :=
  zcond (zbb 0) (some 0)
theorem wfX2_isEmptyable_25 {F : zF} (hd : 3 ≤ F.2.2.2)   (G : GS) {a : Int32} (h : fX2_isEmptyable_25   G = some a) (hk : zKPI F G a) : J mX2_isEmptyable F G 25 [] [] := by
  unfold fX2_isEmptyable_25 at h
  refine j_iconst (v := 0) dX2_isEmptyable_25 (by decide) ?_
  replace h := zcondE h
  obtain ⟨e1, h⟩ := h
  obtain rfl := Option.some.inj h
  exact j_zret hk.1 hk.2 rfl (zbb_n e1) dX2_isEmptyable_26
def fX2_isEmptyable_0 (t : Nat) (x1 : Int32)  (G : GS) : Option (Int32) :=
  (fX2_isNonterminal_0 x1 G).bind fun v2 => if v2 = 0 then (fX2_isEmptyable_25 G) else ((zgI G 2 t 11).bind fun v4 => (fX2_has_0 v4 (x1 - 20) G).bind fun v7 => if v7 = 0 then (fX2_isEmptyable_25 G) else (zcond (zbb 1) (some 1)))
theorem wfX2_isEmptyable_0 {F : zF} (hd : 3 ≤ F.2.2.2) (t : Nat) (x1 : Int32)  (G : GS) {a : Int32} (h : fX2_isEmptyable_0 t x1  G = some a) (hk : zKPI F G a) : J mX2_isEmptyable F G 0 [(0, vR (some t)), (1, vI x1)] [] := by
  unfold fX2_isEmptyable_0 at h
  refine j_iload_n (j := 1) dX2_isEmptyable_0 rfl rfl ?_
  replace h := zbE h
  obtain ⟨v2, e1, h⟩ := h
  refine j_cont (zrS (As := [vI x1]) msX2_149 (yX2_isNonterminal_ok e1) (Nat.le_trans (Nat.le_of_ble_eq_true rfl) hd) rfl rfl (Nat.le_of_ble_eq_true rfl) dX2_isEmptyable_1) ?_
  refine j_if_eq (tgt := 25) dX2_isEmptyable_4 (by decide) (fun c3 => ?_) (fun c3 => ?_)
  · rw [if_pos c3] at h
    exact J.sub (zall [] rfl) (wfX2_isEmptyable_25 hd   G h hk)
  · rw [if_neg c3] at h
    refine j_aload_n (j := 0) dX2_isEmptyable_7 rfl rfl ?_
    replace h := zbE h
    obtain ⟨v4, e5, h⟩ := h
    refine j_getI fgX2_195 (fun _ _ _ => rfl) dX2_isEmptyable_8 e5 ?_
    refine j_iload_n (j := 1) dX2_isEmptyable_11 rfl rfl ?_
    refine j_bipush (v := 20) dX2_isEmptyable_12 (by decide) ?_
    refine j_isub dX2_isEmptyable_14 ?_
    replace h := zbE h
    obtain ⟨v7, e6, h⟩ := h
    refine j_cont (zrS (As := [vI v4, vI (x1 - 20)]) msX2_198 (yX2_has_ok e6) (Nat.le_trans (Nat.le_of_ble_eq_true rfl) hd) rfl rfl (Nat.le_of_ble_eq_true rfl) dX2_isEmptyable_15) ?_
    refine j_if_eq (tgt := 25) dX2_isEmptyable_18 (by decide) (fun c8 => ?_) (fun c8 => ?_)
    · rw [if_pos c8] at h
      exact J.sub (zall [] rfl) (wfX2_isEmptyable_25 hd   G h hk)
    · rw [if_neg c8] at h
      refine j_iconst (v := 1) dX2_isEmptyable_21 (by decide) ?_
      refine j_goto (tgt := 26) dX2_isEmptyable_22 (by decide) ?_
      replace h := zcondE h
      obtain ⟨e9, h⟩ := h
      obtain rfl := Option.some.inj h
      exact j_zret hk.1 hk.2 rfl (zbb_n e9) dX2_isEmptyable_26
theorem yX2_isEmptyable_ok {t : Nat} {x1 : Int32} {G : GS} {r : Int32} (h : fX2_isEmptyable_0 t x1 G = some r) : zRuns yX2_isEmptyable (ws_ yX2_isEmptyable cX2_isEmptyable 2 (some Jvm.ClassFile.FieldType.boolean)) [vR (some t), vI x1] (.inl (some (vI r)), G, G, 3) :=
  zentry (M := mX2_isEmptyable) (plainFor_of_name (by decide +kernel)) ⟨rfl, rfl, rfl, rfl⟩ (Nat.le_of_ble_eq_true rfl) (wfX2_isEmptyable_0 (Nat.le_refl _) t x1 G h ⟨rfl, rfl⟩)
theorem fgX2_28 : zFG RX2 28 1 9 (.array (.int)) := ⟨(RX2, TX2, 42, tyX2), rfl, by decide, in_X2, rfl, "SelahGeneratorModel", Or.inl rfl, Or.inl q2681⟩
theorem msX2_167 : zSS RX2 167 yX2_isTerminal cX2_isTerminal 1 (some Jvm.ClassFile.FieldType.boolean) 1 := ⟨lw_S q2844 q2845 q131 q2846, (by decide +kernel), (by decide)⟩
theorem msX2_187 : zSV RX2 187 RX2 yX2_at cX2_at 3 (some Jvm.ClassFile.FieldType.int) 2 := ⟨lw_V q2891 q2893 qs69 q131 q2894, (by decide +kernel), (by decide)⟩
theorem msX2_202 : zSV RX2 202 RX2 yX2_isEmptyable cX2_isEmptyable 2 (some Jvm.ClassFile.FieldType.boolean) 1 := ⟨lw_V q2919 q2921 qs74 q131 q2922, (by decide +kernel), (by decide)⟩
abbrev mX2_firstFrom : zM := (cX2_firstFrom, RX2, 6, (some Jvm.ClassFile.FieldType.int), "firstFrom", [], "(II)I")
def fX2_firstFrom_51 (t : Nat) (x1 : Int32) (x4 : Int32) (x5 : Int32) (s0 : Int32) (s1 : Int32) (G : GS) : Option ((Int32 × Int32) ⊕ (Int32)) :=
  zk [2] G t <| (fX2_isEmptyable_0 t x5 G).bind fun v3 => if v3 = 0 then (zo (some (s0 ||| s1))) else (some (.inl ((s0 ||| s1), (x4 + 1))))
theorem wfX2_firstFrom_51 {F : zF} (hd : 4 ≤ F.2.2.2) (t : Nat) (x1 : Int32) (x4 : Int32) (x5 : Int32) (s0 : Int32) (s1 : Int32) (G : GS) {a : (Int32 × Int32) ⊕ (Int32)} (h : fX2_firstFrom_51 t x1 x4 x5 s0 s1 G = some a) (hk : (zcase (fun s : Int32 × Int32 => J mX2_firstFrom F G 5 [(0, vR (some t)), (1, vI x1), (3, vI s.1), (4, vI s.2)] []) (zKPI F G)) a) : J mX2_firstFrom F G 51 [(0, vR (some t)), (1, vI x1), (4, vI x4), (5, vI x5)] [vI s1, vI s0] := by
  unfold fX2_firstFrom_51 at h
  refine j_ior dX2_firstFrom_51 ?_
  refine j_istore_n (lv' := [(3, vI (s0 ||| s1)), (0, vR (some t)), (1, vI x1), (4, vI x4), (5, vI x5)]) dX2_firstFrom_52 rfl (Nat.le_of_ble_eq_true rfl) rfl ?_
  refine j_aload_n (j := 1) dX2_firstFrom_53 rfl rfl ?_
  refine j_iload (j := 4) dX2_firstFrom_54 rfl ?_
  replace h := zkE h
  obtain ⟨e1, h⟩ := h
  replace h := zbE h
  obtain ⟨v3, e2, h⟩ := h
  refine j_cont (zrV (As := [vI x5]) msX2_202 (yX2_isEmptyable_ok e2) (Nat.le_trans (Nat.le_of_ble_eq_true rfl) hd) (zk_2 _ e1) rfl rfl (Nat.le_of_ble_eq_true rfl) dX2_firstFrom_56) ?_
  refine j_if_ne (tgt := 64) dX2_firstFrom_59 (by decide) (fun c4 => ?_) (fun c4 => ?_)
  · rw [if_pos c4] at h
    replace h := zoE h
    obtain ⟨a, h, rfl⟩ := h
    replace hk := hk
    refine j_iload_n (j := 0) dX2_firstFrom_62 rfl rfl ?_
    obtain rfl := Option.some.inj h
    exact j_iret hk.1 hk.2 rfl dX2_firstFrom_63
  · rw [if_neg c4] at h
    refine j_iinc (j := 3) (v := (x4 + 1)) (lv' := [(4, vI (x4 + 1)), (3, vI (s0 ||| s1)), (0, vR (some t)), (1, vI x1), (5, vI x5)]) dX2_firstFrom_64 rfl rfl (Nat.le_of_ble_eq_true rfl) rfl ?_
    refine j_goto (tgt := 5) dX2_firstFrom_67 (by decide) ?_
    obtain rfl := Option.some.inj h
    exact J.sub (zall [2, 3, 1, 0] rfl) hk
def fbX2_firstFrom_5 (t : Nat) (x1 : Int32) (x3 : Int32) (x4 : Int32)  (G : GS) : Option ((Int32 × Int32) ⊕ (Int32)) :=
  (zgR G 2 t 1).bind fun r1 => r1.bind fun a3 => (zaI G 50 a3 x1).bind fun v5 => if v5 ≤ x4 then (zo (some x3)) else (zk [2] G t <| (fX2_at_0 t x1 x4 G).bind fun v10 => (fX2_isTerminal_0 v10 G).bind fun v12 => if v12 = 0 then ((zgR G 2 t 9).bind fun r14 => r14.bind fun a16 => (zaI G 50 a16 (v10 - 20)).bind fun v18 => fX2_firstFrom_51 t x1 x4 v10 x3 v18 G) else (fX2_firstFrom_51 t x1 x4 v10 x3 ((1 : Int32) <<< (v10 &&& 31)) G))
def flX2_firstFrom_5 (t : Nat) (x1 : Int32) (x3 : Int32) (x4 : Int32) (G : GS) : Option (Int32) := zloop (fun s : Int32 × Int32 => fbX2_firstFrom_5 t x1 s.1 s.2 G) (x3, x4)
theorem wfbX2_firstFrom_5 {F : zF} (hd : 4 ≤ F.2.2.2) (t : Nat) (x1 : Int32) (x3 : Int32) (x4 : Int32) (G : GS) {a : (Int32 × Int32) ⊕ (Int32)} (h : fbX2_firstFrom_5 t x1 x3 x4 G = some a) (hk : (zcase (fun s : Int32 × Int32 => J mX2_firstFrom F G 5 [(0, vR (some t)), (1, vI x1), (3, vI s.1), (4, vI s.2)] []) (zKPI F G)) a) : J mX2_firstFrom F G 5 [(0, vR (some t)), (1, vI x1), (3, vI x3), (4, vI x4)] [] := by
  unfold fbX2_firstFrom_5 at h
  refine j_iload (j := 3) dX2_firstFrom_5 rfl ?_
  refine j_aload_n (j := 0) dX2_firstFrom_7 rfl rfl ?_
  replace h := zbE h
  obtain ⟨r1, e2, h⟩ := h
  refine j_getR fgX2_13 (fun _ _ _ => rfl) dX2_firstFrom_8 e2 ?_
  refine j_iload_n (j := 1) dX2_firstFrom_11 rfl rfl ?_
  replace h := zbE h
  obtain ⟨a3, e4, h⟩ := h
  subst e4
  replace h := zbE h
  obtain ⟨v5, e6, h⟩ := h
  refine j_iald (Or.inl rfl) e6 dX2_firstFrom_12 ?_
  refine j_icmp_ge (tgt := 70) dX2_firstFrom_13 (by decide) (fun c7 => ?_) (fun c7 => ?_)
  · rw [if_pos c7] at h
    replace h := zoE h
    obtain ⟨a, h, rfl⟩ := h
    replace hk := hk
    refine j_iload_n (j := 2) dX2_firstFrom_70 rfl rfl ?_
    obtain rfl := Option.some.inj h
    exact j_iret hk.1 hk.2 rfl dX2_firstFrom_71
  · rw [if_neg c7] at h
    refine j_aload_n (j := 0) dX2_firstFrom_16 rfl rfl ?_
    refine j_iload_n (j := 1) dX2_firstFrom_17 rfl rfl ?_
    refine j_iload (j := 3) dX2_firstFrom_18 rfl ?_
    replace h := zkE h
    obtain ⟨e8, h⟩ := h
    replace h := zbE h
    obtain ⟨v10, e9, h⟩ := h
    refine j_cont (zrV (As := [vI x1, vI x4]) msX2_187 (yX2_at_ok e9) (Nat.le_trans (Nat.le_of_ble_eq_true rfl) hd) (zk_2 _ e8) rfl rfl (Nat.le_of_ble_eq_true rfl) dX2_firstFrom_20) ?_
    refine j_istore (lv' := [(5, vI v10), (0, vR (some t)), (1, vI x1), (3, vI x3), (4, vI x4)]) dX2_firstFrom_23 (Nat.le_of_ble_eq_true rfl) rfl ?_
    refine j_iload_n (j := 3) dX2_firstFrom_25 rfl rfl ?_
    refine j_iload (j := 0) dX2_firstFrom_26 rfl ?_
    replace h := zbE h
    obtain ⟨v12, e11, h⟩ := h
    refine j_cont (zrS (As := [vI v10]) msX2_167 (yX2_isTerminal_ok e11) (Nat.le_trans (Nat.le_of_ble_eq_true rfl) hd) rfl rfl (Nat.le_of_ble_eq_true rfl) dX2_firstFrom_28) ?_
    refine j_if_eq (tgt := 41) dX2_firstFrom_31 (by decide) (fun c13 => ?_) (fun c13 => ?_)
    · rw [if_pos c13] at h
      refine j_aload_n (j := 1) dX2_firstFrom_41 rfl rfl ?_
      replace h := zbE h
      obtain ⟨r14, e15, h⟩ := h
      refine j_getR fgX2_28 (fun _ _ _ => rfl) dX2_firstFrom_42 e15 ?_
      refine j_iload (j := 0) dX2_firstFrom_45 rfl ?_
      refine j_bipush (v := 20) dX2_firstFrom_47 (by decide) ?_
      refine j_isub dX2_firstFrom_49 ?_
      replace h := zbE h
      obtain ⟨a16, e17, h⟩ := h
      subst e17
      replace h := zbE h
      obtain ⟨v18, e19, h⟩ := h
      refine j_iald (Or.inl rfl) e19 dX2_firstFrom_50 ?_
      exact J.sub (zall [1, 2, 4, 0] rfl) (wfX2_firstFrom_51 hd t x1 x4 v10 x3 v18 G h hk)
    · rw [if_neg c13] at h
      refine j_iconst (v := 1) dX2_firstFrom_34 (by decide) ?_
      refine j_iload (j := 0) dX2_firstFrom_35 rfl ?_
      refine j_ishl dX2_firstFrom_37 ?_
      refine j_goto (tgt := 51) dX2_firstFrom_38 (by decide) ?_
      exact J.sub (zall [1, 2, 4, 0] rfl) (wfX2_firstFrom_51 hd t x1 x4 v10 x3 ((1 : Int32) <<< (v10 &&& 31)) G h hk)
theorem wflX2_firstFrom_5 {F : zF} (hd : 4 ≤ F.2.2.2) (t : Nat) (x1 : Int32) (x3 : Int32) (x4 : Int32) (G : GS) {a : Int32} (h : flX2_firstFrom_5 t x1 x3 x4 G = some a) (hk : zKPI F G a) : J mX2_firstFrom F G 5 [(0, vR (some t)), (1, vI x1), (3, vI x3), (4, vI x4)] [] := by
  unfold flX2_firstFrom_5 at h
  exact zloop_walk (P := (fun s : Int32 × Int32 => J mX2_firstFrom F G 5 [(0, vR (some t)), (1, vI x1), (3, vI s.1), (4, vI s.2)] [])) (fun s b e hk => wfbX2_firstFrom_5 hd t x1 s.1 s.2 G e hk) (x3, x4) _ h hk
def fX2_firstFrom_0 (t : Nat) (x1 : Int32) (x2 : Int32)  (G : GS) : Option (Int32) :=
  flX2_firstFrom_5 t x1 0 x2 G
theorem wfX2_firstFrom_0 {F : zF} (hd : 4 ≤ F.2.2.2) (t : Nat) (x1 : Int32) (x2 : Int32)  (G : GS) {a : Int32} (h : fX2_firstFrom_0 t x1 x2  G = some a) (hk : zKPI F G a) : J mX2_firstFrom F G 0 [(0, vR (some t)), (1, vI x1), (2, vI x2)] [] := by
  unfold fX2_firstFrom_0 at h
  refine j_iconst (v := 0) dX2_firstFrom_0 (by decide) ?_
  refine j_istore_n (lv' := [(3, vI 0), (0, vR (some t)), (1, vI x1), (2, vI x2)]) dX2_firstFrom_1 rfl (Nat.le_of_ble_eq_true rfl) rfl ?_
  refine j_iload_n (j := 3) dX2_firstFrom_2 rfl rfl ?_
  refine j_istore (lv' := [(4, vI x2), (3, vI 0), (0, vR (some t)), (1, vI x1), (2, vI x2)]) dX2_firstFrom_3 (Nat.le_of_ble_eq_true rfl) rfl ?_
  exact J.sub (zall [2, 3, 1, 0] rfl) (wflX2_firstFrom_5 hd t x1 0 x2  G h hk)
theorem yX2_firstFrom_ok {t : Nat} {x1 : Int32} {x2 : Int32} {G : GS} {r : Int32} (h : fX2_firstFrom_0 t x1 x2 G = some r) : zRuns yX2_firstFrom (ws_ yX2_firstFrom cX2_firstFrom 6 (some Jvm.ClassFile.FieldType.int)) [vR (some t), vI x1, vI x2] (.inl (some (vI r)), G, G, 4) :=
  zentry (M := mX2_firstFrom) (plainFor_of_name (by decide +kernel)) ⟨rfl, rfl, rfl, rfl⟩ (Nat.le_of_ble_eq_true rfl) (wfX2_firstFrom_0 (Nat.le_refl _) t x1 x2 G h ⟨rfl, rfl⟩)
theorem msX2_205 : zSV RX2 205 RX2 yX2_firstFrom cX2_firstFrom 6 (some Jvm.ClassFile.FieldType.int) 2 := ⟨lw_V q2930 q2932 qs76 q131 q2933, (by decide +kernel), (by decide)⟩
abbrev mX2_addsFirst : zM := (cX2_addsFirst, RX2, 5, (some Jvm.ClassFile.FieldType.boolean), "addsFirst", [], "()Z")
def fX2_addsFirst_57 (t : Nat) (x2 : Int32) (x3 : Int32) (x4 : Int32) (s0 : Int32) (G : GS) : Option ((Int32 × Int32 × GS) ⊕ ((Int32) × GS)) :=
  (zgR G 2 t 9).bind fun r1 => r1.bind fun a3 => (zsI G 50 a3 x3 x4).bind fun G5 => some (.inl (s0, (x2 + 1), G5))
theorem wfX2_addsFirst_57 {F : zF} (hd : 5 ≤ F.2.2.2) (t : Nat) (x2 : Int32) (x3 : Int32) (x4 : Int32) (s0 : Int32) (G : GS) {a : (Int32 × Int32 × GS) ⊕ ((Int32) × GS)} (h : fX2_addsFirst_57 t x2 x3 x4 s0 G = some a) (hk : (zcase (fun s : Int32 × Int32 × GS => J mX2_addsFirst F s.2.2 4 [(0, vR (some t)), (1, vI s.1), (2, vI s.2.1)] []) (zKI F)) a) : J mX2_addsFirst F G 57 [(0, vR (some t)), (2, vI x2), (3, vI x3), (4, vI x4)] [vI s0] := by
  unfold fX2_addsFirst_57 at h
  refine j_istore_n (lv' := [(1, vI s0), (0, vR (some t)), (2, vI x2), (3, vI x3), (4, vI x4)]) dX2_addsFirst_57 rfl (Nat.le_of_ble_eq_true rfl) rfl ?_
  refine j_aload_n (j := 1) dX2_addsFirst_58 rfl rfl ?_
  replace h := zbE h
  obtain ⟨r1, e2, h⟩ := h
  refine j_getR fgX2_28 (fun _ _ _ => rfl) dX2_addsFirst_59 e2 ?_
  refine j_iload_n (j := 3) dX2_addsFirst_62 rfl rfl ?_
  refine j_iload (j := 4) dX2_addsFirst_63 rfl ?_
  replace h := zbE h
  obtain ⟨a3, e4, h⟩ := h
  subst e4
  replace h := zbE h
  obtain ⟨G5, e6, h⟩ := h
  refine j_iast e6 dX2_addsFirst_65 ?_
  refine j_iinc (j := 2) (v := (x2 + 1)) (lv' := [(2, vI (x2 + 1)), (1, vI s0), (0, vR (some t)), (3, vI x3), (4, vI x4)]) dX2_addsFirst_66 rfl rfl (Nat.le_of_ble_eq_true rfl) rfl ?_
  refine j_goto (tgt := 4) dX2_addsFirst_69 (by decide) ?_
  obtain rfl := Option.some.inj h
  exact J.sub (zall [2, 1, 0] rfl) hk
def fX2_addsFirst_52 (t : Nat) (x2 : Int32) (x3 : Int32) (x4 : Int32)  (G : GS) : Option ((Int32 × Int32 × GS) ⊕ ((Int32) × GS)) :=
  fX2_addsFirst_57 t x2 x3 x4 1 G
theorem wfX2_addsFirst_52 {F : zF} (hd : 5 ≤ F.2.2.2) (t : Nat) (x2 : Int32) (x3 : Int32) (x4 : Int32)  (G : GS) {a : (Int32 × Int32 × GS) ⊕ ((Int32) × GS)} (h : fX2_addsFirst_52 t x2 x3 x4  G = some a) (hk : (zcase (fun s : Int32 × Int32 × GS => J mX2_addsFirst F s.2.2 4 [(0, vR (some t)), (1, vI s.1), (2, vI s.2.1)] []) (zKI F)) a) : J mX2_addsFirst F G 52 [(0, vR (some t)), (2, vI x2), (3, vI x3), (4, vI x4)] [] := by
  unfold fX2_addsFirst_52 at h
  refine j_iconst (v := 1) dX2_addsFirst_52 (by decide) ?_
  refine j_goto (tgt := 57) dX2_addsFirst_53 (by decide) ?_
  exact J.sub (zall [0, 1, 2, 3] rfl) (wfX2_addsFirst_57 hd t x2 x3 x4 1 G h hk)
def fbX2_addsFirst_4 (t : Nat) (x1 : Int32) (x2 : Int32)  (G : GS) : Option ((Int32 × Int32 × GS) ⊕ ((Int32) × GS)) :=
  (zgI G 2 t 6).bind fun v1 => if v1 ≤ x2 then (zo (zcond (zbb x1) (some (x1, G)))) else ((zgR G 2 t 0).bind fun r5 => r5.bind fun a7 => (zaI G 50 a7 x2).bind fun v9 => (zgR G 2 t 9).bind fun r11 => r11.bind fun a13 => (zaI G 50 a13 (v9 - 20)).bind fun v15 => zk [2] G t <| (fX2_firstFrom_0 t x2 0 G).bind fun v19 => if x1 = 0 then ((zgR G 2 t 9).bind fun r21 => r21.bind fun a23 => (zaI G 50 a23 (v9 - 20)).bind fun v25 => if (v15 ||| v19) = v25 then (fX2_addsFirst_57 t x2 (v9 - 20) (v15 ||| v19) 0 G) else (fX2_addsFirst_52 t x2 (v9 - 20) (v15 ||| v19) G)) else (fX2_addsFirst_52 t x2 (v9 - 20) (v15 ||| v19) G))
def flX2_addsFirst_4 (t : Nat) (x1 : Int32) (x2 : Int32) (G : GS) : Option ((Int32) × GS) := zloop (fun s : Int32 × Int32 × GS => fbX2_addsFirst_4 t s.1 s.2.1 s.2.2) (x1, x2, G)
theorem wfbX2_addsFirst_4 {F : zF} (hd : 5 ≤ F.2.2.2) (t : Nat) (x1 : Int32) (x2 : Int32) (G : GS) {a : (Int32 × Int32 × GS) ⊕ ((Int32) × GS)} (h : fbX2_addsFirst_4 t x1 x2 G = some a) (hk : (zcase (fun s : Int32 × Int32 × GS => J mX2_addsFirst F s.2.2 4 [(0, vR (some t)), (1, vI s.1), (2, vI s.2.1)] []) (zKI F)) a) : J mX2_addsFirst F G 4 [(0, vR (some t)), (1, vI x1), (2, vI x2)] [] := by
  unfold fbX2_addsFirst_4 at h
  refine j_iload_n (j := 2) dX2_addsFirst_4 rfl rfl ?_
  refine j_aload_n (j := 0) dX2_addsFirst_5 rfl rfl ?_
  replace h := zbE h
  obtain ⟨v1, e2, h⟩ := h
  refine j_getI fgX2_113 (fun _ _ _ => rfl) dX2_addsFirst_6 e2 ?_
  refine j_icmp_ge (tgt := 72) dX2_addsFirst_9 (by decide) (fun c3 => ?_) (fun c3 => ?_)
  · rw [if_pos c3] at h
    replace h := zoE h
    obtain ⟨a, h, rfl⟩ := h
    replace hk := hk
    refine j_iload_n (j := 1) dX2_addsFirst_72 rfl rfl ?_
    replace h := zcondE h
    obtain ⟨e4, h⟩ := h
    obtain rfl := Option.some.inj h
    exact j_zret hk.1 hk.2 rfl (zbb_n e4) dX2_addsFirst_73
  · rw [if_neg c3] at h
    refine j_aload_n (j := 0) dX2_addsFirst_12 rfl rfl ?_
    replace h := zbE h
    obtain ⟨r5, e6, h⟩ := h
    refine j_getR fgX2_7 (fun _ _ _ => rfl) dX2_addsFirst_13 e6 ?_
    refine j_iload_n (j := 2) dX2_addsFirst_16 rfl rfl ?_
    replace h := zbE h
    obtain ⟨a7, e8, h⟩ := h
    subst e8
    replace h := zbE h
    obtain ⟨v9, e10, h⟩ := h
    refine j_iald (Or.inl rfl) e10 dX2_addsFirst_17 ?_
    refine j_bipush (v := 20) dX2_addsFirst_18 (by decide) ?_
    refine j_isub dX2_addsFirst_20 ?_
    refine j_istore_n (lv' := [(3, vI (v9 - 20)), (0, vR (some t)), (1, vI x1), (2, vI x2)]) dX2_addsFirst_21 rfl (Nat.le_of_ble_eq_true rfl) rfl ?_
    refine j_aload_n (j := 1) dX2_addsFirst_22 rfl rfl ?_
    replace h := zbE h
    obtain ⟨r11, e12, h⟩ := h
    refine j_getR fgX2_28 (fun _ _ _ => rfl) dX2_addsFirst_23 e12 ?_
    refine j_iload_n (j := 0) dX2_addsFirst_26 rfl rfl ?_
    replace h := zbE h
    obtain ⟨a13, e14, h⟩ := h
    subst e14
    replace h := zbE h
    obtain ⟨v15, e16, h⟩ := h
    refine j_iald (Or.inl rfl) e16 dX2_addsFirst_27 ?_
    refine j_aload_n (j := 1) dX2_addsFirst_28 rfl rfl ?_
    refine j_iload_n (j := 3) dX2_addsFirst_29 rfl rfl ?_
    refine j_iconst (v := 0) dX2_addsFirst_30 (by decide) ?_
    replace h := zkE h
    obtain ⟨e17, h⟩ := h
    replace h := zbE h
    obtain ⟨v19, e18, h⟩ := h
    refine j_cont (zrV (As := [vI x2, vI 0]) msX2_205 (yX2_firstFrom_ok e18) (Nat.le_trans (Nat.le_of_ble_eq_true rfl) hd) (zk_2 _ e17) rfl rfl (Nat.le_of_ble_eq_true rfl) dX2_addsFirst_31) ?_
    refine j_ior dX2_addsFirst_34 ?_
    refine j_istore (lv' := [(4, vI (v15 ||| v19)), (3, vI (v9 - 20)), (0, vR (some t)), (1, vI x1), (2, vI x2)]) dX2_addsFirst_35 (Nat.le_of_ble_eq_true rfl) rfl ?_
    refine j_iload_n (j := 3) dX2_addsFirst_37 rfl rfl ?_
    refine j_if_ne (tgt := 52) dX2_addsFirst_38 (by decide) (fun c20 => ?_) (fun c20 => ?_)
    · rw [if_pos c20] at h
      refine j_iload (j := 0) dX2_addsFirst_41 rfl ?_
      refine j_aload_n (j := 2) dX2_addsFirst_43 rfl rfl ?_
      replace h := zbE h
      obtain ⟨r21, e22, h⟩ := h
      refine j_getR fgX2_28 (fun _ _ _ => rfl) dX2_addsFirst_44 e22 ?_
      refine j_iload_n (j := 1) dX2_addsFirst_47 rfl rfl ?_
      replace h := zbE h
      obtain ⟨a23, e24, h⟩ := h
      subst e24
      replace h := zbE h
      obtain ⟨v25, e26, h⟩ := h
      refine j_iald (Or.inl rfl) e26 dX2_addsFirst_48 ?_
      refine j_icmp_eq (tgt := 56) dX2_addsFirst_49 (by decide) (fun c27 => ?_) (fun c27 => ?_)
      · rw [if_pos c27] at h
        refine j_iconst (v := 0) dX2_addsFirst_56 (by decide) ?_
        exact J.sub (zall [2, 4, 1, 0] rfl) (wfX2_addsFirst_57 hd t x2 (v9 - 20) (v15 ||| v19) 0 G h hk)
      · rw [if_neg c27] at h
        exact J.sub (zall [2, 4, 1, 0] rfl) (wfX2_addsFirst_52 hd t x2 (v9 - 20) (v15 ||| v19)  G h hk)
    · rw [if_neg c20] at h
      exact J.sub (zall [2, 4, 1, 0] rfl) (wfX2_addsFirst_52 hd t x2 (v9 - 20) (v15 ||| v19)  G h hk)
theorem wflX2_addsFirst_4 {F : zF} (hd : 5 ≤ F.2.2.2) (t : Nat) (x1 : Int32) (x2 : Int32) (G : GS) {a : (Int32) × GS} (h : flX2_addsFirst_4 t x1 x2 G = some a) (hk : zKI F a) : J mX2_addsFirst F G 4 [(0, vR (some t)), (1, vI x1), (2, vI x2)] [] := by
  unfold flX2_addsFirst_4 at h
  exact zloop_walk (P := (fun s : Int32 × Int32 × GS => J mX2_addsFirst F s.2.2 4 [(0, vR (some t)), (1, vI s.1), (2, vI s.2.1)] [])) (fun s b e hk => wfbX2_addsFirst_4 hd t s.1 s.2.1 s.2.2 e hk) (x1, x2, G) _ h hk
def fX2_addsFirst_0 (t : Nat)  (G : GS) : Option ((Int32) × GS) :=
  flX2_addsFirst_4 t 0 0 G
theorem wfX2_addsFirst_0 {F : zF} (hd : 5 ≤ F.2.2.2) (t : Nat)  (G : GS) {a : (Int32) × GS} (h : fX2_addsFirst_0 t  G = some a) (hk : zKI F a) : J mX2_addsFirst F G 0 [(0, vR (some t))] [] := by
  unfold fX2_addsFirst_0 at h
  refine j_iconst (v := 0) dX2_addsFirst_0 (by decide) ?_
  refine j_istore_n (lv' := [(1, vI 0), (0, vR (some t))]) dX2_addsFirst_1 rfl (Nat.le_of_ble_eq_true rfl) rfl ?_
  refine j_iconst (v := 0) dX2_addsFirst_2 (by decide) ?_
  refine j_istore_n (lv' := [(2, vI 0), (1, vI 0), (0, vR (some t))]) dX2_addsFirst_3 rfl (Nat.le_of_ble_eq_true rfl) rfl ?_
  exact J.sub (zall [2, 1, 0] rfl) (wflX2_addsFirst_4 hd t 0 0  G h hk)
theorem yX2_addsFirst_ok {t : Nat} {G : GS} {r : Int32} {G1 : GS} (h : fX2_addsFirst_0 t G = some (r, G1)) : zRuns yX2_addsFirst (ws_ yX2_addsFirst cX2_addsFirst 5 (some Jvm.ClassFile.FieldType.boolean)) [vR (some t)] (.inl (some (vI r)), G, G1, 5) :=
  zentry (M := mX2_addsFirst) (plainFor_of_name (by decide +kernel)) ⟨rfl, rfl, rfl, rfl⟩ (Nat.le_of_ble_eq_true rfl) (wfX2_addsFirst_0 (Nat.le_refl _) t G h ⟨rfl, rfl⟩)
abbrev mX2_pair : zM := (cX2_pair, RX2, 2, (some Jvm.ClassFile.FieldType.int), "pair", [], "(II)I")
def fX2_pair_0 (x0 : Int32) (x1 : Int32)  (G : GS) : Option (Int32) :=
  some ((14 + (13 * x0)) + x1)
theorem wfX2_pair_0 {F : zF} (hd : 1 ≤ F.2.2.2) (x0 : Int32) (x1 : Int32)  (G : GS) {a : Int32} (h : fX2_pair_0 x0 x1  G = some a) (hk : zKPI F G a) : J mX2_pair F G 0 [(0, vI x0), (1, vI x1)] [] := by
  unfold fX2_pair_0 at h
  refine j_bipush (v := 14) dX2_pair_0 (by decide) ?_
  refine j_bipush (v := 13) dX2_pair_2 (by decide) ?_
  refine j_iload_n (j := 0) dX2_pair_4 rfl rfl ?_
  refine j_imul dX2_pair_5 ?_
  refine j_iadd dX2_pair_6 ?_
  refine j_iload_n (j := 1) dX2_pair_7 rfl rfl ?_
  refine j_iadd dX2_pair_8 ?_
  obtain rfl := Option.some.inj h
  exact j_iret hk.1 hk.2 rfl dX2_pair_9
theorem yX2_pair_ok {x0 : Int32} {x1 : Int32} {G : GS} {r : Int32} (h : fX2_pair_0 x0 x1 G = some r) : zRuns yX2_pair (ws_ yX2_pair cX2_pair 2 (some Jvm.ClassFile.FieldType.int)) [vI x0, vI x1] (.inl (some (vI r)), G, G, 1) :=
  zentry (M := mX2_pair) (plainFor_of_name (by decide +kernel)) ⟨rfl, rfl, rfl, rfl⟩ (Nat.le_of_ble_eq_true rfl) (wfX2_pair_0 (Nat.le_refl _) x0 x1 G h ⟨rfl, rfl⟩)
theorem msX2_246 : zSS RX2 246 yX2_pair cX2_pair 2 (some Jvm.ClassFile.FieldType.int) 2 := ⟨lw_S q3003 q3004 q131 q3005, (by decide +kernel), (by decide)⟩
abbrev mX2_joined : zM := (cX2_joined, RX2, 2, (some Jvm.ClassFile.FieldType.int), "joined", [], "(II)I")
def fX2_joined_0 (x0 : Int32) (x1 : Int32)  (G : GS) : Option (Int32) :=
  if x0 = 0 then (some x1) else (if x1 = 0 then (some x0) else (if 14 ≤ x1 then (zcond (¬ (13 : Int32) = 0) ((fX2_pair_0 (x0 - 1) ((x1 - 14) / (13 : Int32)) G).bind fun v5 => some v5)) else ((fX2_pair_0 (x0 - 1) (x1 - 1) G).bind fun v8 => some v8)))
theorem wfX2_joined_0 {F : zF} (hd : 2 ≤ F.2.2.2) (x0 : Int32) (x1 : Int32)  (G : GS) {a : Int32} (h : fX2_joined_0 x0 x1  G = some a) (hk : zKPI F G a) : J mX2_joined F G 0 [(0, vI x0), (1, vI x1)] [] := by
  unfold fX2_joined_0 at h
  refine j_iload_n (j := 0) dX2_joined_0 rfl rfl ?_
  refine j_if_ne (tgt := 6) dX2_joined_1 (by decide) (fun c1 => ?_) (fun c1 => ?_)
  · rw [if_pos c1] at h
    refine j_iload_n (j := 1) dX2_joined_4 rfl rfl ?_
    obtain rfl := Option.some.inj h
    exact j_iret hk.1 hk.2 rfl dX2_joined_5
  · rw [if_neg c1] at h
    refine j_iload_n (j := 1) dX2_joined_6 rfl rfl ?_
    refine j_if_ne (tgt := 12) dX2_joined_7 (by decide) (fun c2 => ?_) (fun c2 => ?_)
    · rw [if_pos c2] at h
      refine j_iload_n (j := 0) dX2_joined_10 rfl rfl ?_
      obtain rfl := Option.some.inj h
      exact j_iret hk.1 hk.2 rfl dX2_joined_11
    · rw [if_neg c2] at h
      refine j_iload_n (j := 0) dX2_joined_12 rfl rfl ?_
      refine j_iconst (v := 1) dX2_joined_13 (by decide) ?_
      refine j_isub dX2_joined_14 ?_
      refine j_iload_n (j := 1) dX2_joined_15 rfl rfl ?_
      refine j_bipush (v := 14) dX2_joined_16 (by decide) ?_
      refine j_icmp_ge (tgt := 27) dX2_joined_18 (by decide) (fun c3 => ?_) (fun c3 => ?_)
      · rw [if_pos c3] at h
        refine j_iload_n (j := 1) dX2_joined_27 rfl rfl ?_
        refine j_bipush (v := 14) dX2_joined_28 (by decide) ?_
        refine j_isub dX2_joined_30 ?_
        refine j_bipush (v := 13) dX2_joined_31 (by decide) ?_
        replace h := zcondE h
        obtain ⟨e6, h⟩ := h
        refine j_idiv dX2_joined_33 e6 ?_
        replace h := zbE h
        obtain ⟨v5, e4, h⟩ := h
        refine j_cont (zrS (As := [vI (x0 - 1), vI ((x1 - 14) / (13 : Int32))]) msX2_246 (yX2_pair_ok e4) (Nat.le_trans (Nat.le_of_ble_eq_true rfl) hd) rfl rfl (Nat.le_of_ble_eq_true rfl) dX2_joined_34) ?_
        obtain rfl := Option.some.inj h
        exact j_iret hk.1 hk.2 rfl dX2_joined_37
      · rw [if_neg c3] at h
        refine j_iload_n (j := 1) dX2_joined_21 rfl rfl ?_
        refine j_iconst (v := 1) dX2_joined_22 (by decide) ?_
        refine j_isub dX2_joined_23 ?_
        refine j_goto (tgt := 34) dX2_joined_24 (by decide) ?_
        replace h := zbE h
        obtain ⟨v8, e7, h⟩ := h
        refine j_cont (zrS (As := [vI (x0 - 1), vI (x1 - 1)]) msX2_246 (yX2_pair_ok e7) (Nat.le_trans (Nat.le_of_ble_eq_true rfl) hd) rfl rfl (Nat.le_of_ble_eq_true rfl) dX2_joined_34) ?_
        obtain rfl := Option.some.inj h
        exact j_iret hk.1 hk.2 rfl dX2_joined_37
theorem yX2_joined_ok {x0 : Int32} {x1 : Int32} {G : GS} {r : Int32} (h : fX2_joined_0 x0 x1 G = some r) : zRuns yX2_joined (ws_ yX2_joined cX2_joined 2 (some Jvm.ClassFile.FieldType.int)) [vI x0, vI x1] (.inl (some (vI r)), G, G, 2) :=
  zentry (M := mX2_joined) (plainFor_of_name (by decide +kernel)) ⟨rfl, rfl, rfl, rfl⟩ (Nat.le_of_ble_eq_true rfl) (wfX2_joined_0 (Nat.le_refl _) x0 x1 G h ⟨rfl, rfl⟩)
end
