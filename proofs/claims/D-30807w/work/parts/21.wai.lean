/-! printed: functions and walks -/
set_option maxRecDepth 100000
noncomputable section
theorem fpX4_14_X4 : zFP RX4 14 3 0 (.object "java/util/List") true := ⟨(RX4, TX4, 3, tyX4), rfl, by decide, in_X4, tyX4_ok, nmX4, rfl, rfl, (by intro _; rfl), "SelahGenerator$Workshop", Or.inl rfl, q2201⟩
theorem msX4_11 : zSI RX4 11 yJ2_init_2 cJ2_init_2 3 1 := ⟨q1978, q126, q1976, q1977, rfl, (by decide +kernel), (by decide)⟩
abbrev mX4_init : zM := (cX4_init, RX4, 2, none, "<init>", [], "(Ljava/util/List;)V")
def fX4_init_0 (t : Nat) (x1 : Option Nat)  (G : GS) : Option (GS) :=
  zl (al G 12 0 3) fun G1 => (fJ2_init_2_0 (gz G) x1 G1).bind fun G4 => (zpR G4 4 t 0 (some (gz G))).bind fun G5 => some G5
theorem wfX4_init_0 {F : zF} (hd : 6 ≤ F.2.2.2) (t : Nat) (x1 : Option Nat)  (G : GS) {a : GS} (h : fX4_init_0 t x1  G = some a) (hk : zKV F a) : J mX4_init F G 0 [(0, vR (some t)), (1, vR x1)] [] := by
  unfold fX4_init_0 at h
  refine j_aload_n (j := 0) dX4_init_0 rfl rfl ?_
  refine j_objinit q1974 q181 q182 (Nat.le_trans (Nat.le_of_ble_eq_true rfl) hd) (Nat.le_of_ble_eq_true rfl) dX4_init_1 ?_
  refine j_aload_n (j := 0) dX4_init_4 rfl rfl ?_
  replace h := zlE h
  obtain ⟨G1, e2, h⟩ := h
  refine j_new (c := 11) (n := 3) (r := (RJ2, TJ2, 3, tyJ2)) rfl rfl in_J2 tyJ2_ok nwJ2 q1975 q184 q126 dX4_init_5 ?_
  rw [show al G (11 + 1) 0 3 = G1 from e2.symm]
  refine j_dup dX4_init_8 rfl ?_
  refine j_aload_n (j := 1) dX4_init_9 rfl rfl ?_
  replace h := zbE h
  obtain ⟨G4, e3, h⟩ := h
  refine j_cont (zrI (As := [vR x1]) msX4_11 (yJ2_init_2_ok e3) (Nat.le_trans (Nat.le_of_ble_eq_true rfl) hd) rfl rfl (Nat.le_of_ble_eq_true rfl) dX4_init_10) ?_
  replace h := zbE h
  obtain ⟨G5, e6, h⟩ := h
  refine j_putR fpX4_14_X4 (Or.inr rfl) (Or.inl ⟨_, rfl⟩) dX4_init_13 e6 ?_
  obtain rfl := Option.some.inj h
  exact j_vret hk.1 hk.2 rfl dX4_init_16
theorem yX4_init_ok {t : Nat} {x1 : Option Nat} {G : GS} {G1 : GS} (h : fX4_init_0 t x1 G = some G1) : zRuns yX4_init (ws_ yX4_init cX4_init 2 none) [vR (some t), vR x1] (.inl none, G, G1, 6) :=
  zentry (M := mX4_init) (plainFor_of_name (by decide +kernel)) ⟨rfl, rfl, rfl, rfl⟩ (Nat.le_of_ble_eq_true rfl) (wfX4_init_0 (Nat.le_refl _) t x1 G h ⟨rfl, rfl⟩)
theorem fgX4_14 : zFG RX4 14 3 0 (.object "java/util/List") := ⟨(RX4, TX4, 3, tyX4), rfl, by decide, in_X4, rfl, "SelahGenerator$Workshop", Or.inl rfl, Or.inl q2201⟩
theorem fgX4_38 : zFG RX4 38 2 0 (.int) := ⟨(RX3, TX3, 2, tyX3), rfl, by decide, in_X3, rfl, "SelahGenerator$Rule", Or.inl rfl, Or.inr ⟨_, zxw 95 rfl⟩⟩
theorem msX4_20_J2 : zSF RX4 20 RJ2 ⟨"java/util/List", "iterator", "()Ljava/util/Iterator;"⟩ yJ2_iterator cJ2_iterator 1 (some (Jvm.ClassFile.FieldType.object "java/util/Iterator")) 0 := ⟨lw_F q285 q288 q290 q126 q292, zfw 11 rfl, ⟨11, _, rfl, rfl⟩, (by decide +kernel), (by decide)⟩
theorem msX4_26_J19 : zSF RX4 26 RJ19 ⟨"java/util/Iterator", "hasNext", "()Z"⟩ yJ19_hasNext cJ19_hasNext 1 (some Jvm.ClassFile.FieldType.boolean) 0 := ⟨lw_F q313 q323 q325 q147 q327, zfw 16 rfl, ⟨12, _, rfl, rfl⟩, (by decide +kernel), (by decide)⟩
theorem msX4_32_J19 : zSF RX4 32 RJ19 ⟨"java/util/Iterator", "next", "()Ljava/lang/Object;"⟩ yJ19_next cJ19_next 3 (some (Jvm.ClassFile.FieldType.object "java/lang/Object")) 0 := ⟨lw_F q345 q359 q361 q147 q363, zfw 17 rfl, ⟨12, _, rfl, rfl⟩, (by decide +kernel), (by decide)⟩
theorem msX4_64 : zSI RX4 64 yJ2_init cJ2_init 1 0 := ⟨q187, q126, q2244, q186, rfl, (by decide +kernel), (by decide)⟩
theorem msX4_65_J2 : zSF RX4 65 RJ2 ⟨"java/util/List", "add", "(Ljava/lang/Object;)Z"⟩ yJ2_add cJ2_add 2 (some Jvm.ClassFile.FieldType.boolean) 1 := ⟨lw_F q2246 q1755 q1757 q126 q1759, zfw 5 rfl, ⟨11, _, rfl, rfl⟩, (by decide +kernel), (by decide)⟩
abbrev mX4_of : zM := (cX4_of, RX4, 5, (some (Jvm.ClassFile.FieldType.object "java/util/List")), "of", [], "(I)Ljava/util/List;")
def fX4_of_56 (x1 : Int32) (x2 : Option Nat) (x3 : Option Nat)  (G : GS) : Option ((GS) ⊕ ((Option Nat) × GS)) :=
  some (.inl (G))
theorem wfX4_of_56 {F : zF} (hd : 8 ≤ F.2.2.2) (x1 : Int32) (x2 : Option Nat) (x3 : Option Nat)  (G : GS) {a : (GS) ⊕ ((Option Nat) × GS)} (h : fX4_of_56 x1 x2 x3  G = some a) (hk : (zcase (fun s : GS => J mX4_of F s 18 [(1, vI x1), (2, vR x2), (3, vR x3)] []) (zKR F)) a) : J mX4_of F G 56 [(1, vI x1), (2, vR x2), (3, vR x3)] [] := by
  unfold fX4_of_56 at h
  refine j_goto (tgt := 18) dX4_of_56 (by decide) ?_
  obtain rfl := Option.some.inj h
  exact J.sub (zall [0, 1, 2] rfl) hk
def fbX4_of_18 (x1 : Int32) (x2 : Option Nat) (x3 : Option Nat)  (G : GS) : Option ((GS) ⊕ ((Option Nat) × GS)) :=
  x3.bind fun a1 => zk [13] G a1 <| (fJ19_hasNext_0 a1 G).bind fun v5 => if v5 = 0 then (zo (some (x2, G))) else (zk [13] G a1 <| zb2 (fJ19_next_0 a1 G) fun r9 G10 => zkq [3] G10 r9 (r9.bind fun a12 => (zgI G10 3 a12 0).bind fun v14 => if v14 = x1 then (x2.bind fun a17 => zk [12] G10 a17 <| zb2 (fJ2_add_0 a17 (some a12) G10) fun v21 G22 => fX4_of_56 x1 (some a17) (some a1) G22) else (fX4_of_56 x1 x2 (some a1) G10)))
def flX4_of_18 (x1 : Int32) (x2 : Option Nat) (x3 : Option Nat) (G : GS) : Option ((Option Nat) × GS) := zloop (fun s : GS => fbX4_of_18 x1 x2 x3 s) (G)
theorem wfbX4_of_18 {F : zF} (hd : 8 ≤ F.2.2.2) (x1 : Int32) (x2 : Option Nat) (x3 : Option Nat) (G : GS) {a : (GS) ⊕ ((Option Nat) × GS)} (h : fbX4_of_18 x1 x2 x3 G = some a) (hk : (zcase (fun s : GS => J mX4_of F s 18 [(1, vI x1), (2, vR x2), (3, vR x3)] []) (zKR F)) a) : J mX4_of F G 18 [(1, vI x1), (2, vR x2), (3, vR x3)] [] := by
  unfold fbX4_of_18 at h
  refine j_aload_n (j := 2) dX4_of_18 rfl rfl ?_
  replace h := zbE h
  obtain ⟨a1, e2, h⟩ := h
  subst e2
  replace h := zkE h
  obtain ⟨e3, h⟩ := h
  replace h := zbE h
  obtain ⟨v5, e4, h⟩ := h
  refine j_cont (zrF (As := []) msX4_26_J19 (yJ19_hasNext_ok e4) (Nat.le_trans (Nat.le_of_ble_eq_true rfl) hd) (zk_13 _ e3) rfl rfl (Nat.le_of_ble_eq_true rfl) dX4_of_19) ?_
  refine j_if_eq (tgt := 59) dX4_of_24 (by decide) (fun c6 => ?_) (fun c6 => ?_)
  · rw [if_pos c6] at h
    replace h := zoE h
    obtain ⟨a, h, rfl⟩ := h
    replace hk := hk
    refine j_aload_n (j := 1) dX4_of_59 rfl rfl ?_
    obtain rfl := Option.some.inj h
    exact j_aret hk.1 hk.2 rfl (Or.inl ⟨_, rfl⟩) dX4_of_60
  · rw [if_neg c6] at h
    refine j_aload_n (j := 2) dX4_of_27 rfl rfl ?_
    replace h := zkE h
    obtain ⟨e7, h⟩ := h
    replace h := zb2E h
    obtain ⟨r9, G10, e8, h⟩ := h
    refine j_cont (zrF (As := []) msX4_32_J19 (yJ19_next_ok e8) (Nat.le_trans (Nat.le_of_ble_eq_true rfl) hd) (zk_13 _ e7) rfl rfl (Nat.le_of_ble_eq_true rfl) dX4_of_28) ?_
    replace h := zkqE h
    obtain ⟨e11, h⟩ := h
    refine j_castq (fun k => j_castN dX4_of_33 k) (fun b q23 k => j_castS (zk_3 _ (e11 b q23)) ⟨2, _, rfl, rfl⟩ q399 dX4_of_33 k) ?_
    refine j_astore (lv' := [(4, vR r9), (1, vI x1), (2, vR x2), (3, vR (some a1))]) dX4_of_36 (Nat.le_of_ble_eq_true rfl) rfl ?_
    refine j_aload (j := 0) dX4_of_38 rfl ?_
    replace h := zbE h
    obtain ⟨a12, e13, h⟩ := h
    subst e13
    replace h := zbE h
    obtain ⟨v14, e15, h⟩ := h
    refine j_getI fgX4_38 (fun _ _ _ => rfl) dX4_of_40 e15 ?_
    refine j_iload_n (j := 1) dX4_of_43 rfl rfl ?_
    refine j_icmp_ne (tgt := 56) dX4_of_44 (by decide) (fun c16 => ?_) (fun c16 => ?_)
    · rw [if_pos c16] at h
      refine j_aload_n (j := 2) dX4_of_47 rfl rfl ?_
      refine j_aload (j := 0) dX4_of_48 rfl ?_
      replace h := zbE h
      obtain ⟨a17, e18, h⟩ := h
      subst e18
      replace h := zkE h
      obtain ⟨e19, h⟩ := h
      replace h := zb2E h
      obtain ⟨v21, G22, e20, h⟩ := h
      refine j_cont (zrF (As := [vR (some a12)]) msX4_65_J2 (yJ2_add_ok e20) (Nat.le_trans (Nat.le_of_ble_eq_true rfl) hd) (zk_12 _ e19) rfl rfl (Nat.le_of_ble_eq_true rfl) dX4_of_50) ?_
      refine j_pop dX4_of_55 rfl ?_
      exact J.sub (zall [1, 2, 3] rfl) (wfX4_of_56 hd x1 (some a17) (some a1)  G22 h hk)
    · rw [if_neg c16] at h
      exact J.sub (zall [1, 2, 3] rfl) (wfX4_of_56 hd x1 x2 (some a1)  G10 h hk)
theorem wflX4_of_18 {F : zF} (hd : 8 ≤ F.2.2.2) (x1 : Int32) (x2 : Option Nat) (x3 : Option Nat) (G : GS) {a : (Option Nat) × GS} (h : flX4_of_18 x1 x2 x3 G = some a) (hk : zKR F a) : J mX4_of F G 18 [(1, vI x1), (2, vR x2), (3, vR x3)] [] := by
  unfold flX4_of_18 at h
  exact zloop_walk (P := (fun s : GS => J mX4_of F s 18 [(1, vI x1), (2, vR x2), (3, vR x3)] [])) (fun s b e hk => wfbX4_of_18 hd x1 x2 x3 s e hk) (G) _ h hk
def fX4_of_0 (t : Nat) (x1 : Int32)  (G : GS) : Option ((Option Nat) × GS) :=
  zl (al G 12 0 3) fun G1 => (fJ2_init_0 (gz G) G1).bind fun G4 => (zgR G4 4 t 0).bind fun r5 => r5.bind fun a7 => zk [12] G4 a7 <| zb2 (fJ2_iterator_0 a7 G4) fun r11 G12 => flX4_of_18 x1 (some (gz G)) r11 G12
theorem wfX4_of_0 {F : zF} (hd : 8 ≤ F.2.2.2) (t : Nat) (x1 : Int32)  (G : GS) {a : (Option Nat) × GS} (h : fX4_of_0 t x1  G = some a) (hk : zKR F a) : J mX4_of F G 0 [(0, vR (some t)), (1, vI x1)] [] := by
  unfold fX4_of_0 at h
  replace h := zlE h
  obtain ⟨G1, e2, h⟩ := h
  refine j_new (c := 11) (n := 3) (r := (RJ2, TJ2, 3, tyJ2)) rfl rfl in_J2 tyJ2_ok nwJ2 q1975 q184 q126 dX4_of_0 ?_
  rw [show al G (11 + 1) 0 3 = G1 from e2.symm]
  refine j_dup dX4_of_3 rfl ?_
  replace h := zbE h
  obtain ⟨G4, e3, h⟩ := h
  refine j_cont (zrI (As := []) msX4_64 (yJ2_init_ok e3) (Nat.le_trans (Nat.le_of_ble_eq_true rfl) hd) rfl rfl (Nat.le_of_ble_eq_true rfl) dX4_of_4) ?_
  refine j_astore_n (lv' := [(2, vR (some (gz G))), (0, vR (some t)), (1, vI x1)]) dX4_of_7 rfl (Nat.le_of_ble_eq_true rfl) rfl ?_
  refine j_aload_n (j := 1) dX4_of_8 rfl rfl ?_
  replace h := zbE h
  obtain ⟨r5, e6, h⟩ := h
  refine j_getR fgX4_14 (fun _ _ _ => rfl) dX4_of_9 e6 ?_
  replace h := zbE h
  obtain ⟨a7, e8, h⟩ := h
  subst e8
  replace h := zkE h
  obtain ⟨e9, h⟩ := h
  replace h := zb2E h
  obtain ⟨r11, G12, e10, h⟩ := h
  refine j_cont (zrF (As := []) msX4_20_J2 (yJ2_iterator_ok e10) (Nat.le_trans (Nat.le_of_ble_eq_true rfl) hd) (zk_12 _ e9) rfl rfl (Nat.le_of_ble_eq_true rfl) dX4_of_12) ?_
  refine j_astore_n (lv' := [(3, vR r11), (2, vR (some (gz G))), (0, vR (some t)), (1, vI x1)]) dX4_of_17 rfl (Nat.le_of_ble_eq_true rfl) rfl ?_
  exact J.sub (zall [3, 1, 0] rfl) (wflX4_of_18 hd x1 (some (gz G)) r11  G12 h hk)
theorem yX4_of_ok {t : Nat} {x1 : Int32} {G : GS} {r : Option Nat} {G1 : GS} (h : fX4_of_0 t x1 G = some (r, G1)) : zRuns yX4_of (ws_ yX4_of cX4_of 5 (some (Jvm.ClassFile.FieldType.object "java/util/List"))) [vR (some t), vI x1] (.inl (some (vR r)), G, G1, 8) :=
  zentry (M := mX4_of) (plainFor_of_name (by decide +kernel)) ⟨rfl, rfl, rfl, rfl⟩ (Nat.le_of_ble_eq_true rfl) (wfX4_of_0 (Nat.le_refl _) t x1 G h ⟨rfl, rfl⟩)
abbrev mX3_beginsWith : zM := (cX3_beginsWith, RX3, 2, (some Jvm.ClassFile.FieldType.boolean), "beginsWith", [], "(I)Z")
def fX3_beginsWith_22   (G : GS) : Option (Int32) :=
  zcond (zbb 0) (some 0)
theorem wfX3_beginsWith_22 {F : zF} (hd : 1 ≤ F.2.2.2)   (G : GS) {a : Int32} (h : fX3_beginsWith_22   G = some a) (hk : zKPI F G a) : J mX3_beginsWith F G 22 [] [] := by
  unfold fX3_beginsWith_22 at h
  refine j_iconst (v := 0) dX3_beginsWith_22 (by decide) ?_
  replace h := zcondE h
  obtain ⟨e1, h⟩ := h
  obtain rfl := Option.some.inj h
  exact j_zret hk.1 hk.2 rfl (zbb_n e1) dX3_beginsWith_23
def fX3_beginsWith_0 (t : Nat) (x1 : Int32)  (G : GS) : Option (Int32) :=
  (zgR G 3 t 1).bind fun r1 => r1.bind fun a3 => (zln G a3).bind fun v5 => if v5 ≤ 0 then (fX3_beginsWith_22 G) else ((zgR G 3 t 1).bind fun r8 => r8.bind fun a10 => (zaI G 50 a10 (0 : Int32)).bind fun v12 => if v12 = x1 then (zcond (zbb 1) (some 1)) else (fX3_beginsWith_22 G))
theorem wfX3_beginsWith_0 {F : zF} (hd : 1 ≤ F.2.2.2) (t : Nat) (x1 : Int32)  (G : GS) {a : Int32} (h : fX3_beginsWith_0 t x1  G = some a) (hk : zKPI F G a) : J mX3_beginsWith F G 0 [(0, vR (some t)), (1, vI x1)] [] := by
  unfold fX3_beginsWith_0 at h
  refine j_aload_n (j := 0) dX3_beginsWith_0 rfl rfl ?_
  replace h := zbE h
  obtain ⟨r1, e2, h⟩ := h
  refine j_getR fgX3_13 (fun _ _ _ => rfl) dX3_beginsWith_1 e2 ?_
  replace h := zbE h
  obtain ⟨a3, e4, h⟩ := h
  subst e4
  replace h := zbE h
  obtain ⟨v5, e6, h⟩ := h
  refine j_alen e6 dX3_beginsWith_4 ?_
  refine j_if_le (tgt := 22) dX3_beginsWith_5 (by decide) (fun c7 => ?_) (fun c7 => ?_)
  · rw [if_pos c7] at h
    exact J.sub (zall [] rfl) (wfX3_beginsWith_22 hd   G h hk)
  · rw [if_neg c7] at h
    refine j_aload_n (j := 0) dX3_beginsWith_8 rfl rfl ?_
    replace h := zbE h
    obtain ⟨r8, e9, h⟩ := h
    refine j_getR fgX3_13 (fun _ _ _ => rfl) dX3_beginsWith_9 e9 ?_
    refine j_iconst (v := 0) dX3_beginsWith_12 (by decide) ?_
    replace h := zbE h
    obtain ⟨a10, e11, h⟩ := h
    subst e11
    replace h := zbE h
    obtain ⟨v12, e13, h⟩ := h
    refine j_iald (Or.inl rfl) e13 dX3_beginsWith_13 ?_
    refine j_iload_n (j := 1) dX3_beginsWith_14 rfl rfl ?_
    refine j_icmp_ne (tgt := 22) dX3_beginsWith_15 (by decide) (fun c14 => ?_) (fun c14 => ?_)
    · rw [if_pos c14] at h
      refine j_iconst (v := 1) dX3_beginsWith_18 (by decide) ?_
      refine j_goto (tgt := 23) dX3_beginsWith_19 (by decide) ?_
      replace h := zcondE h
      obtain ⟨e15, h⟩ := h
      obtain rfl := Option.some.inj h
      exact j_zret hk.1 hk.2 rfl (zbb_n e15) dX3_beginsWith_23
    · rw [if_neg c14] at h
      exact J.sub (zall [] rfl) (wfX3_beginsWith_22 hd   G h hk)
theorem yX3_beginsWith_ok {t : Nat} {x1 : Int32} {G : GS} {r : Int32} (h : fX3_beginsWith_0 t x1 G = some r) : zRuns yX3_beginsWith (ws_ yX3_beginsWith cX3_beginsWith 2 (some Jvm.ClassFile.FieldType.boolean)) [vR (some t), vI x1] (.inl (some (vI r)), G, G, 1) :=
  zentry (M := mX3_beginsWith) (plainFor_of_name (by decide +kernel)) ⟨rfl, rfl, rfl, rfl⟩ (Nat.le_of_ble_eq_true rfl) (wfX3_beginsWith_0 (Nat.le_refl _) t x1 G h ⟨rfl, rfl⟩)
theorem zk_4 : ∀ k, [4].contains k = true → zKc k = some "SelahGenerator$Workshop" := fun k h => by rw [zKc_one h]; rfl
theorem fgX4_42 : zFG RX4 42 2 1 (.array (.int)) := ⟨(RX3, TX3, 2, tyX3), rfl, by decide, in_X3, rfl, "SelahGenerator$Rule", Or.inl rfl, Or.inr ⟨_, zxw 96 rfl⟩⟩
theorem msX4_104 : zSV RX4 104 RX3 yX3_beginsWith cX3_beginsWith 2 (some Jvm.ClassFile.FieldType.boolean) 1 := ⟨lw_V q2288 q2289 q2290 q138 q2291, (by decide +kernel), (by decide)⟩
theorem msX4_60_J2 : zSF RX4 60 RJ2 ⟨"java/util/List", "size", "()I"⟩ yJ2_size cJ2_size 1 (some Jvm.ClassFile.FieldType.int) 0 := ⟨lw_F q2222 q272 q274 q126 q276, zfw 15 rfl, ⟨11, _, rfl, rfl⟩, (by decide +kernel), (by decide)⟩
theorem msX4_80_J2 : zSF RX4 80 RJ2 ⟨"java/util/List", "get", "(I)Ljava/lang/Object;"⟩ yJ2_get cJ2_get 2 (some (Jvm.ClassFile.FieldType.object "java/lang/Object")) 1 := ⟨lw_F q2224 q1019 q1021 q126 q1023, zfw 8 rfl, ⟨11, _, rfl, rfl⟩, (by decide +kernel), (by decide)⟩
theorem msX4_87 : zSV RX4 87 RX4 yX4_of cX4_of 5 (some (Jvm.ClassFile.FieldType.object "java/util/List")) 1 := ⟨lw_V q2240 q2242 qs41 q146 q2243, (by decide +kernel), (by decide)⟩
abbrev mX4_sharing : zM := (cX4_sharing, RX4, 6, (some (Jvm.ClassFile.FieldType.object "SelahGenerator$Rule")), "sharing", [], "(I)LSelahGenerator$Rule;")
def fX4_sharing_88 (x2 : Option Nat) (x3 : Int32)  (G : GS) : Option ((Int32) ⊕ ((Option Nat) × GS)) :=
  some (.inl ((x3 + 1)))
theorem wfX4_sharing_88 {F : zF} (hd : 9 ≤ F.2.2.2) (x2 : Option Nat) (x3 : Int32)  (G : GS) {a : (Int32) ⊕ ((Option Nat) × GS)} (h : fX4_sharing_88 x2 x3  G = some a) (hk : (zcase (fun s : Int32 => J mX4_sharing F G 8 [(2, vR x2), (3, vI s)] []) (zKR F)) a) : J mX4_sharing F G 88 [(2, vR x2), (3, vI x3)] [] := by
  unfold fX4_sharing_88 at h
  refine j_iinc (j := 1) (v := (x3 + 1)) (lv' := [(3, vI (x3 + 1)), (2, vR x2)]) dX4_sharing_88 rfl rfl (Nat.le_of_ble_eq_true rfl) rfl ?_
  refine j_goto (tgt := 8) dX4_sharing_91 (by decide) ?_
  obtain rfl := Option.some.inj h
  exact J.sub (zall [1, 0] rfl) hk
def fbX4_sharing_35 (x2 : Option Nat) (x3 : Int32) (x4 : Option Nat) (x5 : Int32)  (G : GS) : Option ((Int32) ⊕ ((Int32) ⊕ ((Option Nat) × GS))) :=
  x2.bind fun a1 => zk [12] G a1 <| (fJ2_size_0 a1 G).bind fun v5 => if v5 ≤ x5 then (zo (fX4_sharing_88 (some a1) x3 G)) else (x4.bind fun a7 => (zgR G 3 a7 1).bind fun r9 => r9.bind fun a11 => (zln G a11).bind fun v13 => if v13 ≤ 0 then (zo (fX4_sharing_88 (some a1) x3 G)) else (zk [12] G a1 <| (fJ2_get_0 a1 x5 G).bind fun r18 => zkq [3] G r18 ((zgR G 3 a7 1).bind fun r20 => r20.bind fun a22 => (zaI G 50 a22 (0 : Int32)).bind fun v24 => r18.bind fun a26 => zk [3] G a26 <| (fX3_beginsWith_0 a26 v24 G).bind fun v30 => if v30 = 0 then (some (.inl ((x5 + 1)))) else (zo (zo (some ((some a7), G)))))))
def flX4_sharing_35 (x2 : Option Nat) (x3 : Int32) (x4 : Option Nat) (x5 : Int32) (G : GS) : Option ((Int32) ⊕ ((Option Nat) × GS)) := zloop (fun s : Int32 => fbX4_sharing_35 x2 x3 x4 s G) (x5)
theorem wfbX4_sharing_35 {F : zF} (hd : 9 ≤ F.2.2.2) (x2 : Option Nat) (x3 : Int32) (x4 : Option Nat) (x5 : Int32) (G : GS) {a : (Int32) ⊕ ((Int32) ⊕ ((Option Nat) × GS))} (h : fbX4_sharing_35 x2 x3 x4 x5 G = some a) (hk : (zcase (fun s : Int32 => J mX4_sharing F G 35 [(2, vR x2), (3, vI x3), (4, vR x4), (5, vI s)] []) ((zcase (fun s : Int32 => J mX4_sharing F G 8 [(2, vR x2), (3, vI s)] []) (zKR F)))) a) : J mX4_sharing F G 35 [(2, vR x2), (3, vI x3), (4, vR x4), (5, vI x5)] [] := by
  unfold fbX4_sharing_35 at h
  refine j_iload (j := 3) dX4_sharing_35 rfl ?_
  refine j_aload_n (j := 0) dX4_sharing_37 rfl rfl ?_
  replace h := zbE h
  obtain ⟨a1, e2, h⟩ := h
  subst e2
  replace h := zkE h
  obtain ⟨e3, h⟩ := h
  replace h := zbE h
  obtain ⟨v5, e4, h⟩ := h
  refine j_cont (zrF (As := []) msX4_60_J2 (yJ2_size_ok e4) (Nat.le_trans (Nat.le_of_ble_eq_true rfl) hd) (zk_12 _ e3) rfl rfl (Nat.le_of_ble_eq_true rfl) dX4_sharing_38) ?_
  refine j_icmp_ge (tgt := 88) dX4_sharing_43 (by decide) (fun c6 => ?_) (fun c6 => ?_)
  · rw [if_pos c6] at h
    replace h := zoE h
    obtain ⟨a, h, rfl⟩ := h
    replace hk := hk
    exact J.sub (zall [0, 1] rfl) (wfX4_sharing_88 hd (some a1) x3  G h hk)
  · rw [if_neg c6] at h
    refine j_aload (j := 2) dX4_sharing_46 rfl ?_
    replace h := zbE h
    obtain ⟨a7, e8, h⟩ := h
    subst e8
    replace h := zbE h
    obtain ⟨r9, e10, h⟩ := h
    refine j_getR fgX4_42 (fun _ _ _ => rfl) dX4_sharing_48 e10 ?_
    replace h := zbE h
    obtain ⟨a11, e12, h⟩ := h
    subst e12
    replace h := zbE h
    obtain ⟨v13, e14, h⟩ := h
    refine j_alen e14 dX4_sharing_51 ?_
    refine j_if_le (tgt := 88) dX4_sharing_52 (by decide) (fun c15 => ?_) (fun c15 => ?_)
    · rw [if_pos c15] at h
      replace h := zoE h
      obtain ⟨a, h, rfl⟩ := h
      replace hk := hk
      exact J.sub (zall [0, 1] rfl) (wfX4_sharing_88 hd (some a1) x3  G h hk)
    · rw [if_neg c15] at h
      refine j_aload_n (j := 0) dX4_sharing_55 rfl rfl ?_
      refine j_iload (j := 3) dX4_sharing_56 rfl ?_
      replace h := zkE h
      obtain ⟨e16, h⟩ := h
      replace h := zbE h
      obtain ⟨r18, e17, h⟩ := h
      refine j_cont (zrF (As := [vI x5]) msX4_80_J2 (yJ2_get_ok e17) (Nat.le_trans (Nat.le_of_ble_eq_true rfl) hd) (zk_12 _ e16) rfl rfl (Nat.le_of_ble_eq_true rfl) dX4_sharing_58) ?_
      replace h := zkqE h
      obtain ⟨e19, h⟩ := h
      refine j_castq (fun k => j_castN dX4_sharing_63 k) (fun b q32 k => j_castS (zk_3 _ (e19 b q32)) ⟨2, _, rfl, rfl⟩ q399 dX4_sharing_63 k) ?_
      refine j_aload (j := 2) dX4_sharing_66 rfl ?_
      replace h := zbE h
      obtain ⟨r20, e21, h⟩ := h
      refine j_getR fgX4_42 (fun _ _ _ => rfl) dX4_sharing_68 e21 ?_
      refine j_iconst (v := 0) dX4_sharing_71 (by decide) ?_
      replace h := zbE h
      obtain ⟨a22, e23, h⟩ := h
      subst e23
      replace h := zbE h
      obtain ⟨v24, e25, h⟩ := h
      refine j_iald (Or.inl rfl) e25 dX4_sharing_72 ?_
      replace h := zbE h
      obtain ⟨a26, e27, h⟩ := h
      subst e27
      replace h := zkE h
      obtain ⟨e28, h⟩ := h
      replace h := zbE h
      obtain ⟨v30, e29, h⟩ := h
      refine j_cont (zrV (As := [vI v24]) msX4_104 (yX3_beginsWith_ok e29) (Nat.le_trans (Nat.le_of_ble_eq_true rfl) hd) (zk_3 _ e28) rfl rfl (Nat.le_of_ble_eq_true rfl) dX4_sharing_73) ?_
      refine j_if_eq (tgt := 82) dX4_sharing_76 (by decide) (fun c31 => ?_) (fun c31 => ?_)
      · rw [if_pos c31] at h
        refine j_iinc (j := 3) (v := (x5 + 1)) (lv' := [(5, vI (x5 + 1)), (2, vR (some a1)), (3, vI x3), (4, vR (some a7))]) dX4_sharing_82 rfl rfl (Nat.le_of_ble_eq_true rfl) rfl ?_
        refine j_goto (tgt := 35) dX4_sharing_85 (by decide) ?_
        obtain rfl := Option.some.inj h
        exact J.sub (zall [1, 2, 3, 0] rfl) hk
      · rw [if_neg c31] at h
        replace h := zoE h
        obtain ⟨a, h, rfl⟩ := h
        replace hk := hk
        replace h := zoE h
        obtain ⟨a, h, rfl⟩ := h
        replace hk := hk
        refine j_aload (j := 2) dX4_sharing_79 rfl ?_
        obtain rfl := Option.some.inj h
        exact j_aret hk.1 hk.2 rfl (Or.inl ⟨_, rfl⟩) dX4_sharing_81
theorem wflX4_sharing_35 {F : zF} (hd : 9 ≤ F.2.2.2) (x2 : Option Nat) (x3 : Int32) (x4 : Option Nat) (x5 : Int32) (G : GS) {a : (Int32) ⊕ ((Option Nat) × GS)} (h : flX4_sharing_35 x2 x3 x4 x5 G = some a) (hk : (zcase (fun s : Int32 => J mX4_sharing F G 8 [(2, vR x2), (3, vI s)] []) (zKR F)) a) : J mX4_sharing F G 35 [(2, vR x2), (3, vI x3), (4, vR x4), (5, vI x5)] [] := by
  unfold flX4_sharing_35 at h
  exact zloop_walk (P := (fun s : Int32 => J mX4_sharing F G 35 [(2, vR x2), (3, vI x3), (4, vR x4), (5, vI s)] [])) (fun s b e hk => wfbX4_sharing_35 hd x2 x3 x4 s G e hk) (x5) _ h hk
def fbX4_sharing_8 (x2 : Option Nat) (x3 : Int32)  (G : GS) : Option ((Int32) ⊕ ((Option Nat) × GS)) :=
  x2.bind fun a1 => zk [12] G a1 <| (fJ2_size_0 a1 G).bind fun v5 => if v5 ≤ x3 then (zo (some (none, G))) else (zk [12] G a1 <| (fJ2_get_0 a1 x3 G).bind fun r9 => zkq [3] G r9 (flX4_sharing_35 (some a1) x3 r9 (x3 + 1) G))
def flX4_sharing_8 (x2 : Option Nat) (x3 : Int32) (G : GS) : Option ((Option Nat) × GS) := zloop (fun s : Int32 => fbX4_sharing_8 x2 s G) (x3)
theorem wfbX4_sharing_8 {F : zF} (hd : 9 ≤ F.2.2.2) (x2 : Option Nat) (x3 : Int32) (G : GS) {a : (Int32) ⊕ ((Option Nat) × GS)} (h : fbX4_sharing_8 x2 x3 G = some a) (hk : (zcase (fun s : Int32 => J mX4_sharing F G 8 [(2, vR x2), (3, vI s)] []) (zKR F)) a) : J mX4_sharing F G 8 [(2, vR x2), (3, vI x3)] [] := by
  unfold fbX4_sharing_8 at h
  refine j_iload_n (j := 1) dX4_sharing_8 rfl rfl ?_
  refine j_aload_n (j := 0) dX4_sharing_9 rfl rfl ?_
  replace h := zbE h
  obtain ⟨a1, e2, h⟩ := h
  subst e2
  replace h := zkE h
  obtain ⟨e3, h⟩ := h
  replace h := zbE h
  obtain ⟨v5, e4, h⟩ := h
  refine j_cont (zrF (As := []) msX4_60_J2 (yJ2_size_ok e4) (Nat.le_trans (Nat.le_of_ble_eq_true rfl) hd) (zk_12 _ e3) rfl rfl (Nat.le_of_ble_eq_true rfl) dX4_sharing_10) ?_
  refine j_icmp_ge (tgt := 94) dX4_sharing_15 (by decide) (fun c6 => ?_) (fun c6 => ?_)
  · rw [if_pos c6] at h
    replace h := zoE h
    obtain ⟨a, h, rfl⟩ := h
    replace hk := hk
    refine j_null dX4_sharing_94 ?_
    obtain rfl := Option.some.inj h
    exact j_aret hk.1 hk.2 rfl (Or.inl ⟨_, rfl⟩) dX4_sharing_95
  · rw [if_neg c6] at h
    refine j_aload_n (j := 0) dX4_sharing_18 rfl rfl ?_
    refine j_iload_n (j := 1) dX4_sharing_19 rfl rfl ?_
    replace h := zkE h
    obtain ⟨e7, h⟩ := h
    replace h := zbE h
    obtain ⟨r9, e8, h⟩ := h
    refine j_cont (zrF (As := [vI x3]) msX4_80_J2 (yJ2_get_ok e8) (Nat.le_trans (Nat.le_of_ble_eq_true rfl) hd) (zk_12 _ e7) rfl rfl (Nat.le_of_ble_eq_true rfl) dX4_sharing_20) ?_
    replace h := zkqE h
    obtain ⟨e10, h⟩ := h
    refine j_castq (fun k => j_castN dX4_sharing_25 k) (fun b q11 k => j_castS (zk_3 _ (e10 b q11)) ⟨2, _, rfl, rfl⟩ q399 dX4_sharing_25 k) ?_
    refine j_astore (lv' := [(4, vR r9), (2, vR (some a1)), (3, vI x3)]) dX4_sharing_28 (Nat.le_of_ble_eq_true rfl) rfl ?_
    refine j_iload_n (j := 2) dX4_sharing_30 rfl rfl ?_
    refine j_iconst (v := 1) dX4_sharing_31 (by decide) ?_
    refine j_iadd dX4_sharing_32 ?_
    refine j_istore (lv' := [(5, vI (x3 + 1)), (4, vR r9), (2, vR (some a1)), (3, vI x3)]) dX4_sharing_33 (Nat.le_of_ble_eq_true rfl) rfl ?_
    exact J.sub (zall [2, 3, 1, 0] rfl) (wflX4_sharing_35 hd (some a1) x3 r9 (x3 + 1)  G h hk)
theorem wflX4_sharing_8 {F : zF} (hd : 9 ≤ F.2.2.2) (x2 : Option Nat) (x3 : Int32) (G : GS) {a : (Option Nat) × GS} (h : flX4_sharing_8 x2 x3 G = some a) (hk : zKR F a) : J mX4_sharing F G 8 [(2, vR x2), (3, vI x3)] [] := by
  unfold flX4_sharing_8 at h
  exact zloop_walk (P := (fun s : Int32 => J mX4_sharing F G 8 [(2, vR x2), (3, vI s)] [])) (fun s b e hk => wfbX4_sharing_8 hd x2 s G e hk) (x3) _ h hk
def fX4_sharing_0 (t : Nat) (x1 : Int32)  (G : GS) : Option ((Option Nat) × GS) :=
  zk [4] G t <| zb2 (fX4_of_0 t x1 G) fun r3 G4 => flX4_sharing_8 r3 0 G4
theorem wfX4_sharing_0 {F : zF} (hd : 9 ≤ F.2.2.2) (t : Nat) (x1 : Int32)  (G : GS) {a : (Option Nat) × GS} (h : fX4_sharing_0 t x1  G = some a) (hk : zKR F a) : J mX4_sharing F G 0 [(0, vR (some t)), (1, vI x1)] [] := by
  unfold fX4_sharing_0 at h
  refine j_aload_n (j := 0) dX4_sharing_0 rfl rfl ?_
  refine j_iload_n (j := 1) dX4_sharing_1 rfl rfl ?_
  replace h := zkE h
  obtain ⟨e1, h⟩ := h
  replace h := zb2E h
  obtain ⟨r3, G4, e2, h⟩ := h
  refine j_cont (zrV (As := [vI x1]) msX4_87 (yX4_of_ok e2) (Nat.le_trans (Nat.le_of_ble_eq_true rfl) hd) (zk_4 _ e1) rfl rfl (Nat.le_of_ble_eq_true rfl) dX4_sharing_2) ?_
  refine j_astore_n (lv' := [(2, vR r3), (0, vR (some t)), (1, vI x1)]) dX4_sharing_5 rfl (Nat.le_of_ble_eq_true rfl) rfl ?_
  refine j_iconst (v := 0) dX4_sharing_6 (by decide) ?_
  refine j_istore_n (lv' := [(3, vI 0), (2, vR r3), (0, vR (some t)), (1, vI x1)]) dX4_sharing_7 rfl (Nat.le_of_ble_eq_true rfl) rfl ?_
  exact J.sub (zall [1, 0] rfl) (wflX4_sharing_8 hd r3 0  G4 h hk)
theorem yX4_sharing_ok {t : Nat} {x1 : Int32} {G : GS} {r : Option Nat} {G1 : GS} (h : fX4_sharing_0 t x1 G = some (r, G1)) : zRuns yX4_sharing (ws_ yX4_sharing cX4_sharing 6 (some (Jvm.ClassFile.FieldType.object "SelahGenerator$Rule"))) [vR (some t), vI x1] (.inl (some (vR r)), G, G1, 9) :=
  zentry (M := mX4_sharing) (plainFor_of_name (by decide +kernel)) ⟨rfl, rfl, rfl, rfl⟩ (Nat.le_of_ble_eq_true rfl) (wfX4_sharing_0 (Nat.le_refl _) t x1 G h ⟨rfl, rfl⟩)
abbrev mX4_isCommon : zM := (cX4_isCommon, RX4, 4, (some Jvm.ClassFile.FieldType.boolean), "isCommon", [], "(Ljava/util/List;I)Z")
def fbX4_isCommon_7 (x0 : Option Nat) (x1 : Int32) (x2 : Option Nat)  (G : GS) : Option ((GS) ⊕ ((Int32) × GS)) :=
  x2.bind fun a1 => zk [13] G a1 <| (fJ19_hasNext_0 a1 G).bind fun v5 => if v5 = 0 then (zo (zcond (zbb 1) (some (1, G)))) else (zk [13] G a1 <| zb2 (fJ19_next_0 a1 G) fun r10 G11 => zkq [3] G11 r10 (r10.bind fun a13 => (zgR G11 3 a13 1).bind fun r15 => r15.bind fun a17 => (zln G11 a17).bind fun v19 => if v19 ≤ x1 then (zo (zcond (zbb 0) (some (0, G11)))) else ((zgR G11 3 a13 1).bind fun r23 => r23.bind fun a25 => (zaI G11 50 a25 x1).bind fun v27 => x0.bind fun a29 => zk [12] G11 a29 <| (fJ2_get_0 a29 0 G11).bind fun r33 => zkq [3] G11 r33 (r33.bind fun a35 => (zgR G11 3 a35 1).bind fun r37 => r37.bind fun a39 => (zaI G11 50 a39 x1).bind fun v41 => if v27 = v41 then (some (.inl (G11))) else (zo (zcond (zbb 0) (some (0, G11))))))))
def flX4_isCommon_7 (x0 : Option Nat) (x1 : Int32) (x2 : Option Nat) (G : GS) : Option ((Int32) × GS) := zloop (fun s : GS => fbX4_isCommon_7 x0 x1 x2 s) (G)
theorem wfbX4_isCommon_7 {F : zF} (hd : 4 ≤ F.2.2.2) (x0 : Option Nat) (x1 : Int32) (x2 : Option Nat) (G : GS) {a : (GS) ⊕ ((Int32) × GS)} (h : fbX4_isCommon_7 x0 x1 x2 G = some a) (hk : (zcase (fun s : GS => J mX4_isCommon F s 7 [(0, vR x0), (1, vI x1), (2, vR x2)] []) (zKI F)) a) : J mX4_isCommon F G 7 [(0, vR x0), (1, vI x1), (2, vR x2)] [] := by
  unfold fbX4_isCommon_7 at h
  refine j_aload_n (j := 2) dX4_isCommon_7 rfl rfl ?_
  replace h := zbE h
  obtain ⟨a1, e2, h⟩ := h
  subst e2
  replace h := zkE h
  obtain ⟨e3, h⟩ := h
  replace h := zbE h
  obtain ⟨v5, e4, h⟩ := h
  refine j_cont (zrF (As := []) msX4_26_J19 (yJ19_hasNext_ok e4) (Nat.le_trans (Nat.le_of_ble_eq_true rfl) hd) (zk_13 _ e3) rfl rfl (Nat.le_of_ble_eq_true rfl) dX4_isCommon_8) ?_
  refine j_if_eq (tgt := 64) dX4_isCommon_13 (by decide) (fun c6 => ?_) (fun c6 => ?_)
  · rw [if_pos c6] at h
    replace h := zoE h
    obtain ⟨a, h, rfl⟩ := h
    replace hk := hk
    refine j_iconst (v := 1) dX4_isCommon_64 (by decide) ?_
    replace h := zcondE h
    obtain ⟨e7, h⟩ := h
    obtain rfl := Option.some.inj h
    exact j_zret hk.1 hk.2 rfl (zbb_n e7) dX4_isCommon_65
  · rw [if_neg c6] at h
    refine j_aload_n (j := 2) dX4_isCommon_16 rfl rfl ?_
    replace h := zkE h
    obtain ⟨e8, h⟩ := h
    replace h := zb2E h
    obtain ⟨r10, G11, e9, h⟩ := h
    refine j_cont (zrF (As := []) msX4_32_J19 (yJ19_next_ok e9) (Nat.le_trans (Nat.le_of_ble_eq_true rfl) hd) (zk_13 _ e8) rfl rfl (Nat.le_of_ble_eq_true rfl) dX4_isCommon_17) ?_
    replace h := zkqE h
    obtain ⟨e12, h⟩ := h
    refine j_castq (fun k => j_castN dX4_isCommon_22 k) (fun b q46 k => j_castS (zk_3 _ (e12 b q46)) ⟨2, _, rfl, rfl⟩ q399 dX4_isCommon_22 k) ?_
    refine j_astore_n (lv' := [(3, vR r10), (0, vR x0), (1, vI x1), (2, vR (some a1))]) dX4_isCommon_25 rfl (Nat.le_of_ble_eq_true rfl) rfl ?_
    refine j_aload_n (j := 0) dX4_isCommon_26 rfl rfl ?_
    replace h := zbE h
    obtain ⟨a13, e14, h⟩ := h
    subst e14
    replace h := zbE h
    obtain ⟨r15, e16, h⟩ := h
    refine j_getR fgX4_42 (fun _ _ _ => rfl) dX4_isCommon_27 e16 ?_
    replace h := zbE h
    obtain ⟨a17, e18, h⟩ := h
    subst e18
    replace h := zbE h
    obtain ⟨v19, e20, h⟩ := h
    refine j_alen e20 dX4_isCommon_30 ?_
    refine j_iload_n (j := 2) dX4_isCommon_31 rfl rfl ?_
    refine j_icmp_le (tgt := 59) dX4_isCommon_32 (by decide) (fun c21 => ?_) (fun c21 => ?_)
    · rw [if_pos c21] at h
      replace h := zoE h
      obtain ⟨a, h, rfl⟩ := h
      replace hk := hk
      refine j_iconst (v := 0) dX4_isCommon_59 (by decide) ?_
      replace h := zcondE h
      obtain ⟨e22, h⟩ := h
      obtain rfl := Option.some.inj h
      exact j_zret hk.1 hk.2 rfl (zbb_n e22) dX4_isCommon_60
    · rw [if_neg c21] at h
      refine j_aload_n (j := 0) dX4_isCommon_35 rfl rfl ?_
      replace h := zbE h
      obtain ⟨r23, e24, h⟩ := h
      refine j_getR fgX4_42 (fun _ _ _ => rfl) dX4_isCommon_36 e24 ?_
      refine j_iload_n (j := 2) dX4_isCommon_39 rfl rfl ?_
      replace h := zbE h
      obtain ⟨a25, e26, h⟩ := h
      subst e26
      replace h := zbE h
      obtain ⟨v27, e28, h⟩ := h
      refine j_iald (Or.inl rfl) e28 dX4_isCommon_40 ?_
      refine j_aload_n (j := 1) dX4_isCommon_41 rfl rfl ?_
      refine j_iconst (v := 0) dX4_isCommon_42 (by decide) ?_
      replace h := zbE h
      obtain ⟨a29, e30, h⟩ := h
      subst e30
      replace h := zkE h
      obtain ⟨e31, h⟩ := h
      replace h := zbE h
      obtain ⟨r33, e32, h⟩ := h
      refine j_cont (zrF (As := [vI 0]) msX4_80_J2 (yJ2_get_ok e32) (Nat.le_trans (Nat.le_of_ble_eq_true rfl) hd) (zk_12 _ e31) rfl rfl (Nat.le_of_ble_eq_true rfl) dX4_isCommon_43) ?_
      replace h := zkqE h
      obtain ⟨e34, h⟩ := h
      refine j_castq (fun k => j_castN dX4_isCommon_48 k) (fun b q45 k => j_castS (zk_3 _ (e34 b q45)) ⟨2, _, rfl, rfl⟩ q399 dX4_isCommon_48 k) ?_
      replace h := zbE h
      obtain ⟨a35, e36, h⟩ := h
      subst e36
      replace h := zbE h
      obtain ⟨r37, e38, h⟩ := h
      refine j_getR fgX4_42 (fun _ _ _ => rfl) dX4_isCommon_51 e38 ?_
      refine j_iload_n (j := 2) dX4_isCommon_54 rfl rfl ?_
      replace h := zbE h
      obtain ⟨a39, e40, h⟩ := h
      subst e40
      replace h := zbE h
      obtain ⟨v41, e42, h⟩ := h
      refine j_iald (Or.inl rfl) e42 dX4_isCommon_55 ?_
      refine j_icmp_eq (tgt := 61) dX4_isCommon_56 (by decide) (fun c43 => ?_) (fun c43 => ?_)
      · rw [if_pos c43] at h
        refine j_goto (tgt := 7) dX4_isCommon_61 (by decide) ?_
        obtain rfl := Option.some.inj h
        exact J.sub (zall [1, 2, 3] rfl) hk
      · rw [if_neg c43] at h
        replace h := zoE h
        obtain ⟨a, h, rfl⟩ := h
        replace hk := hk
        refine j_iconst (v := 0) dX4_isCommon_59 (by decide) ?_
        replace h := zcondE h
        obtain ⟨e44, h⟩ := h
        obtain rfl := Option.some.inj h
        exact j_zret hk.1 hk.2 rfl (zbb_n e44) dX4_isCommon_60
theorem wflX4_isCommon_7 {F : zF} (hd : 4 ≤ F.2.2.2) (x0 : Option Nat) (x1 : Int32) (x2 : Option Nat) (G : GS) {a : (Int32) × GS} (h : flX4_isCommon_7 x0 x1 x2 G = some a) (hk : zKI F a) : J mX4_isCommon F G 7 [(0, vR x0), (1, vI x1), (2, vR x2)] [] := by
  unfold flX4_isCommon_7 at h
  exact zloop_walk (P := (fun s : GS => J mX4_isCommon F s 7 [(0, vR x0), (1, vI x1), (2, vR x2)] [])) (fun s b e hk => wfbX4_isCommon_7 hd x0 x1 x2 s e hk) (G) _ h hk
def fX4_isCommon_0 (x0 : Option Nat) (x1 : Int32)  (G : GS) : Option ((Int32) × GS) :=
  x0.bind fun a1 => zk [12] G a1 <| zb2 (fJ2_iterator_0 a1 G) fun r5 G6 => flX4_isCommon_7 (some a1) x1 r5 G6
theorem wfX4_isCommon_0 {F : zF} (hd : 4 ≤ F.2.2.2) (x0 : Option Nat) (x1 : Int32)  (G : GS) {a : (Int32) × GS} (h : fX4_isCommon_0 x0 x1  G = some a) (hk : zKI F a) : J mX4_isCommon F G 0 [(0, vR x0), (1, vI x1)] [] := by
  unfold fX4_isCommon_0 at h
  refine j_aload_n (j := 0) dX4_isCommon_0 rfl rfl ?_
  replace h := zbE h
  obtain ⟨a1, e2, h⟩ := h
  subst e2
  replace h := zkE h
  obtain ⟨e3, h⟩ := h
  replace h := zb2E h
  obtain ⟨r5, G6, e4, h⟩ := h
  refine j_cont (zrF (As := []) msX4_20_J2 (yJ2_iterator_ok e4) (Nat.le_trans (Nat.le_of_ble_eq_true rfl) hd) (zk_12 _ e3) rfl rfl (Nat.le_of_ble_eq_true rfl) dX4_isCommon_1) ?_
  refine j_astore_n (lv' := [(2, vR r5), (0, vR (some a1)), (1, vI x1)]) dX4_isCommon_6 rfl (Nat.le_of_ble_eq_true rfl) rfl ?_
  exact J.sub (zall [1, 2, 0] rfl) (wflX4_isCommon_7 hd (some a1) x1 r5  G6 h hk)
theorem yX4_isCommon_ok {x0 : Option Nat} {x1 : Int32} {G : GS} {r : Int32} {G1 : GS} (h : fX4_isCommon_0 x0 x1 G = some (r, G1)) : zRuns yX4_isCommon (ws_ yX4_isCommon cX4_isCommon 4 (some Jvm.ClassFile.FieldType.boolean)) [vR x0, vI x1] (.inl (some (vI r)), G, G1, 4) :=
  zentry (M := mX4_isCommon) (plainFor_of_name (by decide +kernel)) ⟨rfl, rfl, rfl, rfl⟩ (Nat.le_of_ble_eq_true rfl) (wfX4_isCommon_0 (Nat.le_refl _) x0 x1 G h ⟨rfl, rfl⟩)
theorem msX4_46 : zSN RX4 46 yX1_isNonterminal "SelahGenerator" cX1_isNonterminal 1 (some Jvm.ClassFile.FieldType.boolean) 1 := ⟨q402, q123, zxw 94 rfl, (by decide +kernel), (by decide)⟩
abbrev mX4_used : zM := (cX4_used, RX4, 8, (some Jvm.ClassFile.FieldType.int), "used", [], "(Ljava/util/List;)I")
def fX4_used_92 (x1 : Int32) (x2 : Option Nat)  (G : GS) : Option ((Int32 × GS) ⊕ ((Int32) × GS)) :=
  some (.inl (x1, G))
theorem wfX4_used_92 {F : zF} (hd : 4 ≤ F.2.2.2) (x1 : Int32) (x2 : Option Nat)  (G : GS) {a : (Int32 × GS) ⊕ ((Int32) × GS)} (h : fX4_used_92 x1 x2  G = some a) (hk : (zcase (fun s : Int32 × GS => J mX4_used F s.2 9 [(1, vI s.1), (2, vR x2)] []) (zKI F)) a) : J mX4_used F G 92 [(1, vI x1), (2, vR x2)] [] := by
  unfold fX4_used_92 at h
  refine j_goto (tgt := 9) dX4_used_92 (by decide) ?_
  obtain rfl := Option.some.inj h
  exact J.sub (zall [0, 1] rfl) hk
def fX4_used_86 (x1 : Int32) (x2 : Option Nat) (x4 : Option Nat) (x5 : Int32) (x6 : Int32)  (G : GS) : Option ((Int32 × Int32) ⊕ ((Int32 × GS) ⊕ ((Int32) × GS))) :=
  some (.inl (x1, (x6 + 1)))
theorem wfX4_used_86 {F : zF} (hd : 4 ≤ F.2.2.2) (x1 : Int32) (x2 : Option Nat) (x4 : Option Nat) (x5 : Int32) (x6 : Int32)  (G : GS) {a : (Int32 × Int32) ⊕ ((Int32 × GS) ⊕ ((Int32) × GS))} (h : fX4_used_86 x1 x2 x4 x5 x6  G = some a) (hk : (zcase (fun s : Int32 × Int32 => J mX4_used F G 54 [(1, vI s.1), (2, vR x2), (4, vR x4), (5, vI x5), (6, vI s.2)] []) ((zcase (fun s : Int32 × GS => J mX4_used F s.2 9 [(1, vI s.1), (2, vR x2)] []) (zKI F)))) a) : J mX4_used F G 86 [(1, vI x1), (2, vR x2), (4, vR x4), (5, vI x5), (6, vI x6)] [] := by
  unfold fX4_used_86 at h
  refine j_iinc (j := 4) (v := (x6 + 1)) (lv' := [(6, vI (x6 + 1)), (1, vI x1), (2, vR x2), (4, vR x4), (5, vI x5)]) dX4_used_86 rfl rfl (Nat.le_of_ble_eq_true rfl) rfl ?_
  refine j_goto (tgt := 54) dX4_used_89 (by decide) ?_
  obtain rfl := Option.some.inj h
  exact J.sub (zall [1, 2, 3, 4, 0] rfl) hk
def fbX4_used_54 (x1 : Int32) (x2 : Option Nat) (x4 : Option Nat) (x5 : Int32) (x6 : Int32)  (G : GS) : Option ((Int32 × Int32) ⊕ ((Int32 × GS) ⊕ ((Int32) × GS))) :=
  if x5 ≤ x6 then (zo (fX4_used_92 x1 x2 G)) else (x4.bind fun a2 => (zaI G 50 a2 x6).bind fun v4 => (fX1_isNonterminal_0 v4 G).bind fun v7 => if v7 = 0 then (fX4_used_86 x1 x2 (some a2) x5 x6 G) else (fX4_used_86 (x1 ||| ((1 : Int32) <<< ((v4 - 20) &&& 31))) x2 (some a2) x5 x6 G))
def flX4_used_54 (x1 : Int32) (x2 : Option Nat) (x4 : Option Nat) (x5 : Int32) (x6 : Int32) (G : GS) : Option ((Int32 × GS) ⊕ ((Int32) × GS)) := zloop (fun s : Int32 × Int32 => fbX4_used_54 s.1 x2 x4 x5 s.2 G) (x1, x6)
theorem wfbX4_used_54 {F : zF} (hd : 4 ≤ F.2.2.2) (x1 : Int32) (x2 : Option Nat) (x4 : Option Nat) (x5 : Int32) (x6 : Int32) (G : GS) {a : (Int32 × Int32) ⊕ ((Int32 × GS) ⊕ ((Int32) × GS))} (h : fbX4_used_54 x1 x2 x4 x5 x6 G = some a) (hk : (zcase (fun s : Int32 × Int32 => J mX4_used F G 54 [(1, vI s.1), (2, vR x2), (4, vR x4), (5, vI x5), (6, vI s.2)] []) ((zcase (fun s : Int32 × GS => J mX4_used F s.2 9 [(1, vI s.1), (2, vR x2)] []) (zKI F)))) a) : J mX4_used F G 54 [(1, vI x1), (2, vR x2), (4, vR x4), (5, vI x5), (6, vI x6)] [] := by
  unfold fbX4_used_54 at h
  refine j_iload (j := 4) dX4_used_54 rfl ?_
  refine j_iload (j := 3) dX4_used_56 rfl ?_
  refine j_icmp_ge (tgt := 92) dX4_used_58 (by decide) (fun c1 => ?_) (fun c1 => ?_)
  · rw [if_pos c1] at h
    replace h := zoE h
    obtain ⟨a, h, rfl⟩ := h
    replace hk := hk
    exact J.sub (zall [0, 1] rfl) (wfX4_used_92 hd x1 x2  G h hk)
  · rw [if_neg c1] at h
    refine j_aload (j := 2) dX4_used_61 rfl ?_
    refine j_iload (j := 4) dX4_used_63 rfl ?_
    replace h := zbE h
    obtain ⟨a2, e3, h⟩ := h
    subst e3
    replace h := zbE h
    obtain ⟨v4, e5, h⟩ := h
    refine j_iald (Or.inl rfl) e5 dX4_used_65 ?_
    refine j_istore (lv' := [(7, vI v4), (1, vI x1), (2, vR x2), (4, vR (some a2)), (5, vI x5), (6, vI x6)]) dX4_used_66 (Nat.le_of_ble_eq_true rfl) rfl ?_
    refine j_iload (j := 0) dX4_used_68 rfl ?_
    replace h := zbE h
    obtain ⟨v7, e6, h⟩ := h
    refine j_cont (zrSN (As := [vI v4]) msX4_46 q401 (yX1_isNonterminal_ok e6) (Nat.le_trans (Nat.le_of_ble_eq_true rfl) hd) rfl rfl (Nat.le_of_ble_eq_true rfl) dX4_used_70) ?_
    refine j_if_eq (tgt := 86) dX4_used_73 (by decide) (fun c8 => ?_) (fun c8 => ?_)
    · rw [if_pos c8] at h
      exact J.sub (zall [1, 2, 3, 4, 5] rfl) (wfX4_used_86 hd x1 x2 (some a2) x5 x6  G h hk)
    · rw [if_neg c8] at h
      refine j_iload_n (j := 1) dX4_used_76 rfl rfl ?_
      refine j_iconst (v := 1) dX4_used_77 (by decide) ?_
      refine j_iload (j := 0) dX4_used_78 rfl ?_
      refine j_bipush (v := 20) dX4_used_80 (by decide) ?_
      refine j_isub dX4_used_82 ?_
      refine j_ishl dX4_used_83 ?_
      refine j_ior dX4_used_84 ?_
      refine j_istore_n (lv' := [(1, vI (x1 ||| ((1 : Int32) <<< ((v4 - 20) &&& 31)))), (7, vI v4), (2, vR x2), (4, vR (some a2)), (5, vI x5), (6, vI x6)]) dX4_used_85 rfl (Nat.le_of_ble_eq_true rfl) rfl ?_
      exact J.sub (zall [0, 2, 3, 4, 5] rfl) (wfX4_used_86 hd (x1 ||| ((1 : Int32) <<< ((v4 - 20) &&& 31))) x2 (some a2) x5 x6  G h hk)
theorem wflX4_used_54 {F : zF} (hd : 4 ≤ F.2.2.2) (x1 : Int32) (x2 : Option Nat) (x4 : Option Nat) (x5 : Int32) (x6 : Int32) (G : GS) {a : (Int32 × GS) ⊕ ((Int32) × GS)} (h : flX4_used_54 x1 x2 x4 x5 x6 G = some a) (hk : (zcase (fun s : Int32 × GS => J mX4_used F s.2 9 [(1, vI s.1), (2, vR x2)] []) (zKI F)) a) : J mX4_used F G 54 [(1, vI x1), (2, vR x2), (4, vR x4), (5, vI x5), (6, vI x6)] [] := by
  unfold flX4_used_54 at h
  exact zloop_walk (P := (fun s : Int32 × Int32 => J mX4_used F G 54 [(1, vI s.1), (2, vR x2), (4, vR x4), (5, vI x5), (6, vI s.2)] [])) (fun s b e hk => wfbX4_used_54 hd s.1 x2 x4 x5 s.2 G e hk) (x1, x6) _ h hk
def fbX4_used_9 (x1 : Int32) (x2 : Option Nat)  (G : GS) : Option ((Int32 × GS) ⊕ ((Int32) × GS)) :=
  x2.bind fun a1 => zk [13] G a1 <| (fJ19_hasNext_0 a1 G).bind fun v5 => if v5 = 0 then (zo (some (x1, G))) else (zk [13] G a1 <| zb2 (fJ19_next_0 a1 G) fun r9 G10 => zkq [3] G10 r9 (r9.bind fun a12 => (zgI G10 3 a12 0).bind fun v14 => (zgR G10 3 a12 1).bind fun r16 => r16.bind fun a18 => (zln G10 a18).bind fun v20 => flX4_used_54 (x1 ||| ((1 : Int32) <<< ((v14 - 20) &&& 31))) (some a1) (some a18) v20 0 G10))
def flX4_used_9 (x1 : Int32) (x2 : Option Nat) (G : GS) : Option ((Int32) × GS) := zloop (fun s : Int32 × GS => fbX4_used_9 s.1 x2 s.2) (x1, G)
theorem wfbX4_used_9 {F : zF} (hd : 4 ≤ F.2.2.2) (x1 : Int32) (x2 : Option Nat) (G : GS) {a : (Int32 × GS) ⊕ ((Int32) × GS)} (h : fbX4_used_9 x1 x2 G = some a) (hk : (zcase (fun s : Int32 × GS => J mX4_used F s.2 9 [(1, vI s.1), (2, vR x2)] []) (zKI F)) a) : J mX4_used F G 9 [(1, vI x1), (2, vR x2)] [] := by
  unfold fbX4_used_9 at h
  refine j_aload_n (j := 1) dX4_used_9 rfl rfl ?_
  replace h := zbE h
  obtain ⟨a1, e2, h⟩ := h
  subst e2
  replace h := zkE h
  obtain ⟨e3, h⟩ := h
  replace h := zbE h
  obtain ⟨v5, e4, h⟩ := h
  refine j_cont (zrF (As := []) msX4_26_J19 (yJ19_hasNext_ok e4) (Nat.le_trans (Nat.le_of_ble_eq_true rfl) hd) (zk_13 _ e3) rfl rfl (Nat.le_of_ble_eq_true rfl) dX4_used_10) ?_
  refine j_if_eq (tgt := 95) dX4_used_15 (by decide) (fun c6 => ?_) (fun c6 => ?_)
  · rw [if_pos c6] at h
    replace h := zoE h
    obtain ⟨a, h, rfl⟩ := h
    replace hk := hk
    refine j_iload_n (j := 0) dX4_used_95 rfl rfl ?_
    obtain rfl := Option.some.inj h
    exact j_iret hk.1 hk.2 rfl dX4_used_96
  · rw [if_neg c6] at h
    refine j_aload_n (j := 1) dX4_used_18 rfl rfl ?_
    replace h := zkE h
    obtain ⟨e7, h⟩ := h
    replace h := zb2E h
    obtain ⟨r9, G10, e8, h⟩ := h
    refine j_cont (zrF (As := []) msX4_32_J19 (yJ19_next_ok e8) (Nat.le_trans (Nat.le_of_ble_eq_true rfl) hd) (zk_13 _ e7) rfl rfl (Nat.le_of_ble_eq_true rfl) dX4_used_19) ?_
    replace h := zkqE h
    obtain ⟨e11, h⟩ := h
    refine j_castq (fun k => j_castN dX4_used_24 k) (fun b q22 k => j_castS (zk_3 _ (e11 b q22)) ⟨2, _, rfl, rfl⟩ q399 dX4_used_24 k) ?_
    refine j_astore_n (lv' := [(3, vR r9), (1, vI x1), (2, vR (some a1))]) dX4_used_27 rfl (Nat.le_of_ble_eq_true rfl) rfl ?_
    refine j_iload_n (j := 1) dX4_used_28 rfl rfl ?_
    refine j_iconst (v := 1) dX4_used_29 (by decide) ?_
    refine j_aload_n (j := 0) dX4_used_30 rfl rfl ?_
    replace h := zbE h
    obtain ⟨a12, e13, h⟩ := h
    subst e13
    replace h := zbE h
    obtain ⟨v14, e15, h⟩ := h
    refine j_getI fgX4_38 (fun _ _ _ => rfl) dX4_used_31 e15 ?_
    refine j_bipush (v := 20) dX4_used_34 (by decide) ?_
    refine j_isub dX4_used_36 ?_
    refine j_ishl dX4_used_37 ?_
    refine j_ior dX4_used_38 ?_
    refine j_istore_n (lv' := [(1, vI (x1 ||| ((1 : Int32) <<< ((v14 - 20) &&& 31)))), (3, vR (some a12)), (2, vR (some a1))]) dX4_used_39 rfl (Nat.le_of_ble_eq_true rfl) rfl ?_
    refine j_aload_n (j := 1) dX4_used_40 rfl rfl ?_
    replace h := zbE h
    obtain ⟨r16, e17, h⟩ := h
    refine j_getR fgX4_42 (fun _ _ _ => rfl) dX4_used_41 e17 ?_
    refine j_astore (lv' := [(4, vR r16), (1, vI (x1 ||| ((1 : Int32) <<< ((v14 - 20) &&& 31)))), (3, vR (some a12)), (2, vR (some a1))]) dX4_used_44 (Nat.le_of_ble_eq_true rfl) rfl ?_
    refine j_aload (j := 0) dX4_used_46 rfl ?_
    replace h := zbE h
    obtain ⟨a18, e19, h⟩ := h
    subst e19
    replace h := zbE h
    obtain ⟨v20, e21, h⟩ := h
    refine j_alen e21 dX4_used_48 ?_
    refine j_istore (lv' := [(5, vI v20), (4, vR (some a18)), (1, vI (x1 ||| ((1 : Int32) <<< ((v14 - 20) &&& 31)))), (3, vR (some a12)), (2, vR (some a1))]) dX4_used_49 (Nat.le_of_ble_eq_true rfl) rfl ?_
    refine j_iconst (v := 0) dX4_used_51 (by decide) ?_
    refine j_istore (lv' := [(6, vI 0), (5, vI v20), (4, vR (some a18)), (1, vI (x1 ||| ((1 : Int32) <<< ((v14 - 20) &&& 31)))), (3, vR (some a12)), (2, vR (some a1))]) dX4_used_52 (Nat.le_of_ble_eq_true rfl) rfl ?_
    exact J.sub (zall [3, 5, 2, 1, 0] rfl) (wflX4_used_54 hd (x1 ||| ((1 : Int32) <<< ((v14 - 20) &&& 31))) (some a1) (some a18) v20 0  G10 h hk)
theorem wflX4_used_9 {F : zF} (hd : 4 ≤ F.2.2.2) (x1 : Int32) (x2 : Option Nat) (G : GS) {a : (Int32) × GS} (h : flX4_used_9 x1 x2 G = some a) (hk : zKI F a) : J mX4_used F G 9 [(1, vI x1), (2, vR x2)] [] := by
  unfold flX4_used_9 at h
  exact zloop_walk (P := (fun s : Int32 × GS => J mX4_used F s.2 9 [(1, vI s.1), (2, vR x2)] [])) (fun s b e hk => wfbX4_used_9 hd s.1 x2 s.2 e hk) (x1, G) _ h hk
def fX4_used_0 (x0 : Option Nat)  (G : GS) : Option ((Int32) × GS) :=
  x0.bind fun a1 => zk [12] G a1 <| zb2 (fJ2_iterator_0 a1 G) fun r5 G6 => flX4_used_9 1 r5 G6
theorem wfX4_used_0 {F : zF} (hd : 4 ≤ F.2.2.2) (x0 : Option Nat)  (G : GS) {a : (Int32) × GS} (h : fX4_used_0 x0  G = some a) (hk : zKI F a) : J mX4_used F G 0 [(0, vR x0)] [] := by
  unfold fX4_used_0 at h
  refine j_iconst (v := 1) dX4_used_0 (by decide) ?_
  refine j_istore_n (lv' := [(1, vI 1), (0, vR x0)]) dX4_used_1 rfl (Nat.le_of_ble_eq_true rfl) rfl ?_
  refine j_aload_n (j := 1) dX4_used_2 rfl rfl ?_
  replace h := zbE h
  obtain ⟨a1, e2, h⟩ := h
  subst e2
  replace h := zkE h
  obtain ⟨e3, h⟩ := h
  replace h := zb2E h
  obtain ⟨r5, G6, e4, h⟩ := h
  refine j_cont (zrF (As := []) msX4_20_J2 (yJ2_iterator_ok e4) (Nat.le_trans (Nat.le_of_ble_eq_true rfl) hd) (zk_12 _ e3) rfl rfl (Nat.le_of_ble_eq_true rfl) dX4_used_3) ?_
  refine j_astore_n (lv' := [(2, vR r5), (1, vI 1), (0, vR (some a1))]) dX4_used_8 rfl (Nat.le_of_ble_eq_true rfl) rfl ?_
  exact J.sub (zall [1, 0] rfl) (wflX4_used_9 hd 1 r5  G6 h hk)
theorem yX4_used_ok {x0 : Option Nat} {G : GS} {r : Int32} {G1 : GS} (h : fX4_used_0 x0 G = some (r, G1)) : zRuns yX4_used (ws_ yX4_used cX4_used 8 (some Jvm.ClassFile.FieldType.int)) [vR x0] (.inl (some (vI r)), G, G1, 4) :=
  zentry (M := mX4_used) (plainFor_of_name (by decide +kernel)) ⟨rfl, rfl, rfl, rfl⟩ (Nat.le_of_ble_eq_true rfl) (wfX4_used_0 (Nat.le_refl _) x0 G h ⟨rfl, rfl⟩)
theorem exX4_54_56 : zEXN RX4 54 56 "SelahGenerator" "SelahGenerator$Failed" ["java/lang/Exception"] := zEXN.of q2225 q170 (by decide +kernel) (by decide +kernel) (by decide +kernel) (by decide +kernel) (by decide) (zxw 97 rfl) (by decide +kernel)
theorem fgX4_57 : zFG RX4 57 3 1 (.int) := ⟨(RX4, TX4, 3, tyX4), rfl, by decide, in_X4, rfl, "SelahGenerator$Workshop", Or.inl rfl, Or.inl q2203⟩
theorem fpX4_57_X4 : zFP RX4 57 3 1 (.int) false := ⟨(RX4, TX4, 3, tyX4), rfl, by decide, in_X4, tyX4_ok, nmX4, rfl, rfl, (by decide), "SelahGenerator$Workshop", Or.inl rfl, q2203⟩
theorem msX4_50 : zSS RX4 50 yX4_used cX4_used 8 (some Jvm.ClassFile.FieldType.int) 1 := ⟨lw_S q2296 q282 q146 q283, (by decide +kernel), (by decide)⟩
abbrev mX4_unused : zM := (cX4_unused, RX4, 3, (some Jvm.ClassFile.FieldType.int), "unused", [], "()I")
def fX4_unused_31 (t : Nat) (x2 : Int32)  (G : GS) : Option (((Int32) ⊕ String) × GS) :=
  if x2 = 12 then (zl (al G 0 0 6) fun G2 => some (.inr "SelahGenerator$Failed", G2)) else ((zgI G 4 t 1).bind fun v4 => (zpI G 4 t 1 (v4 + 1)).bind fun G6 => some (.inl (20 + x2), G6))
theorem wfX4_unused_31 {F : zF} (hd : 7 ≤ F.2.2.2) (t : Nat) (x2 : Int32)  (G : GS) {a : ((Int32) ⊕ String) × GS} (h : fX4_unused_31 t x2  G = some a) (hk : zKXI F a) : J mX4_unused F G 31 [(0, vR (some t)), (2, vI x2)] [] := by
  unfold fX4_unused_31 at h
  refine j_iload_n (j := 1) dX4_unused_31 rfl rfl ?_
  refine j_bipush (v := 12) dX4_unused_32 (by decide) ?_
  refine j_icmp_ne (tgt := 45) dX4_unused_34 (by decide) (fun c1 => ?_) (fun c1 => ?_)
  · rw [if_pos c1] at h
    replace h := zlE h
    obtain ⟨G2, e3, h⟩ := h
    refine j_throwN exX4_54_56 dX4_unused_37 dX4_unused_40 dX4_unused_41 dX4_unused_44 (Nat.le_trans (Nat.le_of_ble_eq_true rfl) hd) (Nat.le_of_ble_eq_true rfl) ?_
    rw [show al G 0 0 6 = G2 from e3.symm]
    obtain rfl := Option.some.inj h
    exact jx_out hk.1 hk.2 (by decide)
  · rw [if_neg c1] at h
    refine j_aload_n (j := 0) dX4_unused_45 rfl rfl ?_
    refine j_dup dX4_unused_46 rfl ?_
    replace h := zbE h
    obtain ⟨v4, e5, h⟩ := h
    refine j_getI fgX4_57 (fun _ _ _ => rfl) dX4_unused_47 e5 ?_
    refine j_iconst (v := 1) dX4_unused_50 (by decide) ?_
    refine j_iadd dX4_unused_51 ?_
    replace h := zbE h
    obtain ⟨G6, e7, h⟩ := h
    refine j_putI fpX4_57_X4 (Or.inl rfl) rfl dX4_unused_52 e7 ?_
    refine j_bipush (v := 20) dX4_unused_55 (by decide) ?_
    refine j_iload_n (j := 1) dX4_unused_57 rfl rfl ?_
    refine j_iadd dX4_unused_58 ?_
    obtain rfl := Option.some.inj h
    exact j_iret hk.1 hk.2 rfl dX4_unused_59
def fbX4_unused_10 (t : Nat) (x1 : Int32) (x2 : Int32)  (G : GS) : Option ((Int32) ⊕ (((Int32) ⊕ String) × GS)) :=
  if 12 ≤ x2 then (zo (fX4_unused_31 t x2 G)) else (if ((x1 >>> (x2 &&& 31)) &&& 1) = 1 then (some (.inl ((x2 + 1)))) else (zo (fX4_unused_31 t x2 G)))
def flX4_unused_10 (t : Nat) (x1 : Int32) (x2 : Int32) (G : GS) : Option (((Int32) ⊕ String) × GS) := zloop (fun s : Int32 => fbX4_unused_10 t x1 s G) (x2)
theorem wfbX4_unused_10 {F : zF} (hd : 7 ≤ F.2.2.2) (t : Nat) (x1 : Int32) (x2 : Int32) (G : GS) {a : (Int32) ⊕ (((Int32) ⊕ String) × GS)} (h : fbX4_unused_10 t x1 x2 G = some a) (hk : (zcase (fun s : Int32 => J mX4_unused F G 10 [(0, vR (some t)), (1, vI x1), (2, vI s)] []) (zKXI F)) a) : J mX4_unused F G 10 [(0, vR (some t)), (1, vI x1), (2, vI x2)] [] := by
  unfold fbX4_unused_10 at h
  refine j_iload_n (j := 2) dX4_unused_10 rfl rfl ?_
  refine j_bipush (v := 12) dX4_unused_11 (by decide) ?_
  refine j_icmp_ge (tgt := 31) dX4_unused_13 (by decide) (fun c1 => ?_) (fun c1 => ?_)
  · rw [if_pos c1] at h
    replace h := zoE h
    obtain ⟨a, h, rfl⟩ := h
    replace hk := hk
    exact J.sub (zall [0, 2] rfl) (wfX4_unused_31 hd t x2  G h hk)
  · rw [if_neg c1] at h
    refine j_iload_n (j := 1) dX4_unused_16 rfl rfl ?_
    refine j_iload_n (j := 2) dX4_unused_17 rfl rfl ?_
    refine j_ishr dX4_unused_18 ?_
    refine j_iconst (v := 1) dX4_unused_19 (by decide) ?_
    refine j_iand dX4_unused_20 ?_
    refine j_iconst (v := 1) dX4_unused_21 (by decide) ?_
    refine j_icmp_ne (tgt := 31) dX4_unused_22 (by decide) (fun c2 => ?_) (fun c2 => ?_)
    · rw [if_pos c2] at h
      refine j_iinc (j := 2) (v := (x2 + 1)) (lv' := [(2, vI (x2 + 1)), (0, vR (some t)), (1, vI x1)]) dX4_unused_25 rfl rfl (Nat.le_of_ble_eq_true rfl) rfl ?_
      refine j_goto (tgt := 10) dX4_unused_28 (by decide) ?_
      obtain rfl := Option.some.inj h
      exact J.sub (zall [1, 2, 0] rfl) hk
    · rw [if_neg c2] at h
      replace h := zoE h
      obtain ⟨a, h, rfl⟩ := h
      replace hk := hk
      exact J.sub (zall [0, 2] rfl) (wfX4_unused_31 hd t x2  G h hk)
theorem wflX4_unused_10 {F : zF} (hd : 7 ≤ F.2.2.2) (t : Nat) (x1 : Int32) (x2 : Int32) (G : GS) {a : ((Int32) ⊕ String) × GS} (h : flX4_unused_10 t x1 x2 G = some a) (hk : zKXI F a) : J mX4_unused F G 10 [(0, vR (some t)), (1, vI x1), (2, vI x2)] [] := by
  unfold flX4_unused_10 at h
  exact zloop_walk (P := (fun s : Int32 => J mX4_unused F G 10 [(0, vR (some t)), (1, vI x1), (2, vI s)] [])) (fun s b e hk => wfbX4_unused_10 hd t x1 s G e hk) (x2) _ h hk
def fX4_unused_0 (t : Nat)  (G : GS) : Option (((Int32) ⊕ String) × GS) :=
  (zgR G 4 t 0).bind fun r1 => zb2 (fX4_used_0 r1 G) fun v4 G5 => flX4_unused_10 t v4 0 G5
theorem wfX4_unused_0 {F : zF} (hd : 7 ≤ F.2.2.2) (t : Nat)  (G : GS) {a : ((Int32) ⊕ String) × GS} (h : fX4_unused_0 t  G = some a) (hk : zKXI F a) : J mX4_unused F G 0 [(0, vR (some t))] [] := by
  unfold fX4_unused_0 at h
  refine j_aload_n (j := 0) dX4_unused_0 rfl rfl ?_
  replace h := zbE h
  obtain ⟨r1, e2, h⟩ := h
  refine j_getR fgX4_14 (fun _ _ _ => rfl) dX4_unused_1 e2 ?_
  replace h := zb2E h
  obtain ⟨v4, G5, e3, h⟩ := h
  refine j_cont (zrS (As := [vR r1]) msX4_50 (yX4_used_ok e3) (Nat.le_trans (Nat.le_of_ble_eq_true rfl) hd) rfl rfl (Nat.le_of_ble_eq_true rfl) dX4_unused_4) ?_
  refine j_istore_n (lv' := [(1, vI v4), (0, vR (some t))]) dX4_unused_7 rfl (Nat.le_of_ble_eq_true rfl) rfl ?_
  refine j_iconst (v := 0) dX4_unused_8 (by decide) ?_
  refine j_istore_n (lv' := [(2, vI 0), (1, vI v4), (0, vR (some t))]) dX4_unused_9 rfl (Nat.le_of_ble_eq_true rfl) rfl ?_
  exact J.sub (zall [2, 1, 0] rfl) (wflX4_unused_10 hd t v4 0  G5 h hk)
theorem yX4_unused_ok {t : Nat} {G : GS} {r : (Int32) ⊕ String} {G1 : GS} (h : fX4_unused_0 t G = some (r, G1)) : zRuns yX4_unused (ws_ yX4_unused cX4_unused 3 (some Jvm.ClassFile.FieldType.int)) [vR (some t)] (zout (fun v => some (vI v)) r, G, G1, 7) :=
  zentry (M := mX4_unused) (plainFor_of_name (by decide +kernel)) ⟨rfl, rfl, rfl, rfl⟩ (Nat.le_of_ble_eq_true rfl) (wfX4_unused_0 (Nat.le_refl _) t G h ⟨rfl, rfl⟩)
abbrev mJ37_equals : zM := (cJ37_equals, RJ37, 2, (some Jvm.ClassFile.FieldType.boolean), "equals", [], "(Ljava/lang/Object;)Z")
def fJ37_equals_0 (t : Nat) (x1 : Option Nat)  (G : GS) : Option (Int32) :=
  if (some t) = x1 then (zcond (zbb 1) (some 1)) else (zcond (zbb 0) (some 0))
theorem wfJ37_equals_0 {F : zF} (hd : 1 ≤ F.2.2.2) (t : Nat) (x1 : Option Nat)  (G : GS) {a : Int32} (h : fJ37_equals_0 t x1  G = some a) (hk : zKPI F G a) : J mJ37_equals F G 0 [(0, vR (some t)), (1, vR x1)] [] := by
  unfold fJ37_equals_0 at h
  refine j_aload_n (j := 0) dJ37_equals_0 rfl rfl ?_
  refine j_aload_n (j := 1) dJ37_equals_1 rfl rfl ?_
  refine j_acmp_ne (tgt := 9) dJ37_equals_2 (by decide) (fun c1 => ?_) (fun c1 => ?_)
  · rw [if_pos c1] at h
    refine j_iconst (v := 1) dJ37_equals_5 (by decide) ?_
    refine j_goto (tgt := 10) dJ37_equals_6 (by decide) ?_
    replace h := zcondE h
    obtain ⟨e2, h⟩ := h
    obtain rfl := Option.some.inj h
    exact j_zret hk.1 hk.2 rfl (zbb_n e2) dJ37_equals_10
  · rw [if_neg c1] at h
    refine j_iconst (v := 0) dJ37_equals_9 (by decide) ?_
    replace h := zcondE h
    obtain ⟨e3, h⟩ := h
    obtain rfl := Option.some.inj h
    exact j_zret hk.1 hk.2 rfl (zbb_n e3) dJ37_equals_10
theorem yJ37_equals_ok {t : Nat} {x1 : Option Nat} {G : GS} {r : Int32} (h : fJ37_equals_0 t x1 G = some r) : zRuns yJ37_equals (ws_ yJ37_equals cJ37_equals 2 (some Jvm.ClassFile.FieldType.boolean)) [vR (some t), vR x1] (.inl (some (vI r)), G, G, 1) :=
  zentry (M := mJ37_equals) (by decide +kernel) ⟨rfl, rfl, rfl, rfl⟩ (Nat.le_of_ble_eq_true rfl) (wfJ37_equals_0 (Nat.le_refl _) t x1 G h ⟨rfl, rfl⟩)
theorem msJ2_93_X3 : zSU RJ2 93 "SelahGenerator$Rule" "java/lang/Object" ⟨"java/lang/Object", "equals", "(Ljava/lang/Object;)Z"⟩ yJ37_equals cJ37_equals 2 (some Jvm.ClassFile.FieldType.boolean) 1 := ⟨lw_U q2356 q2358 q2366 q2357 q3290 q2388, rfl, (by decide +kernel), (by decide)⟩
abbrev mJ2_indexOfRange : zM := (cJ2_indexOfRange, RJ2, 6, (some Jvm.ClassFile.FieldType.int), "indexOfRange", [], "(Ljava/lang/Object;II)I")
def fJ2_indexOfRange_36   (G : GS) : Option (Int32) :=
  some (-1)
theorem wfJ2_indexOfRange_36 {F : zF} (hd : 2 ≤ F.2.2.2)   (G : GS) {a : Int32} (h : fJ2_indexOfRange_36   G = some a) (hk : zKPI F G a) : J mJ2_indexOfRange F G 36 [] [] := by
  unfold fJ2_indexOfRange_36 at h
  refine j_goto (tgt := 69) dJ2_indexOfRange_36 (by decide) ?_
  refine j_iconst (v := (-1)) dJ2_indexOfRange_69 (by decide) ?_
  obtain rfl := Option.some.inj h
  exact j_iret hk.1 hk.2 rfl dJ2_indexOfRange_70
def fbJ2_indexOfRange_13 (x3 : Int32) (x4 : Option Nat) (x5 : Int32)  (G : GS) : Option ((Int32) ⊕ (Int32)) :=
  if x3 ≤ x5 then (zo (fJ2_indexOfRange_36 G)) else (x4.bind fun a2 => (zaR G 54 a2 x5).bind fun r4 => zopt r4 (zo (some x5)) (fun a6 => some (.inl ((x5 + 1)))))
def flJ2_indexOfRange_13 (x3 : Int32) (x4 : Option Nat) (x5 : Int32) (G : GS) : Option (Int32) := zloop (fun s : Int32 => fbJ2_indexOfRange_13 x3 x4 s G) (x5)
theorem wfbJ2_indexOfRange_13 {F : zF} (hd : 2 ≤ F.2.2.2) (x3 : Int32) (x4 : Option Nat) (x5 : Int32) (G : GS) {a : (Int32) ⊕ (Int32)} (h : fbJ2_indexOfRange_13 x3 x4 x5 G = some a) (hk : (zcase (fun s : Int32 => J mJ2_indexOfRange F G 13 [(3, vI x3), (4, vR x4), (5, vI s)] []) (zKPI F G)) a) : J mJ2_indexOfRange F G 13 [(3, vI x3), (4, vR x4), (5, vI x5)] [] := by
  unfold fbJ2_indexOfRange_13 at h
  refine j_iload (j := 2) dJ2_indexOfRange_13 rfl ?_
  refine j_iload_n (j := 0) dJ2_indexOfRange_15 rfl rfl ?_
  refine j_icmp_ge (tgt := 36) dJ2_indexOfRange_16 (by decide) (fun c1 => ?_) (fun c1 => ?_)
  · rw [if_pos c1] at h
    replace h := zoE h
    obtain ⟨a, h, rfl⟩ := h
    replace hk := hk
    exact J.sub (zall [] rfl) (wfJ2_indexOfRange_36 hd   G h hk)
  · rw [if_neg c1] at h
    refine j_aload (j := 1) dJ2_indexOfRange_19 rfl ?_
    refine j_iload (j := 2) dJ2_indexOfRange_21 rfl ?_
    replace h := zbE h
    obtain ⟨a2, e3, h⟩ := h
    subst e3
    replace h := zbE h
    obtain ⟨r4, e5, h⟩ := h
    refine j_aald (Or.inl rfl) e5 dJ2_indexOfRange_23 ?_
    rcases r4 with _ | a6
    · replace h := zopt_n h
      refine j_ifnonnull0 dJ2_indexOfRange_24 ?_
      replace h := zoE h
      obtain ⟨a, h, rfl⟩ := h
      replace hk := hk
      refine j_iload (j := 2) dJ2_indexOfRange_27 rfl ?_
      obtain rfl := Option.some.inj h
      exact j_iret hk.1 hk.2 rfl dJ2_indexOfRange_29
    · replace h := zopt_s h
      refine j_ifnonnull1 (tgt := 30) dJ2_indexOfRange_24 (by decide) ?_
      refine j_iinc (j := 2) (v := (x5 + 1)) (lv' := [(5, vI (x5 + 1)), (3, vI x3), (4, vR (some a2))]) dJ2_indexOfRange_30 rfl rfl (Nat.le_of_ble_eq_true rfl) rfl ?_
      refine j_goto (tgt := 13) dJ2_indexOfRange_33 (by decide) ?_
      obtain rfl := Option.some.inj h
      exact J.sub (zall [1, 2, 0] rfl) hk
theorem wflJ2_indexOfRange_13 {F : zF} (hd : 2 ≤ F.2.2.2) (x3 : Int32) (x4 : Option Nat) (x5 : Int32) (G : GS) {a : Int32} (h : flJ2_indexOfRange_13 x3 x4 x5 G = some a) (hk : zKPI F G a) : J mJ2_indexOfRange F G 13 [(3, vI x3), (4, vR x4), (5, vI x5)] [] := by
  unfold flJ2_indexOfRange_13 at h
  exact zloop_walk (P := (fun s : Int32 => J mJ2_indexOfRange F G 13 [(3, vI x3), (4, vR x4), (5, vI s)] [])) (fun s b e hk => wfbJ2_indexOfRange_13 hd x3 x4 s G e hk) (x5) _ h hk
def fbJ2_indexOfRange_42 (x1 : Option Nat) (x3 : Int32) (x4 : Option Nat) (x5 : Int32)  (G : GS) : Option ((Int32) ⊕ (Int32)) :=
  if x3 ≤ x5 then (zo (some (-1))) else (x4.bind fun a2 => (zaR G 54 a2 x5).bind fun r4 => x1.bind fun a6 => zk [3] G a6 <| (fJ37_equals_0 a6 r4 G).bind fun v10 => if v10 = 0 then (some (.inl ((x5 + 1)))) else (zo (some x5)))
def flJ2_indexOfRange_42 (x1 : Option Nat) (x3 : Int32) (x4 : Option Nat) (x5 : Int32) (G : GS) : Option (Int32) := zloop (fun s : Int32 => fbJ2_indexOfRange_42 x1 x3 x4 s G) (x5)
theorem wfbJ2_indexOfRange_42 {F : zF} (hd : 2 ≤ F.2.2.2) (x1 : Option Nat) (x3 : Int32) (x4 : Option Nat) (x5 : Int32) (G : GS) {a : (Int32) ⊕ (Int32)} (h : fbJ2_indexOfRange_42 x1 x3 x4 x5 G = some a) (hk : (zcase (fun s : Int32 => J mJ2_indexOfRange F G 42 [(1, vR x1), (3, vI x3), (4, vR x4), (5, vI s)] []) (zKPI F G)) a) : J mJ2_indexOfRange F G 42 [(1, vR x1), (3, vI x3), (4, vR x4), (5, vI x5)] [] := by
  unfold fbJ2_indexOfRange_42 at h
  refine j_iload (j := 3) dJ2_indexOfRange_42 rfl ?_
  refine j_iload_n (j := 1) dJ2_indexOfRange_44 rfl rfl ?_
  refine j_icmp_ge (tgt := 69) dJ2_indexOfRange_45 (by decide) (fun c1 => ?_) (fun c1 => ?_)
  · rw [if_pos c1] at h
    replace h := zoE h
    obtain ⟨a, h, rfl⟩ := h
    replace hk := hk
    refine j_iconst (v := (-1)) dJ2_indexOfRange_69 (by decide) ?_
    obtain rfl := Option.some.inj h
    exact j_iret hk.1 hk.2 rfl dJ2_indexOfRange_70
  · rw [if_neg c1] at h
    refine j_aload_n (j := 0) dJ2_indexOfRange_48 rfl rfl ?_
    refine j_aload (j := 2) dJ2_indexOfRange_49 rfl ?_
    refine j_iload (j := 3) dJ2_indexOfRange_51 rfl ?_
    replace h := zbE h
    obtain ⟨a2, e3, h⟩ := h
    subst e3
    replace h := zbE h
    obtain ⟨r4, e5, h⟩ := h
    refine j_aald (Or.inl rfl) e5 dJ2_indexOfRange_53 ?_
    replace h := zbE h
    obtain ⟨a6, e7, h⟩ := h
    subst e7
    replace h := zkE h
    obtain ⟨e8, h⟩ := h
    replace h := zbE h
    obtain ⟨v10, e9, h⟩ := h
    refine j_cont (zrU (As := [vR r4]) msJ2_93_X3 (yJ37_equals_ok e9) (Nat.le_trans (Nat.le_of_ble_eq_true rfl) hd) (zk_3 _ e8) rfl rfl (Nat.le_of_ble_eq_true rfl) dJ2_indexOfRange_54) ?_
    refine j_if_eq (tgt := 63) dJ2_indexOfRange_57 (by decide) (fun c11 => ?_) (fun c11 => ?_)
    · rw [if_pos c11] at h
      refine j_iinc (j := 3) (v := (x5 + 1)) (lv' := [(5, vI (x5 + 1)), (1, vR (some a6)), (3, vI x3), (4, vR (some a2))]) dJ2_indexOfRange_63 rfl rfl (Nat.le_of_ble_eq_true rfl) rfl ?_
      refine j_goto (tgt := 42) dJ2_indexOfRange_66 (by decide) ?_
      obtain rfl := Option.some.inj h
      exact J.sub (zall [1, 2, 3, 0] rfl) hk
    · rw [if_neg c11] at h
      replace h := zoE h
      obtain ⟨a, h, rfl⟩ := h
      replace hk := hk
      refine j_iload (j := 3) dJ2_indexOfRange_60 rfl ?_
      obtain rfl := Option.some.inj h
      exact j_iret hk.1 hk.2 rfl dJ2_indexOfRange_62
theorem wflJ2_indexOfRange_42 {F : zF} (hd : 2 ≤ F.2.2.2) (x1 : Option Nat) (x3 : Int32) (x4 : Option Nat) (x5 : Int32) (G : GS) {a : Int32} (h : flJ2_indexOfRange_42 x1 x3 x4 x5 G = some a) (hk : zKPI F G a) : J mJ2_indexOfRange F G 42 [(1, vR x1), (3, vI x3), (4, vR x4), (5, vI x5)] [] := by
  unfold flJ2_indexOfRange_42 at h
  exact zloop_walk (P := (fun s : Int32 => J mJ2_indexOfRange F G 42 [(1, vR x1), (3, vI x3), (4, vR x4), (5, vI s)] [])) (fun s b e hk => wfbJ2_indexOfRange_42 hd x1 x3 x4 s G e hk) (x5) _ h hk
def fJ2_indexOfRange_0 (t : Nat) (x1 : Option Nat) (x2 : Int32) (x3 : Int32)  (G : GS) : Option (Int32) :=
  (zgR G 12 t 1).bind fun r1 => zopt x1 (flJ2_indexOfRange_13 x3 r1 x2 G) (fun a3 => flJ2_indexOfRange_42 (some a3) x3 r1 x2 G)
theorem wfJ2_indexOfRange_0 {F : zF} (hd : 2 ≤ F.2.2.2) (t : Nat) (x1 : Option Nat) (x2 : Int32) (x3 : Int32)  (G : GS) {a : Int32} (h : fJ2_indexOfRange_0 t x1 x2 x3  G = some a) (hk : zKPI F G a) : J mJ2_indexOfRange F G 0 [(0, vR (some t)), (1, vR x1), (2, vI x2), (3, vI x3)] [] := by
  unfold fJ2_indexOfRange_0 at h
  refine j_aload_n (j := 0) dJ2_indexOfRange_0 rfl rfl ?_
  replace h := zbE h
  obtain ⟨r1, e2, h⟩ := h
  refine j_getR fgJ2_9 (fun _ _ _ => rfl) dJ2_indexOfRange_1 e2 ?_
  refine j_astore (lv' := [(4, vR r1), (0, vR (some t)), (1, vR x1), (2, vI x2), (3, vI x3)]) dJ2_indexOfRange_4 (Nat.le_of_ble_eq_true rfl) rfl ?_
  refine j_aload_n (j := 2) dJ2_indexOfRange_6 rfl rfl ?_
  rcases x1 with _ | a3
  · replace h := zopt_n h
    refine j_ifnonnull0 dJ2_indexOfRange_7 ?_
    refine j_iload_n (j := 3) dJ2_indexOfRange_10 rfl rfl ?_
    refine j_istore (lv' := [(5, vI x2), (4, vR r1), (0, vR (some t)), (1, vR none), (2, vI x2), (3, vI x3)]) dJ2_indexOfRange_11 (Nat.le_of_ble_eq_true rfl) rfl ?_
    exact J.sub (zall [5, 1, 0] rfl) (wflJ2_indexOfRange_13 hd x3 r1 x2  G h hk)
  · replace h := zopt_s h
    refine j_ifnonnull1 (tgt := 39) dJ2_indexOfRange_7 (by decide) ?_
    refine j_iload_n (j := 3) dJ2_indexOfRange_39 rfl rfl ?_
    refine j_istore (lv' := [(5, vI x2), (4, vR r1), (0, vR (some t)), (1, vR (some a3)), (2, vI x2), (3, vI x3)]) dJ2_indexOfRange_40 (Nat.le_of_ble_eq_true rfl) rfl ?_
    exact J.sub (zall [3, 5, 1, 0] rfl) (wflJ2_indexOfRange_42 hd (some a3) x3 r1 x2  G h hk)
theorem yJ2_indexOfRange_ok {t : Nat} {x1 : Option Nat} {x2 : Int32} {x3 : Int32} {G : GS} {r : Int32} (h : fJ2_indexOfRange_0 t x1 x2 x3 G = some r) : zRuns yJ2_indexOfRange (ws_ yJ2_indexOfRange cJ2_indexOfRange 6 (some Jvm.ClassFile.FieldType.int)) [vR (some t), vR x1, vI x2, vI x3] (.inl (some (vI r)), G, G, 2) :=
  zentry (M := mJ2_indexOfRange) (plainFor_of_name (by decide +kernel)) ⟨rfl, rfl, rfl, rfl⟩ (Nat.le_of_ble_eq_true rfl) (wfJ2_indexOfRange_0 (Nat.le_refl _) t x1 x2 x3 G h ⟨rfl, rfl⟩)
theorem msJ2_89 : zSV RJ2 89 RJ2 yJ2_indexOfRange cJ2_indexOfRange 6 (some Jvm.ClassFile.FieldType.int) 3 := ⟨lw_V q2351 q2352 q2353 q126 q2354, (by decide +kernel), (by decide)⟩
abbrev mJ2_indexOf : zM := (cJ2_indexOf, RJ2, 2, (some Jvm.ClassFile.FieldType.int), "indexOf", [], "(Ljava/lang/Object;)I")
def fJ2_indexOf_0 (t : Nat) (x1 : Option Nat)  (G : GS) : Option (Int32) :=
  (zgI G 12 t 2).bind fun v1 => zk [12] G t <| (fJ2_indexOfRange_0 t x1 0 v1 G).bind fun v5 => some v5
theorem wfJ2_indexOf_0 {F : zF} (hd : 3 ≤ F.2.2.2) (t : Nat) (x1 : Option Nat)  (G : GS) {a : Int32} (h : fJ2_indexOf_0 t x1  G = some a) (hk : zKPI F G a) : J mJ2_indexOf F G 0 [(0, vR (some t)), (1, vR x1)] [] := by
  unfold fJ2_indexOf_0 at h
  refine j_aload_n (j := 0) dJ2_indexOf_0 rfl rfl ?_
  refine j_aload_n (j := 1) dJ2_indexOf_1 rfl rfl ?_
  refine j_iconst (v := 0) dJ2_indexOf_2 (by decide) ?_
  refine j_aload_n (j := 0) dJ2_indexOf_3 rfl rfl ?_
  replace h := zbE h
  obtain ⟨v1, e2, h⟩ := h
  refine j_getI fgJ2_48 (fun _ _ _ => rfl) dJ2_indexOf_4 e2 ?_
  replace h := zkE h
  obtain ⟨e3, h⟩ := h
  replace h := zbE h
  obtain ⟨v5, e4, h⟩ := h
  refine j_cont (zrV (As := [vR x1, vI 0, vI v1]) msJ2_89 (yJ2_indexOfRange_ok e4) (Nat.le_trans (Nat.le_of_ble_eq_true rfl) hd) (zk_12 _ e3) rfl rfl (Nat.le_of_ble_eq_true rfl) dJ2_indexOf_7) ?_
  obtain rfl := Option.some.inj h
  exact j_iret hk.1 hk.2 rfl dJ2_indexOf_10
theorem yJ2_indexOf_ok {t : Nat} {x1 : Option Nat} {G : GS} {r : Int32} (h : fJ2_indexOf_0 t x1 G = some r) : zRuns yJ2_indexOf (ws_ yJ2_indexOf cJ2_indexOf 2 (some Jvm.ClassFile.FieldType.int)) [vR (some t), vR x1] (.inl (some (vI r)), G, G, 3) :=
  zentry (M := mJ2_indexOf) (plainFor_of_name (by decide +kernel)) ⟨rfl, rfl, rfl, rfl⟩ (Nat.le_of_ble_eq_true rfl) (wfJ2_indexOf_0 (Nat.le_refl _) t x1 G h ⟨rfl, rfl⟩)
abbrev mJ2_fastRemove : zM := (cJ2_fastRemove, RJ2, 4, none, "fastRemove", [], "([Ljava/lang/Object;I)V")
def fJ2_fastRemove_34 (t : Nat) (x1 : Option Nat) (x3 : Int32)  (G : GS) : Option (GS) :=
  (zpI G 12 t 2 x3).bind fun G1 => x1.bind fun a3 => (zsR G1 54 a3 x3 (none : Option Nat) [3]).bind fun G5 => some G5
theorem wfJ2_fastRemove_34 {F : zF} (hd : 1 ≤ F.2.2.2) (t : Nat) (x1 : Option Nat) (x3 : Int32)  (G : GS) {a : GS} (h : fJ2_fastRemove_34 t x1 x3  G = some a) (hk : zKV F a) : J mJ2_fastRemove F G 34 [(0, vR (some t)), (1, vR x1), (3, vI x3)] [] := by
  unfold fJ2_fastRemove_34 at h
  refine j_aload_n (j := 1) dJ2_fastRemove_34 rfl rfl ?_
  refine j_aload_n (j := 0) dJ2_fastRemove_35 rfl rfl ?_
  refine j_iload_n (j := 2) dJ2_fastRemove_36 rfl rfl ?_
  refine j_dup_x1 dJ2_fastRemove_37 rfl rfl ?_
  replace h := zbE h
  obtain ⟨G1, e2, h⟩ := h
  refine j_putI fpJ2_48_J2 (Or.inl rfl) rfl dJ2_fastRemove_38 e2 ?_
  refine j_null dJ2_fastRemove_41 ?_
  replace h := zbE h
  obtain ⟨a3, e4, h⟩ := h
  subst e4
  replace h := zbE h
  obtain ⟨G5, e6, h⟩ := h
  refine j_aast (t := 4) rfl e6 (fun k hk => ⟨_, zk_3 k hk, (Or.inl (zxw 93 rfl))⟩) dJ2_fastRemove_42 ?_
  obtain rfl := Option.some.inj h
  exact j_vret hk.1 hk.2 rfl dJ2_fastRemove_43
def fJ2_fastRemove_0 (t : Nat) (x1 : Option Nat) (x2 : Int32)  (G : GS) : Option (GS) :=
  (zgI G 12 t 0).bind fun v1 => (zpI G 12 t 0 (v1 + 1)).bind fun G3 => (zgI G3 12 t 2).bind fun v5 => if (v5 - 1) ≤ x2 then (fJ2_fastRemove_34 t x1 (v5 - 1) G3) else (x1.bind fun a8 => (zcpR G3 a8 (x2 + 1) a8 x2 ((v5 - 1) - x2)).bind fun G10 => fJ2_fastRemove_34 t (some a8) (v5 - 1) G10)
theorem wfJ2_fastRemove_0 {F : zF} (hd : 1 ≤ F.2.2.2) (t : Nat) (x1 : Option Nat) (x2 : Int32)  (G : GS) {a : GS} (h : fJ2_fastRemove_0 t x1 x2  G = some a) (hk : zKV F a) : J mJ2_fastRemove F G 0 [(0, vR (some t)), (1, vR x1), (2, vI x2)] [] := by
  unfold fJ2_fastRemove_0 at h
  refine j_aload_n (j := 0) dJ2_fastRemove_0 rfl rfl ?_
  refine j_dup dJ2_fastRemove_1 rfl ?_
  replace h := zbE h
  obtain ⟨v1, e2, h⟩ := h
  refine j_getI fgJ2_63 (fun _ _ _ => rfl) dJ2_fastRemove_2 e2 ?_
  refine j_iconst (v := 1) dJ2_fastRemove_5 (by decide) ?_
  refine j_iadd dJ2_fastRemove_6 ?_
  replace h := zbE h
  obtain ⟨G3, e4, h⟩ := h
  refine j_putI fpJ2_63_J2 (Or.inl rfl) rfl dJ2_fastRemove_7 e4 ?_
  refine j_aload_n (j := 0) dJ2_fastRemove_10 rfl rfl ?_
  replace h := zbE h
  obtain ⟨v5, e6, h⟩ := h
  refine j_getI fgJ2_48 (fun _ _ _ => rfl) dJ2_fastRemove_11 e6 ?_
  refine j_iconst (v := 1) dJ2_fastRemove_14 (by decide) ?_
  refine j_isub dJ2_fastRemove_15 ?_
  refine j_dup dJ2_fastRemove_16 rfl ?_
  refine j_istore_n (lv' := [(3, vI (v5 - 1)), (0, vR (some t)), (1, vR x1), (2, vI x2)]) dJ2_fastRemove_17 rfl (Nat.le_of_ble_eq_true rfl) rfl ?_
  refine j_iload_n (j := 3) dJ2_fastRemove_18 rfl rfl ?_
  refine j_icmp_le (tgt := 34) dJ2_fastRemove_19 (by decide) (fun c7 => ?_) (fun c7 => ?_)
  · rw [if_pos c7] at h
    exact J.sub (zall [1, 2, 0] rfl) (wfJ2_fastRemove_34 hd t x1 (v5 - 1)  G3 h hk)
  · rw [if_neg c7] at h
    refine j_aload_n (j := 2) dJ2_fastRemove_22 rfl rfl ?_
    refine j_iload_n (j := 3) dJ2_fastRemove_23 rfl rfl ?_
    refine j_iconst (v := 1) dJ2_fastRemove_24 (by decide) ?_
    refine j_iadd dJ2_fastRemove_25 ?_
    refine j_aload_n (j := 2) dJ2_fastRemove_26 rfl rfl ?_
    refine j_iload_n (j := 3) dJ2_fastRemove_27 rfl rfl ?_
    refine j_iload_n (j := 0) dJ2_fastRemove_28 rfl rfl ?_
    refine j_iload_n (j := 3) dJ2_fastRemove_29 rfl rfl ?_
    refine j_isub dJ2_fastRemove_30 ?_
    replace h := zbE h
    obtain ⟨a8, e9, h⟩ := h
    subst e9
    replace h := zbE h
    obtain ⟨G10, e11, h⟩ := h
    refine j_cpR e11 q1842 q816 q815 q142 (Nat.le_trans (Nat.le_of_ble_eq_true rfl) hd) (Nat.le_of_ble_eq_true rfl) dJ2_fastRemove_31 ?_
    exact J.sub (zall [1, 2, 0] rfl) (wfJ2_fastRemove_34 hd t (some a8) (v5 - 1)  G10 h hk)
theorem yJ2_fastRemove_ok {t : Nat} {x1 : Option Nat} {x2 : Int32} {G : GS} {G1 : GS} (h : fJ2_fastRemove_0 t x1 x2 G = some G1) : zRuns yJ2_fastRemove (ws_ yJ2_fastRemove cJ2_fastRemove 4 none) [vR (some t), vR x1, vI x2] (.inl none, G, G1, 1) :=
  zentry (M := mJ2_fastRemove) (plainFor_of_name (by decide +kernel)) ⟨rfl, rfl, rfl, rfl⟩ (Nat.le_of_ble_eq_true rfl) (wfJ2_fastRemove_0 (Nat.le_refl _) t x1 x2 G h ⟨rfl, rfl⟩)
theorem msJ2_144 : zSV RJ2 144 RJ2 yJ2_fastRemove cJ2_fastRemove 4 none 2 := ⟨lw_V q1838 q1840 qs38 q126 q1841, (by decide +kernel), (by decide)⟩
abbrev mJ2_remove_2 : zM := (cJ2_remove_2, RJ2, 5, (some Jvm.ClassFile.FieldType.boolean), "remove", [], "(Ljava/lang/Object;)Z")
def fJ2_remove_2_67 (t : Nat) (x2 : Option Nat) (x4 : Int32)  (G : GS) : Option ((Int32) × GS) :=
  zk [12] G t <| (fJ2_fastRemove_0 t x2 x4 G).bind fun G3 => zcond (zbb 1) (some (1, G3))
theorem wfJ2_remove_2_67 {F : zF} (hd : 2 ≤ F.2.2.2) (t : Nat) (x2 : Option Nat) (x4 : Int32)  (G : GS) {a : (Int32) × GS} (h : fJ2_remove_2_67 t x2 x4  G = some a) (hk : zKI F a) : J mJ2_remove_2 F G 67 [(0, vR (some t)), (2, vR x2), (4, vI x4)] [] := by
  unfold fJ2_remove_2_67 at h
  refine j_aload_n (j := 0) dJ2_remove_2_67 rfl rfl ?_
  refine j_aload_n (j := 1) dJ2_remove_2_68 rfl rfl ?_
  refine j_iload (j := 2) dJ2_remove_2_69 rfl ?_
  replace h := zkE h
  obtain ⟨e1, h⟩ := h
  replace h := zbE h
  obtain ⟨G3, e2, h⟩ := h
  refine j_cont (zrV (As := [vR x2, vI x4]) msJ2_144 (yJ2_fastRemove_ok e2) (Nat.le_trans (Nat.le_of_ble_eq_true rfl) hd) (zk_12 _ e1) rfl rfl (Nat.le_of_ble_eq_true rfl) dJ2_remove_2_71) ?_
  refine j_iconst (v := 1) dJ2_remove_2_74 (by decide) ?_
  replace h := zcondE h
  obtain ⟨e4, h⟩ := h
  obtain rfl := Option.some.inj h
  exact j_zret hk.1 hk.2 rfl (zbb_n e4) dJ2_remove_2_75
def fJ2_remove_2_30 (t : Nat) (x2 : Option Nat) (x4 : Int32)  (G : GS) : Option ((Int32) × GS) :=
  fJ2_remove_2_67 t x2 x4 G
theorem wfJ2_remove_2_30 {F : zF} (hd : 2 ≤ F.2.2.2) (t : Nat) (x2 : Option Nat) (x4 : Int32)  (G : GS) {a : (Int32) × GS} (h : fJ2_remove_2_30 t x2 x4  G = some a) (hk : zKI F a) : J mJ2_remove_2 F G 30 [(0, vR (some t)), (2, vR x2), (4, vI x4)] [] := by
  unfold fJ2_remove_2_30 at h
  refine j_goto (tgt := 67) dJ2_remove_2_30 (by decide) ?_
  exact J.sub (zall [0, 1, 2] rfl) (wfJ2_remove_2_67 hd t x2 x4  G h hk)
def fbJ2_remove_2_17 (t : Nat) (x2 : Option Nat) (x3 : Int32) (x4 : Int32)  (G : GS) : Option ((Int32) ⊕ ((Int32) × GS)) :=
  if x3 ≤ x4 then (zo (zcond (zbb 0) (some (0, G)))) else (x2.bind fun a3 => (zaR G 54 a3 x4).bind fun r5 => zopt r5 (zo (fJ2_remove_2_30 t (some a3) x4 G)) (fun a7 => some (.inl ((x4 + 1)))))
def flJ2_remove_2_17 (t : Nat) (x2 : Option Nat) (x3 : Int32) (x4 : Int32) (G : GS) : Option ((Int32) × GS) := zloop (fun s : Int32 => fbJ2_remove_2_17 t x2 x3 s G) (x4)
theorem wfbJ2_remove_2_17 {F : zF} (hd : 2 ≤ F.2.2.2) (t : Nat) (x2 : Option Nat) (x3 : Int32) (x4 : Int32) (G : GS) {a : (Int32) ⊕ ((Int32) × GS)} (h : fbJ2_remove_2_17 t x2 x3 x4 G = some a) (hk : (zcase (fun s : Int32 => J mJ2_remove_2 F G 17 [(0, vR (some t)), (2, vR x2), (3, vI x3), (4, vI s)] []) (zKI F)) a) : J mJ2_remove_2 F G 17 [(0, vR (some t)), (2, vR x2), (3, vI x3), (4, vI x4)] [] := by
  unfold fbJ2_remove_2_17 at h
  refine j_iload (j := 3) dJ2_remove_2_17 rfl ?_
  refine j_iload_n (j := 2) dJ2_remove_2_19 rfl rfl ?_
  refine j_icmp_ge (tgt := 65) dJ2_remove_2_20 (by decide) (fun c1 => ?_) (fun c1 => ?_)
  · rw [if_pos c1] at h
    replace h := zoE h
    obtain ⟨a, h, rfl⟩ := h
    replace hk := hk
    refine j_iconst (v := 0) dJ2_remove_2_65 (by decide) ?_
    replace h := zcondE h
    obtain ⟨e2, h⟩ := h
    obtain rfl := Option.some.inj h
    exact j_zret hk.1 hk.2 rfl (zbb_n e2) dJ2_remove_2_66
  · rw [if_neg c1] at h
    refine j_aload_n (j := 1) dJ2_remove_2_23 rfl rfl ?_
    refine j_iload (j := 3) dJ2_remove_2_24 rfl ?_
    replace h := zbE h
    obtain ⟨a3, e4, h⟩ := h
    subst e4
    replace h := zbE h
    obtain ⟨r5, e6, h⟩ := h
    refine j_aald (Or.inl rfl) e6 dJ2_remove_2_26 ?_
    rcases r5 with _ | a7
    · replace h := zopt_n h
      refine j_ifnonnull0 dJ2_remove_2_27 ?_
      replace h := zoE h
      obtain ⟨a, h, rfl⟩ := h
      replace hk := hk
      exact J.sub (zall [0, 1, 3] rfl) (wfJ2_remove_2_30 hd t (some a3) x4  G h hk)
    · replace h := zopt_s h
      refine j_ifnonnull1 (tgt := 33) dJ2_remove_2_27 (by decide) ?_
      refine j_iinc (j := 3) (v := (x4 + 1)) (lv' := [(4, vI (x4 + 1)), (0, vR (some t)), (2, vR (some a3)), (3, vI x3)]) dJ2_remove_2_33 rfl rfl (Nat.le_of_ble_eq_true rfl) rfl ?_
      refine j_goto (tgt := 17) dJ2_remove_2_36 (by decide) ?_
      obtain rfl := Option.some.inj h
      exact J.sub (zall [1, 2, 3, 0] rfl) hk
theorem wflJ2_remove_2_17 {F : zF} (hd : 2 ≤ F.2.2.2) (t : Nat) (x2 : Option Nat) (x3 : Int32) (x4 : Int32) (G : GS) {a : (Int32) × GS} (h : flJ2_remove_2_17 t x2 x3 x4 G = some a) (hk : zKI F a) : J mJ2_remove_2 F G 17 [(0, vR (some t)), (2, vR x2), (3, vI x3), (4, vI x4)] [] := by
  unfold flJ2_remove_2_17 at h
  exact zloop_walk (P := (fun s : Int32 => J mJ2_remove_2 F G 17 [(0, vR (some t)), (2, vR x2), (3, vI x3), (4, vI s)] [])) (fun s b e hk => wfbJ2_remove_2_17 hd t x2 x3 s G e hk) (x4) _ h hk
def fJ2_remove_2_56 (t : Nat) (x2 : Option Nat) (x4 : Int32)  (G : GS) : Option ((Int32) × GS) :=
  fJ2_remove_2_67 t x2 x4 G
theorem wfJ2_remove_2_56 {F : zF} (hd : 2 ≤ F.2.2.2) (t : Nat) (x2 : Option Nat) (x4 : Int32)  (G : GS) {a : (Int32) × GS} (h : fJ2_remove_2_56 t x2 x4  G = some a) (hk : zKI F a) : J mJ2_remove_2 F G 56 [(0, vR (some t)), (2, vR x2), (4, vI x4)] [] := by
  unfold fJ2_remove_2_56 at h
  refine j_goto (tgt := 67) dJ2_remove_2_56 (by decide) ?_
  exact J.sub (zall [0, 1, 2] rfl) (wfJ2_remove_2_67 hd t x2 x4  G h hk)
def fbJ2_remove_2_39 (t : Nat) (x1 : Option Nat) (x2 : Option Nat) (x3 : Int32) (x4 : Int32)  (G : GS) : Option ((Int32) ⊕ ((Int32) × GS)) :=
  if x3 ≤ x4 then (zo (zcond (zbb 0) (some (0, G)))) else (x2.bind fun a3 => (zaR G 54 a3 x4).bind fun r5 => x1.bind fun a7 => zk [3] G a7 <| (fJ37_equals_0 a7 r5 G).bind fun v11 => if v11 = 0 then (some (.inl ((x4 + 1)))) else (zo (fJ2_remove_2_56 t (some a3) x4 G)))
def flJ2_remove_2_39 (t : Nat) (x1 : Option Nat) (x2 : Option Nat) (x3 : Int32) (x4 : Int32) (G : GS) : Option ((Int32) × GS) := zloop (fun s : Int32 => fbJ2_remove_2_39 t x1 x2 x3 s G) (x4)
theorem wfbJ2_remove_2_39 {F : zF} (hd : 2 ≤ F.2.2.2) (t : Nat) (x1 : Option Nat) (x2 : Option Nat) (x3 : Int32) (x4 : Int32) (G : GS) {a : (Int32) ⊕ ((Int32) × GS)} (h : fbJ2_remove_2_39 t x1 x2 x3 x4 G = some a) (hk : (zcase (fun s : Int32 => J mJ2_remove_2 F G 39 [(0, vR (some t)), (1, vR x1), (2, vR x2), (3, vI x3), (4, vI s)] []) (zKI F)) a) : J mJ2_remove_2 F G 39 [(0, vR (some t)), (1, vR x1), (2, vR x2), (3, vI x3), (4, vI x4)] [] := by
  unfold fbJ2_remove_2_39 at h
  refine j_iload (j := 4) dJ2_remove_2_39 rfl ?_
  refine j_iload_n (j := 3) dJ2_remove_2_41 rfl rfl ?_
  refine j_icmp_ge (tgt := 65) dJ2_remove_2_42 (by decide) (fun c1 => ?_) (fun c1 => ?_)
  · rw [if_pos c1] at h
    replace h := zoE h
    obtain ⟨a, h, rfl⟩ := h
    replace hk := hk
    refine j_iconst (v := 0) dJ2_remove_2_65 (by decide) ?_
    replace h := zcondE h
    obtain ⟨e2, h⟩ := h
    obtain rfl := Option.some.inj h
    exact j_zret hk.1 hk.2 rfl (zbb_n e2) dJ2_remove_2_66
  · rw [if_neg c1] at h
    refine j_aload_n (j := 1) dJ2_remove_2_45 rfl rfl ?_
    refine j_aload_n (j := 2) dJ2_remove_2_46 rfl rfl ?_
    refine j_iload (j := 4) dJ2_remove_2_47 rfl ?_
    replace h := zbE h
    obtain ⟨a3, e4, h⟩ := h
    subst e4
    replace h := zbE h
    obtain ⟨r5, e6, h⟩ := h
    refine j_aald (Or.inl rfl) e6 dJ2_remove_2_49 ?_
    replace h := zbE h
    obtain ⟨a7, e8, h⟩ := h
    subst e8
    replace h := zkE h
    obtain ⟨e9, h⟩ := h
    replace h := zbE h
    obtain ⟨v11, e10, h⟩ := h
    refine j_cont (zrU (As := [vR r5]) msJ2_93_X3 (yJ37_equals_ok e10) (Nat.le_trans (Nat.le_of_ble_eq_true rfl) hd) (zk_3 _ e9) rfl rfl (Nat.le_of_ble_eq_true rfl) dJ2_remove_2_50) ?_
    refine j_if_eq (tgt := 59) dJ2_remove_2_53 (by decide) (fun c12 => ?_) (fun c12 => ?_)
    · rw [if_pos c12] at h
      refine j_iinc (j := 4) (v := (x4 + 1)) (lv' := [(4, vI (x4 + 1)), (0, vR (some t)), (1, vR (some a7)), (2, vR (some a3)), (3, vI x3)]) dJ2_remove_2_59 rfl rfl (Nat.le_of_ble_eq_true rfl) rfl ?_
      refine j_goto (tgt := 39) dJ2_remove_2_62 (by decide) ?_
      obtain rfl := Option.some.inj h
      exact J.sub (zall [1, 2, 3, 4, 0] rfl) hk
    · rw [if_neg c12] at h
      replace h := zoE h
      obtain ⟨a, h, rfl⟩ := h
      replace hk := hk
      exact J.sub (zall [0, 2, 4] rfl) (wfJ2_remove_2_56 hd t (some a3) x4  G h hk)
theorem wflJ2_remove_2_39 {F : zF} (hd : 2 ≤ F.2.2.2) (t : Nat) (x1 : Option Nat) (x2 : Option Nat) (x3 : Int32) (x4 : Int32) (G : GS) {a : (Int32) × GS} (h : flJ2_remove_2_39 t x1 x2 x3 x4 G = some a) (hk : zKI F a) : J mJ2_remove_2 F G 39 [(0, vR (some t)), (1, vR x1), (2, vR x2), (3, vI x3), (4, vI x4)] [] := by
  unfold flJ2_remove_2_39 at h
  exact zloop_walk (P := (fun s : Int32 => J mJ2_remove_2 F G 39 [(0, vR (some t)), (1, vR x1), (2, vR x2), (3, vI x3), (4, vI s)] [])) (fun s b e hk => wfbJ2_remove_2_39 hd t x1 x2 x3 s G e hk) (x4) _ h hk
def fJ2_remove_2_0 (t : Nat) (x1 : Option Nat)  (G : GS) : Option ((Int32) × GS) :=
  (zgR G 12 t 1).bind fun r1 => (zgI G 12 t 2).bind fun v3 => zopt x1 (flJ2_remove_2_17 t r1 v3 0 G) (fun a5 => flJ2_remove_2_39 t (some a5) r1 v3 0 G)
theorem wfJ2_remove_2_0 {F : zF} (hd : 2 ≤ F.2.2.2) (t : Nat) (x1 : Option Nat)  (G : GS) {a : (Int32) × GS} (h : fJ2_remove_2_0 t x1  G = some a) (hk : zKI F a) : J mJ2_remove_2 F G 0 [(0, vR (some t)), (1, vR x1)] [] := by
  unfold fJ2_remove_2_0 at h
  refine j_aload_n (j := 0) dJ2_remove_2_0 rfl rfl ?_
  replace h := zbE h
  obtain ⟨r1, e2, h⟩ := h
  refine j_getR fgJ2_9 (fun _ _ _ => rfl) dJ2_remove_2_1 e2 ?_
  refine j_astore_n (lv' := [(2, vR r1), (0, vR (some t)), (1, vR x1)]) dJ2_remove_2_4 rfl (Nat.le_of_ble_eq_true rfl) rfl ?_
  refine j_aload_n (j := 1) dJ2_remove_2_5 rfl rfl ?_
  replace h := zbE h
  obtain ⟨v3, e4, h⟩ := h
  refine j_getI fgJ2_48 (fun _ _ _ => rfl) dJ2_remove_2_6 e4 ?_
  refine j_istore_n (lv' := [(3, vI v3), (2, vR r1), (0, vR (some t)), (1, vR x1)]) dJ2_remove_2_9 rfl (Nat.le_of_ble_eq_true rfl) rfl ?_
  refine j_iconst (v := 0) dJ2_remove_2_10 (by decide) ?_
  refine j_istore (lv' := [(4, vI 0), (3, vI v3), (2, vR r1), (0, vR (some t)), (1, vR x1)]) dJ2_remove_2_11 (Nat.le_of_ble_eq_true rfl) rfl ?_
  refine j_aload_n (j := 4) dJ2_remove_2_13 rfl rfl ?_
  rcases x1 with _ | a5
  · replace h := zopt_n h
    refine j_ifnonnull0 dJ2_remove_2_14 ?_
    exact J.sub (zall [3, 2, 1, 0] rfl) (wflJ2_remove_2_17 hd t r1 v3 0  G h hk)
  · replace h := zopt_s h
    refine j_ifnonnull1 (tgt := 39) dJ2_remove_2_14 (by decide) ?_
    exact J.sub (zall [3, 4, 2, 1, 0] rfl) (wflJ2_remove_2_39 hd t (some a5) r1 v3 0  G h hk)
theorem yJ2_remove_2_ok {t : Nat} {x1 : Option Nat} {G : GS} {r : Int32} {G1 : GS} (h : fJ2_remove_2_0 t x1 G = some (r, G1)) : zRuns yJ2_remove_2 (ws_ yJ2_remove_2 cJ2_remove_2 5 (some Jvm.ClassFile.FieldType.boolean)) [vR (some t), vR x1] (.inl (some (vI r)), G, G1, 2) :=
  zentry (M := mJ2_remove_2) (plainFor_of_name (by decide +kernel)) ⟨rfl, rfl, rfl, rfl⟩ (Nat.le_of_ble_eq_true rfl) (wfJ2_remove_2_0 (Nat.le_refl _) t x1 G h ⟨rfl, rfl⟩)
abbrev mX3_rest : zM := (cX3_rest, RX3, 5, (some (Jvm.ClassFile.FieldType.array Jvm.ClassFile.FieldType.int)), "rest", [], "(I[I)[I")
def fbX3_rest_18 (t : Nat) (x1 : Int32) (x2 : Option Nat) (x3 : Option Nat) (x4 : Int32)  (G : GS) : Option ((Int32 × GS) ⊕ ((Option Nat) × GS)) :=
  (zgR G 3 t 1).bind fun r1 => r1.bind fun a3 => (zln G a3).bind fun v5 => if v5 ≤ x4 then (zo (some (x3, G))) else (x2.bind fun a8 => (zln G a8).bind fun v10 => (zgR G 3 t 1).bind fun r12 => r12.bind fun a14 => (zaI G 50 a14 x4).bind fun v16 => x3.bind fun a18 => (zsI G 50 a18 ((v10 + x4) - x1) v16).bind fun G20 => some (.inl ((x4 + 1), G20)))
def flX3_rest_18 (t : Nat) (x1 : Int32) (x2 : Option Nat) (x3 : Option Nat) (x4 : Int32) (G : GS) : Option ((Option Nat) × GS) := zloop (fun s : Int32 × GS => fbX3_rest_18 t x1 x2 x3 s.1 s.2) (x4, G)
theorem wfbX3_rest_18 {F : zF} (hd : 3 ≤ F.2.2.2) (t : Nat) (x1 : Int32) (x2 : Option Nat) (x3 : Option Nat) (x4 : Int32) (G : GS) {a : (Int32 × GS) ⊕ ((Option Nat) × GS)} (h : fbX3_rest_18 t x1 x2 x3 x4 G = some a) (hk : (zcase (fun s : Int32 × GS => J mX3_rest F s.2 18 [(0, vR (some t)), (1, vI x1), (2, vR x2), (3, vR x3), (4, vI s.1)] []) (zKR F)) a) : J mX3_rest F G 18 [(0, vR (some t)), (1, vI x1), (2, vR x2), (3, vR x3), (4, vI x4)] [] := by
  unfold fbX3_rest_18 at h
  refine j_iload (j := 4) dX3_rest_18 rfl ?_
  refine j_aload_n (j := 0) dX3_rest_20 rfl rfl ?_
  replace h := zbE h
  obtain ⟨r1, e2, h⟩ := h
  refine j_getR fgX3_13 (fun _ _ _ => rfl) dX3_rest_21 e2 ?_
  replace h := zbE h
  obtain ⟨a3, e4, h⟩ := h
  subst e4
  replace h := zbE h
  obtain ⟨v5, e6, h⟩ := h
  refine j_alen e6 dX3_rest_24 ?_
  refine j_icmp_ge (tgt := 50) dX3_rest_25 (by decide) (fun c7 => ?_) (fun c7 => ?_)
  · rw [if_pos c7] at h
    replace h := zoE h
    obtain ⟨a, h, rfl⟩ := h
    replace hk := hk
    refine j_aload_n (j := 3) dX3_rest_50 rfl rfl ?_
    obtain rfl := Option.some.inj h
    exact j_aret hk.1 hk.2 rfl (Or.inr ⟨_, rfl⟩) dX3_rest_51
  · rw [if_neg c7] at h
    refine j_aload_n (j := 3) dX3_rest_28 rfl rfl ?_
    refine j_aload_n (j := 2) dX3_rest_29 rfl rfl ?_
    replace h := zbE h
    obtain ⟨a8, e9, h⟩ := h
    subst e9
    replace h := zbE h
    obtain ⟨v10, e11, h⟩ := h
    refine j_alen e11 dX3_rest_30 ?_
    refine j_iload (j := 4) dX3_rest_31 rfl ?_
    refine j_iadd dX3_rest_33 ?_
    refine j_iload_n (j := 1) dX3_rest_34 rfl rfl ?_
    refine j_isub dX3_rest_35 ?_
    refine j_aload_n (j := 0) dX3_rest_36 rfl rfl ?_
    replace h := zbE h
    obtain ⟨r12, e13, h⟩ := h
    refine j_getR fgX3_13 (fun _ _ _ => rfl) dX3_rest_37 e13 ?_
    refine j_iload (j := 4) dX3_rest_40 rfl ?_
    replace h := zbE h
    obtain ⟨a14, e15, h⟩ := h
    subst e15
    replace h := zbE h
    obtain ⟨v16, e17, h⟩ := h
    refine j_iald (Or.inl rfl) e17 dX3_rest_42 ?_
    replace h := zbE h
    obtain ⟨a18, e19, h⟩ := h
    subst e19
    replace h := zbE h
    obtain ⟨G20, e21, h⟩ := h
    refine j_iast e21 dX3_rest_43 ?_
    refine j_iinc (j := 4) (v := (x4 + 1)) (lv' := [(4, vI (x4 + 1)), (0, vR (some t)), (1, vI x1), (2, vR (some a8)), (3, vR (some a18))]) dX3_rest_44 rfl rfl (Nat.le_of_ble_eq_true rfl) rfl ?_
    refine j_goto (tgt := 18) dX3_rest_47 (by decide) ?_
    obtain rfl := Option.some.inj h
    exact J.sub (zall [1, 2, 3, 4, 0] rfl) hk
theorem wflX3_rest_18 {F : zF} (hd : 3 ≤ F.2.2.2) (t : Nat) (x1 : Int32) (x2 : Option Nat) (x3 : Option Nat) (x4 : Int32) (G : GS) {a : (Option Nat) × GS} (h : flX3_rest_18 t x1 x2 x3 x4 G = some a) (hk : zKR F a) : J mX3_rest F G 18 [(0, vR (some t)), (1, vI x1), (2, vR x2), (3, vR x3), (4, vI x4)] [] := by
  unfold flX3_rest_18 at h
  exact zloop_walk (P := (fun s : Int32 × GS => J mX3_rest F s.2 18 [(0, vR (some t)), (1, vI x1), (2, vR x2), (3, vR x3), (4, vI s.1)] [])) (fun s b e hk => wfbX3_rest_18 hd t x1 x2 x3 s.1 s.2 e hk) (x4, G) _ h hk
def fX3_rest_0 (t : Nat) (x1 : Int32) (x2 : Option Nat)  (G : GS) : Option ((Option Nat) × GS) :=
  x2.bind fun a1 => (zln G a1).bind fun v3 => (zgR G 3 t 1).bind fun r5 => r5.bind fun a7 => (zln G a7).bind fun v9 => zb2 (fJ15_copyOf_3_0 (some a1) ((v3 + v9) - x1) G) fun r12 G13 => flX3_rest_18 t x1 (some a1) r12 x1 G13
theorem wfX3_rest_0 {F : zF} (hd : 3 ≤ F.2.2.2) (t : Nat) (x1 : Int32) (x2 : Option Nat)  (G : GS) {a : (Option Nat) × GS} (h : fX3_rest_0 t x1 x2  G = some a) (hk : zKR F a) : J mX3_rest F G 0 [(0, vR (some t)), (1, vI x1), (2, vR x2)] [] := by
  unfold fX3_rest_0 at h
  refine j_aload_n (j := 2) dX3_rest_0 rfl rfl ?_
  refine j_aload_n (j := 2) dX3_rest_1 rfl rfl ?_
  replace h := zbE h
  obtain ⟨a1, e2, h⟩ := h
  subst e2
  replace h := zbE h
  obtain ⟨v3, e4, h⟩ := h
  refine j_alen e4 dX3_rest_2 ?_
  refine j_aload_n (j := 0) dX3_rest_3 rfl rfl ?_
  replace h := zbE h
  obtain ⟨r5, e6, h⟩ := h
  refine j_getR fgX3_13 (fun _ _ _ => rfl) dX3_rest_4 e6 ?_
  replace h := zbE h
  obtain ⟨a7, e8, h⟩ := h
  subst e8
  replace h := zbE h
  obtain ⟨v9, e10, h⟩ := h
  refine j_alen e10 dX3_rest_7 ?_
  refine j_iadd dX3_rest_8 ?_
  refine j_iload_n (j := 1) dX3_rest_9 rfl rfl ?_
  refine j_isub dX3_rest_10 ?_
  replace h := zb2E h
  obtain ⟨r12, G13, e11, h⟩ := h
  refine j_cont (zrS (As := [vR (some a1), vI ((v3 + v9) - x1)]) msX3_23 (yJ15_copyOf_3_ok e11) (Nat.le_trans (Nat.le_of_ble_eq_true rfl) hd) rfl rfl (Nat.le_of_ble_eq_true rfl) dX3_rest_11) ?_
  refine j_astore_n (lv' := [(3, vR r12), (0, vR (some t)), (1, vI x1), (2, vR (some a1))]) dX3_rest_14 rfl (Nat.le_of_ble_eq_true rfl) rfl ?_
  refine j_iload_n (j := 2) dX3_rest_15 rfl rfl ?_
  refine j_istore (lv' := [(4, vI x1), (3, vR r12), (0, vR (some t)), (1, vI x1), (2, vR (some a1))]) dX3_rest_16 (Nat.le_of_ble_eq_true rfl) rfl ?_
  exact J.sub (zall [2, 3, 4, 1, 0] rfl) (wflX3_rest_18 hd t x1 (some a1) r12 x1  G13 h hk)
theorem yX3_rest_ok {t : Nat} {x1 : Int32} {x2 : Option Nat} {G : GS} {r : Option Nat} {G1 : GS} (h : fX3_rest_0 t x1 x2 G = some (r, G1)) : zRuns yX3_rest (ws_ yX3_rest cX3_rest 5 (some (Jvm.ClassFile.FieldType.array Jvm.ClassFile.FieldType.int))) [vR (some t), vI x1, vR x2] (.inl (some (vR r)), G, G1, 3) :=
  zentry (M := mX3_rest) (plainFor_of_name (by decide +kernel)) ⟨rfl, rfl, rfl, rfl⟩ (Nat.le_of_ble_eq_true rfl) (wfX3_rest_0 (Nat.le_refl _) t x1 x2 G h ⟨rfl, rfl⟩)
end
