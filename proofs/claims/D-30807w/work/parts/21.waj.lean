/-! printed: functions and walks -/
set_option maxRecDepth 100000
noncomputable section
abbrev mX1_token : zM := (cX1_token, RX1, 1, (some Jvm.ClassFile.FieldType.int), "token", [], "(I)I")
def fX1_token_0 (x0 : Int32)  (G : GS) : Option (((Int32) ⊕ String) × GS) :=
  zb3 (fX1_valid_0 x0 0 12 G) (fun v2 G3 => some (.inl v2, G3)) (fun X4 G5 => some (.inr X4, G5))
theorem wfX1_token_0 {F : zF} (hd : 8 ≤ F.2.2.2) (x0 : Int32)  (G : GS) {a : ((Int32) ⊕ String) × GS} (h : fX1_token_0 x0  G = some a) (hk : zKXI F a) : J mX1_token F G 0 [(0, vI x0)] [] := by
  unfold fX1_token_0 at h
  refine j_iload_n (j := 0) dX1_token_0 rfl rfl ?_
  refine j_iconst (v := 0) dX1_token_1 (by decide) ?_
  refine j_bipush (v := 12) dX1_token_2 (by decide) ?_
  replace h := zb3E h
  rcases h with ⟨v2, G3, e1, h⟩ | ⟨X4, G5, e1, h⟩
  · refine j_cont (zrS (As := [vI x0, vI 0, vI 12]) msX1_50 (yX1_valid_ok e1) (Nat.le_trans (Nat.le_of_ble_eq_true rfl) hd) rfl rfl (Nat.le_of_ble_eq_true rfl) dX1_token_4) ?_
    obtain rfl := Option.some.inj h
    exact j_iret hk.1 hk.2 rfl dX1_token_7
  · refine j_thr (zrS (As := [vI x0, vI 0, vI 12]) msX1_50 (yX1_valid_ok e1) (Nat.le_trans (Nat.le_of_ble_eq_true rfl) hd) rfl rfl (Nat.le_of_ble_eq_true rfl) dX1_token_4) ?_
    obtain rfl := Option.some.inj h
    exact jx_out hk.1 hk.2 (by decide)
theorem yX1_token_ok {x0 : Int32} {G : GS} {r : (Int32) ⊕ String} {G1 : GS} (h : fX1_token_0 x0 G = some (r, G1)) : zRuns yX1_token (ws_ yX1_token cX1_token 1 (some Jvm.ClassFile.FieldType.int)) [vI x0] (zout (fun v => some (vI v)) r, G, G1, 8) :=
  zentry (M := mX1_token) (plainFor_of_name (by decide +kernel)) ⟨rfl, rfl, rfl, rfl⟩ (Nat.le_of_ble_eq_true rfl) (wfX1_token_0 (Nat.le_refl _) x0 G h ⟨rfl, rfl⟩)
theorem fpX11_13_X11 : zFP RX11 13 9 1 (.int) true := ⟨(RX11, TX11, 3, tyX11), rfl, by decide, in_X11, tyX11_ok, nmX11, rfl, rfl, (by intro _; rfl), "SelahGenerator$Fault", Or.inl rfl, q2528⟩
theorem fpX11_16_X11 : zFP RX11 16 9 2 (.boolean) true := ⟨(RX11, TX11, 3, tyX11), rfl, by decide, in_X11, tyX11_ok, nmX11, rfl, rfl, (by intro _; rfl), "SelahGenerator$Fault", Or.inl rfl, q2530⟩
theorem fpX11_7_X11 : zFP RX11 7 9 0 (.int) true := ⟨(RX11, TX11, 3, tyX11), rfl, by decide, in_X11, tyX11_ok, nmX11, rfl, rfl, (by intro _; rfl), "SelahGenerator$Fault", Or.inl rfl, q2526⟩
abbrev mX11_init : zM := (cX11_init, RX11, 4, none, "<init>", [], "(IIZ)V")
def fX11_init_0 (t : Nat) (x1 : Int32) (x2 : Int32) (x3 : Int32)  (G : GS) : Option (GS) :=
  (zpI G 10 t 0 x1).bind fun G1 => (zpI G1 10 t 1 x2).bind fun G3 => (zpZ G3 10 t 2 x3).bind fun G5 => some G5
theorem wfX11_init_0 {F : zF} (hd : 2 ≤ F.2.2.2) (t : Nat) (x1 : Int32) (x2 : Int32) (x3 : Int32)  (G : GS) {a : GS} (h : fX11_init_0 t x1 x2 x3  G = some a) (hk : zKV F a) : J mX11_init F G 0 [(0, vR (some t)), (1, vI x1), (2, vI x2), (3, vI x3)] [] := by
  unfold fX11_init_0 at h
  refine j_aload_n (j := 0) dX11_init_0 rfl rfl ?_
  refine j_objinit q2525 q181 q182 (Nat.le_trans (Nat.le_of_ble_eq_true rfl) hd) (Nat.le_of_ble_eq_true rfl) dX11_init_1 ?_
  refine j_aload_n (j := 0) dX11_init_4 rfl rfl ?_
  refine j_iload_n (j := 1) dX11_init_5 rfl rfl ?_
  replace h := zbE h
  obtain ⟨G1, e2, h⟩ := h
  refine j_putI fpX11_7_X11 (Or.inr rfl) rfl dX11_init_6 e2 ?_
  refine j_aload_n (j := 0) dX11_init_9 rfl rfl ?_
  refine j_iload_n (j := 2) dX11_init_10 rfl rfl ?_
  replace h := zbE h
  obtain ⟨G3, e4, h⟩ := h
  refine j_putI fpX11_13_X11 (Or.inr rfl) rfl dX11_init_11 e4 ?_
  refine j_aload_n (j := 0) dX11_init_14 rfl rfl ?_
  refine j_iload_n (j := 3) dX11_init_15 rfl rfl ?_
  replace h := zbE h
  obtain ⟨G5, e6, h⟩ := h
  refine j_putZ fpX11_16_X11 (Or.inr rfl) rfl dX11_init_16 e6 ?_
  obtain rfl := Option.some.inj h
  exact j_vret hk.1 hk.2 rfl dX11_init_19
theorem yX11_init_ok {t : Nat} {x1 : Int32} {x2 : Int32} {x3 : Int32} {G : GS} {G1 : GS} (h : fX11_init_0 t x1 x2 x3 G = some G1) : zRuns yX11_init (ws_ yX11_init cX11_init 4 none) [vR (some t), vI x1, vI x2, vI x3] (.inl none, G, G1, 2) :=
  zentry (M := mX11_init) (plainFor_of_name (by decide +kernel)) ⟨rfl, rfl, rfl, rfl⟩ (Nat.le_of_ble_eq_true rfl) (wfX11_init_0 (Nat.le_refl _) t x1 x2 x3 G h ⟨rfl, rfl⟩)
theorem fgX10_32 : zFG RX10 32 8 4 (.object "java/util/List") := ⟨(RX10, TX10, 8, tyX10), rfl, by decide, in_X10, rfl, "SelahGenerator$Parse", Or.inl rfl, Or.inl q2472⟩
theorem fgX10_62 : zFG RX10 62 8 6 (.int) := ⟨(RX10, TX10, 8, tyX10), rfl, by decide, in_X10, rfl, "SelahGenerator$Parse", Or.inl rfl, Or.inl q2476⟩
theorem msX10_105 : zSI RX10 105 yX11_init cX11_init 4 3 := ⟨q2524, q172, q2522, q2523, rfl, (by decide +kernel), (by decide)⟩
theorem msX10_58_J2 : zSF RX10 58 RJ2 ⟨"java/util/List", "add", "(Ljava/lang/Object;)Z"⟩ yJ2_add cJ2_add 2 (some Jvm.ClassFile.FieldType.boolean) 1 := ⟨lw_F q2507 q1755 q1757 q126 q1759, zfw 6 rfl, ⟨11, _, rfl, rfl⟩, (by decide +kernel), (by decide)⟩
abbrev mX10_fault : zM := (cX10_fault, RX10, 3, none, "fault", [], "(IZ)V")
def fX10_fault_0 (t : Nat) (x1 : Int32) (x2 : Int32)  (G : GS) : Option (GS) :=
  (zgR G 9 t 4).bind fun r1 => zl (al G 10 0 3) fun G3 => (zgI G3 9 t 6).bind fun v5 => (fX11_init_0 (gz G) v5 x1 x2 G3).bind fun G8 => r1.bind fun a9 => zk [12] G8 a9 <| zb2 (fJ2_add_0 a9 (some (gz G)) G8) fun v13 G14 => some G14
theorem wfX10_fault_0 {F : zF} (hd : 8 ≤ F.2.2.2) (t : Nat) (x1 : Int32) (x2 : Int32)  (G : GS) {a : GS} (h : fX10_fault_0 t x1 x2  G = some a) (hk : zKV F a) : J mX10_fault F G 0 [(0, vR (some t)), (1, vI x1), (2, vI x2)] [] := by
  unfold fX10_fault_0 at h
  refine j_aload_n (j := 0) dX10_fault_0 rfl rfl ?_
  replace h := zbE h
  obtain ⟨r1, e2, h⟩ := h
  refine j_getR fgX10_32 (fun _ _ _ => rfl) dX10_fault_1 e2 ?_
  replace h := zlE h
  obtain ⟨G3, e4, h⟩ := h
  refine j_new (c := 9) (n := 3) (r := (RX11, TX11, 3, tyX11)) rfl rfl in_X11 tyX11_ok nwX11 q2520 q2521 q172 dX10_fault_4 ?_
  rw [show al G (9 + 1) 0 3 = G3 from e4.symm]
  refine j_dup dX10_fault_7 rfl ?_
  refine j_aload_n (j := 0) dX10_fault_8 rfl rfl ?_
  replace h := zbE h
  obtain ⟨v5, e6, h⟩ := h
  refine j_getI fgX10_62 (fun _ _ _ => rfl) dX10_fault_9 e6 ?_
  refine j_iload_n (j := 1) dX10_fault_12 rfl rfl ?_
  refine j_iload_n (j := 2) dX10_fault_13 rfl rfl ?_
  replace h := zbE h
  obtain ⟨G8, e7, h⟩ := h
  refine j_cont (zrI (As := [vI v5, vI x1, vI x2]) msX10_105 (yX11_init_ok e7) (Nat.le_trans (Nat.le_of_ble_eq_true rfl) hd) rfl rfl (Nat.le_of_ble_eq_true rfl) dX10_fault_14) ?_
  replace h := zbE h
  obtain ⟨a9, e10, h⟩ := h
  subst e10
  replace h := zkE h
  obtain ⟨e11, h⟩ := h
  replace h := zb2E h
  obtain ⟨v13, G14, e12, h⟩ := h
  refine j_cont (zrF (As := [vR (some (gz G))]) msX10_58_J2 (yJ2_add_ok e12) (Nat.le_trans (Nat.le_of_ble_eq_true rfl) hd) (zk_12 _ e11) rfl rfl (Nat.le_of_ble_eq_true rfl) dX10_fault_17) ?_
  refine j_pop dX10_fault_22 rfl ?_
  obtain rfl := Option.some.inj h
  exact j_vret hk.1 hk.2 rfl dX10_fault_23
theorem yX10_fault_ok {t : Nat} {x1 : Int32} {x2 : Int32} {G : GS} {G1 : GS} (h : fX10_fault_0 t x1 x2 G = some G1) : zRuns yX10_fault (ws_ yX10_fault cX10_fault 3 none) [vR (some t), vI x1, vI x2] (.inl none, G, G1, 8) :=
  zentry (M := mX10_fault) (plainFor_of_name (by decide +kernel)) ⟨rfl, rfl, rfl, rfl⟩ (Nat.le_of_ble_eq_true rfl) (wfX10_fault_0 (Nat.le_refl _) t x1 x2 G h ⟨rfl, rfl⟩)
abbrev mJ22_getEntryUsingComparator : zM := (cJ22_getEntryUsingComparator, RJ22, 6, (some (Jvm.ClassFile.FieldType.object "java/util/TreeMap$Entry")), "getEntryUsingComparator", [], "(Ljava/lang/Object;)Ljava/util/TreeMap$Entry;")
def fbJ22_getEntryUsingComparator_17 (x2 : Option Nat) (x3 : Option Nat) (x4 : Option Nat)  (G : GS) : Option (((Option Nat)) ⊕ (Option Nat)) :=
  zopt x4 (zo (some none)) (fun a1 => (zgR G 17 a1 0).bind fun r2 => none)
def flJ22_getEntryUsingComparator_17 (x2 : Option Nat) (x3 : Option Nat) (x4 : Option Nat) (G : GS) : Option (Option Nat) := zloop (fun s : (Option Nat) => fbJ22_getEntryUsingComparator_17 x2 x3 s G) (x4)
theorem wfbJ22_getEntryUsingComparator_17 {F : zF} (hd : 1 ≤ F.2.2.2) (x2 : Option Nat) (x3 : Option Nat) (x4 : Option Nat) (G : GS) {a : ((Option Nat)) ⊕ (Option Nat)} (h : fbJ22_getEntryUsingComparator_17 x2 x3 x4 G = some a) (hk : (zcase (fun s : (Option Nat) => J mJ22_getEntryUsingComparator F G 17 [(2, vR x2), (3, vR x3), (4, vR s)] []) (zKPR F G)) a) : J mJ22_getEntryUsingComparator F G 17 [(2, vR x2), (3, vR x3), (4, vR x4)] [] := by
  unfold fbJ22_getEntryUsingComparator_17 at h
  refine j_aload (j := 2) dJ22_getEntryUsingComparator_17 rfl ?_
  rcases x4 with _ | a1
  · replace h := zopt_n h
    refine j_ifnull0 (tgt := 72) dJ22_getEntryUsingComparator_19 (by decide) ?_
    replace h := zoE h
    obtain ⟨a, h, rfl⟩ := h
    replace hk := hk
    refine j_null dJ22_getEntryUsingComparator_72 ?_
    obtain rfl := Option.some.inj h
    exact j_aret hk.1 hk.2 rfl (Or.inl ⟨_, rfl⟩) dJ22_getEntryUsingComparator_73
  · replace h := zopt_s h
    refine j_ifnull1 dJ22_getEntryUsingComparator_19 ?_
    refine j_aload_n (j := 1) dJ22_getEntryUsingComparator_22 rfl rfl ?_
    refine j_aload_n (j := 0) dJ22_getEntryUsingComparator_23 rfl rfl ?_
    refine j_aload (j := 2) dJ22_getEntryUsingComparator_24 rfl ?_
    replace h := zbE h
    obtain ⟨r2, e3, h⟩ := h
    refine j_getR fgJ22_105 (fun _ _ _ => rfl) dJ22_getEntryUsingComparator_26 e3 ?_
    cases h
theorem wflJ22_getEntryUsingComparator_17 {F : zF} (hd : 1 ≤ F.2.2.2) (x2 : Option Nat) (x3 : Option Nat) (x4 : Option Nat) (G : GS) {a : Option Nat} (h : flJ22_getEntryUsingComparator_17 x2 x3 x4 G = some a) (hk : zKPR F G a) : J mJ22_getEntryUsingComparator F G 17 [(2, vR x2), (3, vR x3), (4, vR x4)] [] := by
  unfold flJ22_getEntryUsingComparator_17 at h
  exact zloop_walk (P := (fun s : (Option Nat) => J mJ22_getEntryUsingComparator F G 17 [(2, vR x2), (3, vR x3), (4, vR s)] [])) (fun s b e hk => wfbJ22_getEntryUsingComparator_17 hd x2 x3 s G e hk) (x4) _ h hk
def fJ22_getEntryUsingComparator_0 (t : Nat) (x1 : Option Nat)  (G : GS) : Option (Option Nat) :=
  (zgR G 16 t 2).bind fun r1 => zopt r1 (some none) (fun a3 => (zgR G 16 t 3).bind fun r4 => flJ22_getEntryUsingComparator_17 x1 (some a3) r4 G)
theorem wfJ22_getEntryUsingComparator_0 {F : zF} (hd : 1 ≤ F.2.2.2) (t : Nat) (x1 : Option Nat)  (G : GS) {a : Option Nat} (h : fJ22_getEntryUsingComparator_0 t x1  G = some a) (hk : zKPR F G a) : J mJ22_getEntryUsingComparator F G 0 [(0, vR (some t)), (1, vR x1)] [] := by
  unfold fJ22_getEntryUsingComparator_0 at h
  refine j_aload_n (j := 1) dJ22_getEntryUsingComparator_0 rfl rfl ?_
  refine j_astore_n (lv' := [(2, vR x1), (0, vR (some t)), (1, vR x1)]) dJ22_getEntryUsingComparator_1 rfl (Nat.le_of_ble_eq_true rfl) rfl ?_
  refine j_aload_n (j := 1) dJ22_getEntryUsingComparator_2 rfl rfl ?_
  replace h := zbE h
  obtain ⟨r1, e2, h⟩ := h
  refine j_getR fgJ22_16 (fun _ _ _ => rfl) dJ22_getEntryUsingComparator_3 e2 ?_
  refine j_astore_n (lv' := [(3, vR r1), (2, vR x1), (0, vR (some t)), (1, vR x1)]) dJ22_getEntryUsingComparator_6 rfl (Nat.le_of_ble_eq_true rfl) rfl ?_
  refine j_aload_n (j := 0) dJ22_getEntryUsingComparator_7 rfl rfl ?_
  rcases r1 with _ | a3
  · replace h := zopt_n h
    refine j_ifnull0 (tgt := 72) dJ22_getEntryUsingComparator_8 (by decide) ?_
    refine j_null dJ22_getEntryUsingComparator_72 ?_
    obtain rfl := Option.some.inj h
    exact j_aret hk.1 hk.2 rfl (Or.inl ⟨_, rfl⟩) dJ22_getEntryUsingComparator_73
  · replace h := zopt_s h
    refine j_ifnull1 dJ22_getEntryUsingComparator_8 ?_
    refine j_aload_n (j := 2) dJ22_getEntryUsingComparator_11 rfl rfl ?_
    replace h := zbE h
    obtain ⟨r4, e5, h⟩ := h
    refine j_getR fgJ22_101 (fun _ _ _ => rfl) dJ22_getEntryUsingComparator_12 e5 ?_
    refine j_astore (lv' := [(4, vR r4), (3, vR (some a3)), (2, vR x1), (0, vR (some t)), (1, vR x1)]) dJ22_getEntryUsingComparator_15 (Nat.le_of_ble_eq_true rfl) rfl ?_
    exact J.sub (zall [2, 1, 0] rfl) (wflJ22_getEntryUsingComparator_17 hd x1 (some a3) r4  G h hk)
theorem yJ22_getEntryUsingComparator_ok {t : Nat} {x1 : Option Nat} {G : GS} {r : Option Nat} (h : fJ22_getEntryUsingComparator_0 t x1 G = some r) : zRuns yJ22_getEntryUsingComparator (ws_ yJ22_getEntryUsingComparator cJ22_getEntryUsingComparator 6 (some (Jvm.ClassFile.FieldType.object "java/util/TreeMap$Entry"))) [vR (some t), vR x1] (.inl (some (vR r)), G, G, 1) :=
  zentry (M := mJ22_getEntryUsingComparator) (plainFor_of_name (by decide +kernel)) ⟨rfl, rfl, rfl, rfl⟩ (Nat.le_of_ble_eq_true rfl) (wfJ22_getEntryUsingComparator_0 (Nat.le_refl _) t x1 G h ⟨rfl, rfl⟩)
theorem msJ22_92 : zSV RJ22 92 RJ22 yJ22_getEntryUsingComparator cJ22_getEntryUsingComparator 6 (some (Jvm.ClassFile.FieldType.object "java/util/TreeMap$Entry")) 1 := ⟨lw_V q1927 q1928 q1929 q150 q1930, (by decide +kernel), (by decide)⟩
abbrev mJ22_getEntry : zM := (cJ22_getEntry, RJ22, 5, (some (Jvm.ClassFile.FieldType.object "java/util/TreeMap$Entry")), "getEntry", [], "(Ljava/lang/Object;)Ljava/util/TreeMap$Entry;")
def fJ22_getEntry_72 (x2 : Option Nat) (x3 : Option Nat)  (G : GS) : Option (((Option Nat)) ⊕ ((Option Nat) × GS)) :=
  some (.inl (x3))
theorem wfJ22_getEntry_72 {F : zF} (hd : 4 ≤ F.2.2.2) (x2 : Option Nat) (x3 : Option Nat)  (G : GS) {a : ((Option Nat)) ⊕ ((Option Nat) × GS)} (h : fJ22_getEntry_72 x2 x3  G = some a) (hk : (zcase (fun s : (Option Nat) => J mJ22_getEntry F G 28 [(2, vR x2), (3, vR s)] []) (zKR F)) a) : J mJ22_getEntry F G 72 [(2, vR x2), (3, vR x3)] [] := by
  unfold fJ22_getEntry_72 at h
  refine j_goto (tgt := 28) dJ22_getEntry_72 (by decide) ?_
  obtain rfl := Option.some.inj h
  exact J.sub (zall [0, 1] rfl) hk
def fbJ22_getEntry_28 (x2 : Option Nat) (x3 : Option Nat)  (G : GS) : Option (((Option Nat)) ⊕ ((Option Nat) × GS)) :=
  zopt x3 (zo (some (none, G))) (fun a1 => (zgR G 17 a1 0).bind fun r2 => x2.bind fun a4 => zk [21, 61] G a4 <| (fJ26_compareTo_0 a4 r2 G).bind fun v8 => if 0 ≤ v8 then (if v8 ≤ 0 then (zo (some ((some a1), G))) else ((zgR G 17 a1 3).bind fun r11 => fJ22_getEntry_72 (some a4) r11 G)) else ((zgR G 17 a1 2).bind fun r13 => fJ22_getEntry_72 (some a4) r13 G))
def flJ22_getEntry_28 (x2 : Option Nat) (x3 : Option Nat) (G : GS) : Option ((Option Nat) × GS) := zloop (fun s : (Option Nat) => fbJ22_getEntry_28 x2 s G) (x3)
theorem wfbJ22_getEntry_28 {F : zF} (hd : 4 ≤ F.2.2.2) (x2 : Option Nat) (x3 : Option Nat) (G : GS) {a : ((Option Nat)) ⊕ ((Option Nat) × GS)} (h : fbJ22_getEntry_28 x2 x3 G = some a) (hk : (zcase (fun s : (Option Nat) => J mJ22_getEntry F G 28 [(2, vR x2), (3, vR s)] []) (zKR F)) a) : J mJ22_getEntry F G 28 [(2, vR x2), (3, vR x3)] [] := by
  unfold fbJ22_getEntry_28 at h
  refine j_aload_n (j := 1) dJ22_getEntry_28 rfl rfl ?_
  rcases x3 with _ | a1
  · replace h := zopt_n h
    refine j_ifnull0 (tgt := 75) dJ22_getEntry_29 (by decide) ?_
    replace h := zoE h
    obtain ⟨a, h, rfl⟩ := h
    replace hk := hk
    refine j_null dJ22_getEntry_75 ?_
    obtain rfl := Option.some.inj h
    exact j_aret hk.1 hk.2 rfl (Or.inl ⟨_, rfl⟩) dJ22_getEntry_76
  · replace h := zopt_s h
    refine j_ifnull1 dJ22_getEntry_29 ?_
    refine j_aload_n (j := 0) dJ22_getEntry_32 rfl rfl ?_
    refine j_aload_n (j := 1) dJ22_getEntry_33 rfl rfl ?_
    replace h := zbE h
    obtain ⟨r2, e3, h⟩ := h
    refine j_getR fgJ22_105 (fun _ _ _ => rfl) dJ22_getEntry_34 e3 ?_
    replace h := zbE h
    obtain ⟨a4, e5, h⟩ := h
    subst e5
    replace h := zkE h
    obtain ⟨e6, h⟩ := h
    replace h := zbE h
    obtain ⟨v8, e7, h⟩ := h
    refine j_cont (zrF (As := [vR r2]) msJ22_107_J26 (yJ26_compareTo_ok e7) (Nat.le_trans (Nat.le_of_ble_eq_true rfl) hd) (zk_21_61 _ e6) rfl rfl (Nat.le_of_ble_eq_true rfl) dJ22_getEntry_37) ?_
    refine j_istore (lv' := [(4, vI v8), (2, vR (some a4)), (3, vR (some a1))]) dJ22_getEntry_42 (Nat.le_of_ble_eq_true rfl) rfl ?_
    refine j_iload (j := 0) dJ22_getEntry_44 rfl ?_
    refine j_if_ge (tgt := 57) dJ22_getEntry_46 (by decide) (fun c9 => ?_) (fun c9 => ?_)
    · rw [if_pos c9] at h
      refine j_iload (j := 0) dJ22_getEntry_57 rfl ?_
      refine j_if_le (tgt := 70) dJ22_getEntry_59 (by decide) (fun c10 => ?_) (fun c10 => ?_)
      · rw [if_pos c10] at h
        replace h := zoE h
        obtain ⟨a, h, rfl⟩ := h
        replace hk := hk
        refine j_aload_n (j := 2) dJ22_getEntry_70 rfl rfl ?_
        obtain rfl := Option.some.inj h
        exact j_aret hk.1 hk.2 rfl (Or.inl ⟨_, rfl⟩) dJ22_getEntry_71
      · rw [if_neg c10] at h
        refine j_aload_n (j := 2) dJ22_getEntry_62 rfl rfl ?_
        replace h := zbE h
        obtain ⟨r11, e12, h⟩ := h
        refine j_getR fgJ22_114 (fun _ _ _ => rfl) dJ22_getEntry_63 e12 ?_
        refine j_astore_n (lv' := [(3, vR r11), (4, vI v8), (2, vR (some a4))]) dJ22_getEntry_66 rfl (Nat.le_of_ble_eq_true rfl) rfl ?_
        refine j_goto (tgt := 72) dJ22_getEntry_67 (by decide) ?_
        exact J.sub (zall [2, 0] rfl) (wfJ22_getEntry_72 hd (some a4) r11  G h hk)
    · rw [if_neg c9] at h
      refine j_aload_n (j := 2) dJ22_getEntry_49 rfl rfl ?_
      replace h := zbE h
      obtain ⟨r13, e14, h⟩ := h
      refine j_getR fgJ22_111 (fun _ _ _ => rfl) dJ22_getEntry_50 e14 ?_
      refine j_astore_n (lv' := [(3, vR r13), (4, vI v8), (2, vR (some a4))]) dJ22_getEntry_53 rfl (Nat.le_of_ble_eq_true rfl) rfl ?_
      refine j_goto (tgt := 72) dJ22_getEntry_54 (by decide) ?_
      exact J.sub (zall [2, 0] rfl) (wfJ22_getEntry_72 hd (some a4) r13  G h hk)
theorem wflJ22_getEntry_28 {F : zF} (hd : 4 ≤ F.2.2.2) (x2 : Option Nat) (x3 : Option Nat) (G : GS) {a : (Option Nat) × GS} (h : flJ22_getEntry_28 x2 x3 G = some a) (hk : zKR F a) : J mJ22_getEntry F G 28 [(2, vR x2), (3, vR x3)] [] := by
  unfold flJ22_getEntry_28 at h
  exact zloop_walk (P := (fun s : (Option Nat) => J mJ22_getEntry F G 28 [(2, vR x2), (3, vR s)] [])) (fun s b e hk => wfbJ22_getEntry_28 hd x2 s G e hk) (x3) _ h hk
def fJ22_getEntry_0 (t : Nat) (x1 : Option Nat)  (G : GS) : Option ((Option Nat) × GS) :=
  (zgR G 16 t 2).bind fun r1 => zopt r1 (zb2 (fJ16_requireNonNull_0 x1 G) fun r5 G6 => zkq [21, 61] G6 x1 ((zgR G6 16 t 3).bind fun r8 => flJ22_getEntry_28 x1 r8 G6)) (fun a3 => zk [16] G t <| (fJ22_getEntryUsingComparator_0 t x1 G).bind fun r13 => some (r13, G))
theorem wfJ22_getEntry_0 {F : zF} (hd : 4 ≤ F.2.2.2) (t : Nat) (x1 : Option Nat)  (G : GS) {a : (Option Nat) × GS} (h : fJ22_getEntry_0 t x1  G = some a) (hk : zKR F a) : J mJ22_getEntry F G 0 [(0, vR (some t)), (1, vR x1)] [] := by
  unfold fJ22_getEntry_0 at h
  refine j_aload_n (j := 0) dJ22_getEntry_0 rfl rfl ?_
  replace h := zbE h
  obtain ⟨r1, e2, h⟩ := h
  refine j_getR fgJ22_16 (fun _ _ _ => rfl) dJ22_getEntry_1 e2 ?_
  rcases r1 with _ | a3
  · replace h := zopt_n h
    refine j_ifnull0 (tgt := 13) dJ22_getEntry_4 (by decide) ?_
    refine j_aload_n (j := 1) dJ22_getEntry_13 rfl rfl ?_
    replace h := zb2E h
    obtain ⟨r5, G6, e4, h⟩ := h
    refine j_cont (zrS (As := [vR x1]) msJ22_95 (yJ16_requireNonNull_ok e4) (Nat.le_trans (Nat.le_of_ble_eq_true rfl) hd) rfl rfl (Nat.le_of_ble_eq_true rfl) dJ22_getEntry_14) ?_
    refine j_pop dJ22_getEntry_17 rfl ?_
    refine j_aload_n (j := 1) dJ22_getEntry_18 rfl rfl ?_
    replace h := zkqE h
    obtain ⟨e7, h⟩ := h
    refine j_castq (fun k => j_castN dJ22_getEntry_19 k) (fun b q10 k => j_cast (zk_21_61 _ (e7 b q10)) q1075 (zxw 25 rfl) dJ22_getEntry_19 k) ?_
    refine j_astore_n (lv' := [(2, vR x1), (0, vR (some t)), (1, vR x1)]) dJ22_getEntry_22 rfl (Nat.le_of_ble_eq_true rfl) rfl ?_
    refine j_aload_n (j := 1) dJ22_getEntry_23 rfl rfl ?_
    replace h := zbE h
    obtain ⟨r8, e9, h⟩ := h
    refine j_getR fgJ22_101 (fun _ _ _ => rfl) dJ22_getEntry_24 e9 ?_
    refine j_astore_n (lv' := [(3, vR r8), (2, vR x1), (0, vR (some t)), (1, vR x1)]) dJ22_getEntry_27 rfl (Nat.le_of_ble_eq_true rfl) rfl ?_
    exact J.sub (zall [1, 0] rfl) (wflJ22_getEntry_28 hd x1 r8  G6 h hk)
  · replace h := zopt_s h
    refine j_ifnull1 dJ22_getEntry_4 ?_
    refine j_aload_n (j := 0) dJ22_getEntry_7 rfl rfl ?_
    refine j_aload_n (j := 1) dJ22_getEntry_8 rfl rfl ?_
    replace h := zkE h
    obtain ⟨e11, h⟩ := h
    replace h := zbE h
    obtain ⟨r13, e12, h⟩ := h
    refine j_cont (zrV (As := [vR x1]) msJ22_92 (yJ22_getEntryUsingComparator_ok e12) (Nat.le_trans (Nat.le_of_ble_eq_true rfl) hd) (zk_16 _ e11) rfl rfl (Nat.le_of_ble_eq_true rfl) dJ22_getEntry_9) ?_
    obtain rfl := Option.some.inj h
    exact j_aret hk.1 hk.2 rfl (Or.inl ⟨_, rfl⟩) dJ22_getEntry_12
theorem yJ22_getEntry_ok {t : Nat} {x1 : Option Nat} {G : GS} {r : Option Nat} {G1 : GS} (h : fJ22_getEntry_0 t x1 G = some (r, G1)) : zRuns yJ22_getEntry (ws_ yJ22_getEntry cJ22_getEntry 5 (some (Jvm.ClassFile.FieldType.object "java/util/TreeMap$Entry"))) [vR (some t), vR x1] (.inl (some (vR r)), G, G1, 4) :=
  zentry (M := mJ22_getEntry) (plainFor_of_name (by decide +kernel)) ⟨rfl, rfl, rfl, rfl⟩ (Nat.le_of_ble_eq_true rfl) (wfJ22_getEntry_0 (Nat.le_refl _) t x1 G h ⟨rfl, rfl⟩)
theorem msJ22_50 : zSV RJ22 50 RJ22 yJ22_getEntry cJ22_getEntry 5 (some (Jvm.ClassFile.FieldType.object "java/util/TreeMap$Entry")) 1 := ⟨lw_V q1923 q1924 q1925 q150 q1926, (by decide +kernel), (by decide)⟩
abbrev mJ22_get : zM := (cJ22_get, RJ22, 3, (some (Jvm.ClassFile.FieldType.object "java/lang/Object")), "get", [], "(Ljava/lang/Object;)Ljava/lang/Object;")
def fJ22_get_0 (t : Nat) (x1 : Option Nat)  (G : GS) : Option ((Option Nat) × GS) :=
  zk [16] G t <| zb2 (fJ22_getEntry_0 t x1 G) fun r3 G4 => zopt r3 (some (none, G4)) (fun a5 => (zgR G4 17 a5 1).bind fun r6 => some (r6, G4))
theorem wfJ22_get_0 {F : zF} (hd : 5 ≤ F.2.2.2) (t : Nat) (x1 : Option Nat)  (G : GS) {a : (Option Nat) × GS} (h : fJ22_get_0 t x1  G = some a) (hk : zKR F a) : J mJ22_get F G 0 [(0, vR (some t)), (1, vR x1)] [] := by
  unfold fJ22_get_0 at h
  refine j_aload_n (j := 0) dJ22_get_0 rfl rfl ?_
  refine j_aload_n (j := 1) dJ22_get_1 rfl rfl ?_
  replace h := zkE h
  obtain ⟨e1, h⟩ := h
  replace h := zb2E h
  obtain ⟨r3, G4, e2, h⟩ := h
  refine j_cont (zrV (As := [vR x1]) msJ22_50 (yJ22_getEntry_ok e2) (Nat.le_trans (Nat.le_of_ble_eq_true rfl) hd) (zk_16 _ e1) rfl rfl (Nat.le_of_ble_eq_true rfl) dJ22_get_2) ?_
  refine j_astore_n (lv' := [(2, vR r3), (0, vR (some t)), (1, vR x1)]) dJ22_get_5 rfl (Nat.le_of_ble_eq_true rfl) rfl ?_
  refine j_aload_n (j := 0) dJ22_get_6 rfl rfl ?_
  rcases r3 with _ | a5
  · replace h := zopt_n h
    refine j_ifnonnull0 dJ22_get_7 ?_
    refine j_null dJ22_get_10 ?_
    refine j_goto (tgt := 18) dJ22_get_11 (by decide) ?_
    obtain rfl := Option.some.inj h
    exact j_aret hk.1 hk.2 rfl (Or.inl ⟨_, rfl⟩) dJ22_get_18
  · replace h := zopt_s h
    refine j_ifnonnull1 (tgt := 14) dJ22_get_7 (by decide) ?_
    refine j_aload_n (j := 0) dJ22_get_14 rfl rfl ?_
    replace h := zbE h
    obtain ⟨r6, e7, h⟩ := h
    refine j_getR fgJ22_58 (fun _ _ _ => rfl) dJ22_get_15 e7 ?_
    obtain rfl := Option.some.inj h
    exact j_aret hk.1 hk.2 rfl (Or.inl ⟨_, rfl⟩) dJ22_get_18
theorem yJ22_get_ok {t : Nat} {x1 : Option Nat} {G : GS} {r : Option Nat} {G1 : GS} (h : fJ22_get_0 t x1 G = some (r, G1)) : zRuns yJ22_get (ws_ yJ22_get cJ22_get 3 (some (Jvm.ClassFile.FieldType.object "java/lang/Object"))) [vR (some t), vR x1] (.inl (some (vR r)), G, G1, 5) :=
  zentry (M := mJ22_get) (plainFor_of_name (by decide +kernel)) ⟨rfl, rfl, rfl, rfl⟩ (Nat.le_of_ble_eq_true rfl) (wfJ22_get_0 (Nat.le_refl _) t x1 G h ⟨rfl, rfl⟩)
theorem msX5_191_J22 : zSF RX5 191 RJ22 ⟨"java/util/Map", "get", "(Ljava/lang/Object;)Ljava/lang/Object;"⟩ yJ22_get cJ22_get 3 (some (Jvm.ClassFile.FieldType.object "java/lang/Object")) 1 := ⟨lw_F q1915 q1918 q1920 q150 q1922, zfw 19 rfl, ⟨15, _, rfl, rfl⟩, (by decide +kernel), (by decide)⟩
abbrev mX5_predicted : zM := (cX5_predicted, RX5, 4, (some Jvm.ClassFile.FieldType.int), "predicted", [], "(II)I")
def fX5_predicted_0 (t : Nat) (x1 : Int32) (x2 : Int32)  (G : GS) : Option ((Int32) × GS) :=
  (zgR G 5 t 6).bind fun r1 => zb2 (fJ26_valueOf_0 ((13 * x1) + x2) G) fun r4 G5 => r1.bind fun a6 => zk [16] G5 a6 <| zb2 (fJ22_get_0 a6 r4 G5) fun r10 G11 => zkq [21, 61] G11 r10 (zopt r10 (some ((-1), G11)) (fun a13 => zk [21, 61] G11 a13 <| (fJ26_intValue_0 a13 G11).bind fun v16 => some (v16, G11)))
theorem wfX5_predicted_0 {F : zF} (hd : 6 ≤ F.2.2.2) (t : Nat) (x1 : Int32) (x2 : Int32)  (G : GS) {a : (Int32) × GS} (h : fX5_predicted_0 t x1 x2  G = some a) (hk : zKI F a) : J mX5_predicted F G 0 [(0, vR (some t)), (1, vI x1), (2, vI x2)] [] := by
  unfold fX5_predicted_0 at h
  refine j_aload_n (j := 0) dX5_predicted_0 rfl rfl ?_
  replace h := zbE h
  obtain ⟨r1, e2, h⟩ := h
  refine j_getR fgX5_27 (fun _ _ _ => rfl) dX5_predicted_1 e2 ?_
  refine j_bipush (v := 13) dX5_predicted_4 (by decide) ?_
  refine j_iload_n (j := 1) dX5_predicted_6 rfl rfl ?_
  refine j_imul dX5_predicted_7 ?_
  refine j_iload_n (j := 2) dX5_predicted_8 rfl rfl ?_
  refine j_iadd dX5_predicted_9 ?_
  replace h := zb2E h
  obtain ⟨r4, G5, e3, h⟩ := h
  refine j_cont (zrS (As := [vI ((13 * x1) + x2)]) msX5_179 (yJ26_valueOf_ok e3) (Nat.le_trans (Nat.le_of_ble_eq_true rfl) hd) rfl rfl (Nat.le_of_ble_eq_true rfl) dX5_predicted_10) ?_
  replace h := zbE h
  obtain ⟨a6, e7, h⟩ := h
  subst e7
  replace h := zkE h
  obtain ⟨e8, h⟩ := h
  replace h := zb2E h
  obtain ⟨r10, G11, e9, h⟩ := h
  refine j_cont (zrF (As := [vR r4]) msX5_191_J22 (yJ22_get_ok e9) (Nat.le_trans (Nat.le_of_ble_eq_true rfl) hd) (zk_16 _ e8) rfl rfl (Nat.le_of_ble_eq_true rfl) dX5_predicted_13) ?_
  replace h := zkqE h
  obtain ⟨e12, h⟩ := h
  refine j_castq (fun k => j_castN dX5_predicted_18 k) (fun b q17 k => j_castS (zk_21_61 _ (e12 b q17)) ⟨20, _, rfl, rfl⟩ q1144 dX5_predicted_18 k) ?_
  refine j_astore_n (lv' := [(3, vR r10), (0, vR (some t)), (1, vI x1), (2, vI x2)]) dX5_predicted_21 rfl (Nat.le_of_ble_eq_true rfl) rfl ?_
  refine j_aload_n (j := 0) dX5_predicted_22 rfl rfl ?_
  rcases r10 with _ | a13
  · replace h := zopt_n h
    refine j_ifnonnull0 dX5_predicted_23 ?_
    refine j_iconst (v := (-1)) dX5_predicted_26 (by decide) ?_
    refine j_goto (tgt := 34) dX5_predicted_27 (by decide) ?_
    obtain rfl := Option.some.inj h
    exact j_iret hk.1 hk.2 rfl dX5_predicted_34
  · replace h := zopt_s h
    refine j_ifnonnull1 (tgt := 30) dX5_predicted_23 (by decide) ?_
    refine j_aload_n (j := 0) dX5_predicted_30 rfl rfl ?_
    replace h := zkE h
    obtain ⟨e14, h⟩ := h
    replace h := zbE h
    obtain ⟨v16, e15, h⟩ := h
    refine j_cont (zrV (As := []) msX5_194 (yJ26_intValue_ok e15) (Nat.le_trans (Nat.le_of_ble_eq_true rfl) hd) (zk_21_61 _ e14) rfl rfl (Nat.le_of_ble_eq_true rfl) dX5_predicted_31) ?_
    obtain rfl := Option.some.inj h
    exact j_iret hk.1 hk.2 rfl dX5_predicted_34
theorem yX5_predicted_ok {t : Nat} {x1 : Int32} {x2 : Int32} {G : GS} {r : Int32} {G1 : GS} (h : fX5_predicted_0 t x1 x2 G = some (r, G1)) : zRuns yX5_predicted (ws_ yX5_predicted cX5_predicted 4 (some Jvm.ClassFile.FieldType.int)) [vR (some t), vI x1, vI x2] (.inl (some (vI r)), G, G1, 6) :=
  zentry (M := mX5_predicted) (plainFor_of_name (by decide +kernel)) ⟨rfl, rfl, rfl, rfl⟩ (Nat.le_of_ble_eq_true rfl) (wfX5_predicted_0 (Nat.le_refl _) t x1 x2 G h ⟨rfl, rfl⟩)
theorem msX7_117 : zSV RX7 117 RX8 yX8_has cX8_has 2 (some Jvm.ClassFile.FieldType.boolean) 1 := ⟨lw_V q1953 q1376 q1377 q169 q1378, (by decide +kernel), (by decide)⟩
abbrev mX7_predicted : zM := (cX7_predicted, RX7, 6, (some Jvm.ClassFile.FieldType.int), "predicted", [], "(III)I")
def fX7_predicted_70 (t : Nat) (x1 : Int32) (x2 : Int32) (x3 : Int32) (x4 : Int32) (x5 : Int32)  (G : GS) : Option ((Int32 × Int32) ⊕ (Int32)) :=
  some (.inl (x4, (x5 + 1)))
theorem wfX7_predicted_70 {F : zF} (hd : 4 ≤ F.2.2.2) (t : Nat) (x1 : Int32) (x2 : Int32) (x3 : Int32) (x4 : Int32) (x5 : Int32)  (G : GS) {a : (Int32 × Int32) ⊕ (Int32)} (h : fX7_predicted_70 t x1 x2 x3 x4 x5  G = some a) (hk : (zcase (fun s : Int32 × Int32 => J mX7_predicted F G 6 [(0, vR (some t)), (1, vI x1), (2, vI x2), (3, vI x3), (4, vI s.1), (5, vI s.2)] []) (zKPI F G)) a) : J mX7_predicted F G 70 [(0, vR (some t)), (1, vI x1), (2, vI x2), (3, vI x3), (4, vI x4), (5, vI x5)] [] := by
  unfold fX7_predicted_70 at h
  refine j_iinc (j := 5) (v := (x5 + 1)) (lv' := [(5, vI (x5 + 1)), (0, vR (some t)), (1, vI x1), (2, vI x2), (3, vI x3), (4, vI x4)]) dX7_predicted_70 rfl rfl (Nat.le_of_ble_eq_true rfl) rfl ?_
  refine j_goto (tgt := 6) dX7_predicted_73 (by decide) ?_
  obtain rfl := Option.some.inj h
  exact J.sub (zall [1, 2, 3, 4, 5, 0] rfl) hk
def fX7_predicted_68 (t : Nat) (x1 : Int32) (x2 : Int32) (x3 : Int32) (x5 : Int32) (s0 : Int32) (G : GS) : Option ((Int32 × Int32) ⊕ (Int32)) :=
  fX7_predicted_70 t x1 x2 x3 s0 x5 G
theorem wfX7_predicted_68 {F : zF} (hd : 4 ≤ F.2.2.2) (t : Nat) (x1 : Int32) (x2 : Int32) (x3 : Int32) (x5 : Int32) (s0 : Int32) (G : GS) {a : (Int32 × Int32) ⊕ (Int32)} (h : fX7_predicted_68 t x1 x2 x3 x5 s0 G = some a) (hk : (zcase (fun s : Int32 × Int32 => J mX7_predicted F G 6 [(0, vR (some t)), (1, vI x1), (2, vI x2), (3, vI x3), (4, vI s.1), (5, vI s.2)] []) (zKPI F G)) a) : J mX7_predicted F G 68 [(0, vR (some t)), (1, vI x1), (2, vI x2), (3, vI x3), (5, vI x5)] [vI s0] := by
  unfold fX7_predicted_68 at h
  refine j_istore (lv' := [(4, vI s0), (0, vR (some t)), (1, vI x1), (2, vI x2), (3, vI x3), (5, vI x5)]) dX7_predicted_68 (Nat.le_of_ble_eq_true rfl) rfl ?_
  exact J.sub (zall [1, 2, 3, 4, 0, 5] rfl) (wfX7_predicted_70 hd t x1 x2 x3 s0 x5  G h hk)
def fbX7_predicted_6 (t : Nat) (x1 : Int32) (x2 : Int32) (x3 : Int32) (x4 : Int32) (x5 : Int32)  (G : GS) : Option ((Int32 × Int32) ⊕ (Int32)) :=
  (zgR G 7 t 3).bind fun r1 => r1.bind fun a3 => (zln G a3).bind fun v5 => if v5 ≤ x5 then (zo (some x4)) else ((zgR G 7 t 0).bind fun r8 => r8.bind fun a10 => zk [12] G a10 <| (fJ2_get_0 a10 x5 G).bind fun r14 => zkq [3] G r14 (r14.bind fun a16 => (zgI G 3 a16 0).bind fun v18 => if v18 = x1 then ((zgR G 7 t 3).bind fun r21 => r21.bind fun a23 => (zaR G 55 a23 x5).bind fun r25 => (fX8_pair_0 x2 x3 G).bind fun v28 => r25.bind fun a29 => zk [8] G a29 <| (fX8_has_0 a29 v28 G).bind fun v33 => if v33 = 0 then (fX7_predicted_70 t x1 x2 x3 x4 x5 G) else (if x4 = (-1) then (fX7_predicted_68 t x1 x2 x3 x5 x5 G) else (fX7_predicted_68 t x1 x2 x3 x5 (-2) G))) else (fX7_predicted_70 t x1 x2 x3 x4 x5 G)))
def flX7_predicted_6 (t : Nat) (x1 : Int32) (x2 : Int32) (x3 : Int32) (x4 : Int32) (x5 : Int32) (G : GS) : Option (Int32) := zloop (fun s : Int32 × Int32 => fbX7_predicted_6 t x1 x2 x3 s.1 s.2 G) (x4, x5)
theorem wfbX7_predicted_6 {F : zF} (hd : 4 ≤ F.2.2.2) (t : Nat) (x1 : Int32) (x2 : Int32) (x3 : Int32) (x4 : Int32) (x5 : Int32) (G : GS) {a : (Int32 × Int32) ⊕ (Int32)} (h : fbX7_predicted_6 t x1 x2 x3 x4 x5 G = some a) (hk : (zcase (fun s : Int32 × Int32 => J mX7_predicted F G 6 [(0, vR (some t)), (1, vI x1), (2, vI x2), (3, vI x3), (4, vI s.1), (5, vI s.2)] []) (zKPI F G)) a) : J mX7_predicted F G 6 [(0, vR (some t)), (1, vI x1), (2, vI x2), (3, vI x3), (4, vI x4), (5, vI x5)] [] := by
  unfold fbX7_predicted_6 at h
  refine j_iload (j := 5) dX7_predicted_6 rfl ?_
  refine j_aload_n (j := 0) dX7_predicted_8 rfl rfl ?_
  replace h := zbE h
  obtain ⟨r1, e2, h⟩ := h
  refine j_getR fgX7_41 (fun _ _ _ => rfl) dX7_predicted_9 e2 ?_
  replace h := zbE h
  obtain ⟨a3, e4, h⟩ := h
  subst e4
  replace h := zbE h
  obtain ⟨v5, e6, h⟩ := h
  refine j_alen e6 dX7_predicted_12 ?_
  refine j_icmp_ge (tgt := 76) dX7_predicted_13 (by decide) (fun c7 => ?_) (fun c7 => ?_)
  · rw [if_pos c7] at h
    replace h := zoE h
    obtain ⟨a, h, rfl⟩ := h
    replace hk := hk
    refine j_iload (j := 4) dX7_predicted_76 rfl ?_
    obtain rfl := Option.some.inj h
    exact j_iret hk.1 hk.2 rfl dX7_predicted_78
  · rw [if_neg c7] at h
    refine j_aload_n (j := 0) dX7_predicted_16 rfl rfl ?_
    replace h := zbE h
    obtain ⟨r8, e9, h⟩ := h
    refine j_getR fgX7_31 (fun _ _ _ => rfl) dX7_predicted_17 e9 ?_
    refine j_iload (j := 5) dX7_predicted_20 rfl ?_
    replace h := zbE h
    obtain ⟨a10, e11, h⟩ := h
    subst e11
    replace h := zkE h
    obtain ⟨e12, h⟩ := h
    replace h := zbE h
    obtain ⟨r14, e13, h⟩ := h
    refine j_cont (zrF (As := [vI x5]) msX7_50_J2 (yJ2_get_ok e13) (Nat.le_trans (Nat.le_of_ble_eq_true rfl) hd) (zk_12 _ e12) rfl rfl (Nat.le_of_ble_eq_true rfl) dX7_predicted_22) ?_
    replace h := zkqE h
    obtain ⟨e15, h⟩ := h
    refine j_castq (fun k => j_castN dX7_predicted_27 k) (fun b q36 k => j_castS (zk_3 _ (e15 b q36)) ⟨2, _, rfl, rfl⟩ q1352 dX7_predicted_27 k) ?_
    replace h := zbE h
    obtain ⟨a16, e17, h⟩ := h
    subst e17
    replace h := zbE h
    obtain ⟨v18, e19, h⟩ := h
    refine j_getI fgX7_60 (fun _ _ _ => rfl) dX7_predicted_30 e19 ?_
    refine j_iload_n (j := 1) dX7_predicted_33 rfl rfl ?_
    refine j_icmp_ne (tgt := 70) dX7_predicted_34 (by decide) (fun c20 => ?_) (fun c20 => ?_)
    · rw [if_pos c20] at h
      refine j_aload_n (j := 0) dX7_predicted_37 rfl rfl ?_
      replace h := zbE h
      obtain ⟨r21, e22, h⟩ := h
      refine j_getR fgX7_41 (fun _ _ _ => rfl) dX7_predicted_38 e22 ?_
      refine j_iload (j := 5) dX7_predicted_41 rfl ?_
      replace h := zbE h
      obtain ⟨a23, e24, h⟩ := h
      subst e24
      replace h := zbE h
      obtain ⟨r25, e26, h⟩ := h
      refine j_aald (Or.inr (Or.inl rfl)) e26 dX7_predicted_43 ?_
      refine j_iload_n (j := 2) dX7_predicted_44 rfl rfl ?_
      refine j_iload_n (j := 3) dX7_predicted_45 rfl rfl ?_
      replace h := zbE h
      obtain ⟨v28, e27, h⟩ := h
      refine j_cont (zrS (As := [vI x2, vI x3]) msX7_109 (yX8_pair_ok e27) (Nat.le_trans (Nat.le_of_ble_eq_true rfl) hd) rfl rfl (Nat.le_of_ble_eq_true rfl) dX7_predicted_46) ?_
      replace h := zbE h
      obtain ⟨a29, e30, h⟩ := h
      subst e30
      replace h := zkE h
      obtain ⟨e31, h⟩ := h
      replace h := zbE h
      obtain ⟨v33, e32, h⟩ := h
      refine j_cont (zrV (As := [vI v28]) msX7_117 (yX8_has_ok e32) (Nat.le_trans (Nat.le_of_ble_eq_true rfl) hd) (zk_8 _ e31) rfl rfl (Nat.le_of_ble_eq_true rfl) dX7_predicted_49) ?_
      refine j_if_eq (tgt := 70) dX7_predicted_52 (by decide) (fun c34 => ?_) (fun c34 => ?_)
      · rw [if_pos c34] at h
        exact J.sub (zall [0, 1, 2, 3, 4, 5] rfl) (wfX7_predicted_70 hd t x1 x2 x3 x4 x5  G h hk)
      · rw [if_neg c34] at h
        refine j_iload (j := 4) dX7_predicted_55 rfl ?_
        refine j_iconst (v := (-1)) dX7_predicted_57 (by decide) ?_
        refine j_icmp_ne (tgt := 66) dX7_predicted_58 (by decide) (fun c35 => ?_) (fun c35 => ?_)
        · rw [if_pos c35] at h
          refine j_iload (j := 5) dX7_predicted_61 rfl ?_
          refine j_goto (tgt := 68) dX7_predicted_63 (by decide) ?_
          exact J.sub (zall [0, 1, 2, 3, 5] rfl) (wfX7_predicted_68 hd t x1 x2 x3 x5 x5 G h hk)
        · rw [if_neg c35] at h
          refine j_bipush (v := (-2)) dX7_predicted_66 (by decide) ?_
          exact J.sub (zall [0, 1, 2, 3, 5] rfl) (wfX7_predicted_68 hd t x1 x2 x3 x5 (-2) G h hk)
    · rw [if_neg c20] at h
      exact J.sub (zall [0, 1, 2, 3, 4, 5] rfl) (wfX7_predicted_70 hd t x1 x2 x3 x4 x5  G h hk)
theorem wflX7_predicted_6 {F : zF} (hd : 4 ≤ F.2.2.2) (t : Nat) (x1 : Int32) (x2 : Int32) (x3 : Int32) (x4 : Int32) (x5 : Int32) (G : GS) {a : Int32} (h : flX7_predicted_6 t x1 x2 x3 x4 x5 G = some a) (hk : zKPI F G a) : J mX7_predicted F G 6 [(0, vR (some t)), (1, vI x1), (2, vI x2), (3, vI x3), (4, vI x4), (5, vI x5)] [] := by
  unfold flX7_predicted_6 at h
  exact zloop_walk (P := (fun s : Int32 × Int32 => J mX7_predicted F G 6 [(0, vR (some t)), (1, vI x1), (2, vI x2), (3, vI x3), (4, vI s.1), (5, vI s.2)] [])) (fun s b e hk => wfbX7_predicted_6 hd t x1 x2 x3 s.1 s.2 G e hk) (x4, x5) _ h hk
def fX7_predicted_0 (t : Nat) (x1 : Int32) (x2 : Int32) (x3 : Int32)  (G : GS) : Option (Int32) :=
  flX7_predicted_6 t x1 x2 x3 (-1) 0 G
theorem wfX7_predicted_0 {F : zF} (hd : 4 ≤ F.2.2.2) (t : Nat) (x1 : Int32) (x2 : Int32) (x3 : Int32)  (G : GS) {a : Int32} (h : fX7_predicted_0 t x1 x2 x3  G = some a) (hk : zKPI F G a) : J mX7_predicted F G 0 [(0, vR (some t)), (1, vI x1), (2, vI x2), (3, vI x3)] [] := by
  unfold fX7_predicted_0 at h
  refine j_iconst (v := (-1)) dX7_predicted_0 (by decide) ?_
  refine j_istore (lv' := [(4, vI (-1)), (0, vR (some t)), (1, vI x1), (2, vI x2), (3, vI x3)]) dX7_predicted_1 (Nat.le_of_ble_eq_true rfl) rfl ?_
  refine j_iconst (v := 0) dX7_predicted_3 (by decide) ?_
  refine j_istore (lv' := [(5, vI 0), (4, vI (-1)), (0, vR (some t)), (1, vI x1), (2, vI x2), (3, vI x3)]) dX7_predicted_4 (Nat.le_of_ble_eq_true rfl) rfl ?_
  exact J.sub (zall [2, 3, 4, 5, 1, 0] rfl) (wflX7_predicted_6 hd t x1 x2 x3 (-1) 0  G h hk)
theorem yX7_predicted_ok {t : Nat} {x1 : Int32} {x2 : Int32} {x3 : Int32} {G : GS} {r : Int32} (h : fX7_predicted_0 t x1 x2 x3 G = some r) : zRuns yX7_predicted (ws_ yX7_predicted cX7_predicted 6 (some Jvm.ClassFile.FieldType.int)) [vR (some t), vI x1, vI x2, vI x3] (.inl (some (vI r)), G, G, 4) :=
  zentry (M := mX7_predicted) (plainFor_of_name (by decide +kernel)) ⟨rfl, rfl, rfl, rfl⟩ (Nat.le_of_ble_eq_true rfl) (wfX7_predicted_0 (Nat.le_refl _) t x1 x2 x3 G h ⟨rfl, rfl⟩)
abbrev mJ20_inc : zM := (cJ20_inc, RJ20, 2, (some Jvm.ClassFile.FieldType.int), "inc", [], "(II)I")
def fJ20_inc_0 (x0 : Int32) (x1 : Int32)  (G : GS) : Option (Int32) :=
  if (x0 + 1) < x1 then (some (x0 + 1)) else (some 0)
theorem wfJ20_inc_0 {F : zF} (hd : 1 ≤ F.2.2.2) (x0 : Int32) (x1 : Int32)  (G : GS) {a : Int32} (h : fJ20_inc_0 x0 x1  G = some a) (hk : zKPI F G a) : J mJ20_inc F G 0 [(0, vI x0), (1, vI x1)] [] := by
  unfold fJ20_inc_0 at h
  refine j_iinc (j := 0) (v := (x0 + 1)) (lv' := [(0, vI (x0 + 1)), (1, vI x1)]) dJ20_inc_0 rfl rfl (Nat.le_of_ble_eq_true rfl) rfl ?_
  refine j_iload_n (j := 0) dJ20_inc_3 rfl rfl ?_
  refine j_iload_n (j := 1) dJ20_inc_4 rfl rfl ?_
  refine j_icmp_lt (tgt := 10) dJ20_inc_5 (by decide) (fun c1 => ?_) (fun c1 => ?_)
  · rw [if_pos c1] at h
    refine j_iload_n (j := 0) dJ20_inc_10 rfl rfl ?_
    obtain rfl := Option.some.inj h
    exact j_iret hk.1 hk.2 rfl dJ20_inc_11
  · rw [if_neg c1] at h
    refine j_iconst (v := 0) dJ20_inc_8 (by decide) ?_
    refine j_istore_n (lv' := [(0, vI 0), (1, vI x1)]) dJ20_inc_9 rfl (Nat.le_of_ble_eq_true rfl) rfl ?_
    refine j_iload_n (j := 0) dJ20_inc_10 rfl rfl ?_
    obtain rfl := Option.some.inj h
    exact j_iret hk.1 hk.2 rfl dJ20_inc_11
theorem yJ20_inc_ok {x0 : Int32} {x1 : Int32} {G : GS} {r : Int32} (h : fJ20_inc_0 x0 x1 G = some r) : zRuns yJ20_inc (ws_ yJ20_inc cJ20_inc 2 (some Jvm.ClassFile.FieldType.int)) [vI x0, vI x1] (.inl (some (vI r)), G, G, 1) :=
  zentry (M := mJ20_inc) (plainFor_of_name (by decide +kernel)) ⟨rfl, rfl, rfl, rfl⟩ (Nat.le_of_ble_eq_true rfl) (wfJ20_inc_0 (Nat.le_refl _) x0 x1 G h ⟨rfl, rfl⟩)
theorem fpJ20_24_J20 : zFP RJ20 24 13 1 (.int) false := ⟨(RJ20, TJ20, 3, tyJ20), rfl, by decide, in_J20, tyJ20_ok, nmJ20, rfl, rfl, (by decide), "java/util/ArrayDeque", Or.inl rfl, q2425⟩
theorem msJ20_74 : zSS RJ20 74 yJ20_inc cJ20_inc 2 (some Jvm.ClassFile.FieldType.int) 2 := ⟨lw_S q384 q357 q148 q358, (by decide +kernel), (by decide)⟩
abbrev mJ20_pollFirst : zM := (cJ20_pollFirst, RJ20, 4, (some (Jvm.ClassFile.FieldType.object "java/lang/Object")), "pollFirst", [], "()Ljava/lang/Object;")
def fJ20_pollFirst_0 (t : Nat)  (G : GS) : Option ((Option Nat) × GS) :=
  (zgR G 14 t 0).bind fun r1 => (zgI G 14 t 1).bind fun v3 => (fJ20_elementAt_0 r1 v3 G).bind fun r6 => zopt r6 (some (none, G)) (fun a7 => r1.bind fun a8 => (zsR G 54 a8 v3 (none : Option Nat) [3]).bind fun G10 => (zln G10 a8).bind fun v12 => (fJ20_inc_0 v3 v12 G10).bind fun v15 => (zpI G10 14 t 1 v15).bind fun G16 => some ((some a7), G16))
theorem wfJ20_pollFirst_0 {F : zF} (hd : 2 ≤ F.2.2.2) (t : Nat)  (G : GS) {a : (Option Nat) × GS} (h : fJ20_pollFirst_0 t  G = some a) (hk : zKR F a) : J mJ20_pollFirst F G 0 [(0, vR (some t))] [] := by
  unfold fJ20_pollFirst_0 at h
  refine j_aload_n (j := 0) dJ20_pollFirst_0 rfl rfl ?_
  replace h := zbE h
  obtain ⟨r1, e2, h⟩ := h
  refine j_getR fgJ20_3 (fun _ _ _ => rfl) dJ20_pollFirst_1 e2 ?_
  refine j_dup dJ20_pollFirst_4 rfl ?_
  refine j_astore_n (lv' := [(1, vR r1), (0, vR (some t))]) dJ20_pollFirst_5 rfl (Nat.le_of_ble_eq_true rfl) rfl ?_
  refine j_aload_n (j := 1) dJ20_pollFirst_6 rfl rfl ?_
  replace h := zbE h
  obtain ⟨v3, e4, h⟩ := h
  refine j_getI fgJ20_24 (fun _ _ _ => rfl) dJ20_pollFirst_7 e4 ?_
  refine j_dup dJ20_pollFirst_10 rfl ?_
  refine j_istore_n (lv' := [(2, vI v3), (1, vR r1), (0, vR (some t))]) dJ20_pollFirst_11 rfl (Nat.le_of_ble_eq_true rfl) rfl ?_
  replace h := zbE h
  obtain ⟨r6, e5, h⟩ := h
  refine j_cont (zrS (As := [vR r1, vI v3]) msJ20_103 (yJ20_elementAt_ok e5) (Nat.le_trans (Nat.le_of_ble_eq_true rfl) hd) rfl rfl (Nat.le_of_ble_eq_true rfl) dJ20_pollFirst_12) ?_
  refine j_astore_n (lv' := [(3, vR r6), (2, vI v3), (1, vR r1), (0, vR (some t))]) dJ20_pollFirst_15 rfl (Nat.le_of_ble_eq_true rfl) rfl ?_
  refine j_aload_n (j := 0) dJ20_pollFirst_16 rfl rfl ?_
  rcases r6 with _ | a7
  · replace h := zopt_n h
    refine j_ifnull0 (tgt := 34) dJ20_pollFirst_17 (by decide) ?_
    refine j_aload_n (j := 0) dJ20_pollFirst_34 rfl rfl ?_
    obtain rfl := Option.some.inj h
    exact j_aret hk.1 hk.2 rfl (Or.inl ⟨_, rfl⟩) dJ20_pollFirst_35
  · replace h := zopt_s h
    refine j_ifnull1 dJ20_pollFirst_17 ?_
    refine j_aload_n (j := 2) dJ20_pollFirst_20 rfl rfl ?_
    refine j_iload_n (j := 1) dJ20_pollFirst_21 rfl rfl ?_
    refine j_null dJ20_pollFirst_22 ?_
    replace h := zbE h
    obtain ⟨a8, e9, h⟩ := h
    subst e9
    replace h := zbE h
    obtain ⟨G10, e11, h⟩ := h
    refine j_aast (t := 4) rfl e11 (fun k hk => ⟨_, zk_3 k hk, (Or.inl (zxw 93 rfl))⟩) dJ20_pollFirst_23 ?_
    refine j_aload_n (j := 3) dJ20_pollFirst_24 rfl rfl ?_
    refine j_iload_n (j := 1) dJ20_pollFirst_25 rfl rfl ?_
    refine j_aload_n (j := 2) dJ20_pollFirst_26 rfl rfl ?_
    replace h := zbE h
    obtain ⟨v12, e13, h⟩ := h
    refine j_alen e13 dJ20_pollFirst_27 ?_
    replace h := zbE h
    obtain ⟨v15, e14, h⟩ := h
    refine j_cont (zrS (As := [vI v3, vI v12]) msJ20_74 (yJ20_inc_ok e14) (Nat.le_trans (Nat.le_of_ble_eq_true rfl) hd) rfl rfl (Nat.le_of_ble_eq_true rfl) dJ20_pollFirst_28) ?_
    replace h := zbE h
    obtain ⟨G16, e17, h⟩ := h
    refine j_putI fpJ20_24_J20 (Or.inl rfl) rfl dJ20_pollFirst_31 e17 ?_
    refine j_aload_n (j := 0) dJ20_pollFirst_34 rfl rfl ?_
    obtain rfl := Option.some.inj h
    exact j_aret hk.1 hk.2 rfl (Or.inl ⟨_, rfl⟩) dJ20_pollFirst_35
theorem yJ20_pollFirst_ok {t : Nat} {G : GS} {r : Option Nat} {G1 : GS} (h : fJ20_pollFirst_0 t G = some (r, G1)) : zRuns yJ20_pollFirst (ws_ yJ20_pollFirst cJ20_pollFirst 4 (some (Jvm.ClassFile.FieldType.object "java/lang/Object"))) [vR (some t)] (.inl (some (vR r)), G, G1, 2) :=
  zentry (M := mJ20_pollFirst) (plainFor_of_name (by decide +kernel)) ⟨rfl, rfl, rfl, rfl⟩ (Nat.le_of_ble_eq_true rfl) (wfJ20_pollFirst_0 (Nat.le_refl _) t G h ⟨rfl, rfl⟩)
theorem msJ20_93 : zSV RJ20 93 RJ20 yJ20_pollFirst cJ20_pollFirst 4 (some (Jvm.ClassFile.FieldType.object "java/lang/Object")) 0 := ⟨lw_V q377 q378 q379 q148 q380, (by decide +kernel), (by decide)⟩
abbrev mJ20_removeFirst : zM := (cJ20_removeFirst, RJ20, 2, (some (Jvm.ClassFile.FieldType.object "java/lang/Object")), "removeFirst", [], "()Ljava/lang/Object;")
def fJ20_removeFirst_0 (t : Nat)  (G : GS) : Option ((Option Nat) × GS) :=
  zk [14] G t <| zb2 (fJ20_pollFirst_0 t G) fun r3 G4 => zopt r3 none (fun a5 => some ((some a5), G4))
theorem wfJ20_removeFirst_0 {F : zF} (hd : 3 ≤ F.2.2.2) (t : Nat)  (G : GS) {a : (Option Nat) × GS} (h : fJ20_removeFirst_0 t  G = some a) (hk : zKR F a) : J mJ20_removeFirst F G 0 [(0, vR (some t))] [] := by
  unfold fJ20_removeFirst_0 at h
  refine j_aload_n (j := 0) dJ20_removeFirst_0 rfl rfl ?_
  replace h := zkE h
  obtain ⟨e1, h⟩ := h
  replace h := zb2E h
  obtain ⟨r3, G4, e2, h⟩ := h
  refine j_cont (zrV (As := []) msJ20_93 (yJ20_pollFirst_ok e2) (Nat.le_trans (Nat.le_of_ble_eq_true rfl) hd) (zk_14 _ e1) rfl rfl (Nat.le_of_ble_eq_true rfl) dJ20_removeFirst_1) ?_
  refine j_astore_n (lv' := [(1, vR r3), (0, vR (some t))]) dJ20_removeFirst_4 rfl (Nat.le_of_ble_eq_true rfl) rfl ?_
  refine j_aload_n (j := 0) dJ20_removeFirst_5 rfl rfl ?_
  rcases r3 with _ | a5
  · replace h := zopt_n h
    refine j_ifnonnull0 dJ20_removeFirst_6 ?_
    cases h
  · replace h := zopt_s h
    refine j_ifnonnull1 (tgt := 17) dJ20_removeFirst_6 (by decide) ?_
    refine j_aload_n (j := 0) dJ20_removeFirst_17 rfl rfl ?_
    obtain rfl := Option.some.inj h
    exact j_aret hk.1 hk.2 rfl (Or.inl ⟨_, rfl⟩) dJ20_removeFirst_18
theorem yJ20_removeFirst_ok {t : Nat} {G : GS} {r : Option Nat} {G1 : GS} (h : fJ20_removeFirst_0 t G = some (r, G1)) : zRuns yJ20_removeFirst (ws_ yJ20_removeFirst cJ20_removeFirst 2 (some (Jvm.ClassFile.FieldType.object "java/lang/Object"))) [vR (some t)] (.inl (some (vR r)), G, G1, 3) :=
  zentry (M := mJ20_removeFirst) (plainFor_of_name (by decide +kernel)) ⟨rfl, rfl, rfl, rfl⟩ (Nat.le_of_ble_eq_true rfl) (wfJ20_removeFirst_0 (Nat.le_refl _) t G h ⟨rfl, rfl⟩)
theorem msJ20_118 : zSV RJ20 118 RJ20 yJ20_removeFirst cJ20_removeFirst 2 (some (Jvm.ClassFile.FieldType.object "java/lang/Object")) 0 := ⟨lw_V q2553 q2554 q2555 q148 q2556, (by decide +kernel), (by decide)⟩
abbrev mJ20_pop : zM := (cJ20_pop, RJ20, 1, (some (Jvm.ClassFile.FieldType.object "java/lang/Object")), "pop", [], "()Ljava/lang/Object;")
def fJ20_pop_0 (t : Nat)  (G : GS) : Option ((Option Nat) × GS) :=
  zk [14] G t <| zb2 (fJ20_removeFirst_0 t G) fun r3 G4 => some (r3, G4)
theorem wfJ20_pop_0 {F : zF} (hd : 4 ≤ F.2.2.2) (t : Nat)  (G : GS) {a : (Option Nat) × GS} (h : fJ20_pop_0 t  G = some a) (hk : zKR F a) : J mJ20_pop F G 0 [(0, vR (some t))] [] := by
  unfold fJ20_pop_0 at h
  refine j_aload_n (j := 0) dJ20_pop_0 rfl rfl ?_
  replace h := zkE h
  obtain ⟨e1, h⟩ := h
  replace h := zb2E h
  obtain ⟨r3, G4, e2, h⟩ := h
  refine j_cont (zrV (As := []) msJ20_118 (yJ20_removeFirst_ok e2) (Nat.le_trans (Nat.le_of_ble_eq_true rfl) hd) (zk_14 _ e1) rfl rfl (Nat.le_of_ble_eq_true rfl) dJ20_pop_1) ?_
  obtain rfl := Option.some.inj h
  exact j_aret hk.1 hk.2 rfl (Or.inl ⟨_, rfl⟩) dJ20_pop_4
theorem yJ20_pop_ok {t : Nat} {G : GS} {r : Option Nat} {G1 : GS} (h : fJ20_pop_0 t G = some (r, G1)) : zRuns yJ20_pop (ws_ yJ20_pop cJ20_pop 1 (some (Jvm.ClassFile.FieldType.object "java/lang/Object"))) [vR (some t)] (.inl (some (vR r)), G, G1, 4) :=
  zentry (M := mJ20_pop) (plainFor_of_name (by decide +kernel)) ⟨rfl, rfl, rfl, rfl⟩ (Nat.le_of_ble_eq_true rfl) (wfJ20_pop_0 (Nat.le_refl _) t G h ⟨rfl, rfl⟩)
abbrev mJ20_dec : zM := (cJ20_dec, RJ20, 2, (some Jvm.ClassFile.FieldType.int), "dec", [], "(II)I")
def fJ20_dec_0 (x0 : Int32) (x1 : Int32)  (G : GS) : Option (Int32) :=
  if 0 ≤ (x0 + (-1)) then (some (x0 + (-1))) else (some (x1 - 1))
theorem wfJ20_dec_0 {F : zF} (hd : 1 ≤ F.2.2.2) (x0 : Int32) (x1 : Int32)  (G : GS) {a : Int32} (h : fJ20_dec_0 x0 x1  G = some a) (hk : zKPI F G a) : J mJ20_dec F G 0 [(0, vI x0), (1, vI x1)] [] := by
  unfold fJ20_dec_0 at h
  refine j_iinc (j := 0) (v := (x0 + (-1))) (lv' := [(0, vI (x0 + (-1))), (1, vI x1)]) dJ20_dec_0 rfl rfl (Nat.le_of_ble_eq_true rfl) rfl ?_
  refine j_iload_n (j := 0) dJ20_dec_3 rfl rfl ?_
  refine j_if_ge (tgt := 11) dJ20_dec_4 (by decide) (fun c1 => ?_) (fun c1 => ?_)
  · rw [if_pos c1] at h
    refine j_iload_n (j := 0) dJ20_dec_11 rfl rfl ?_
    obtain rfl := Option.some.inj h
    exact j_iret hk.1 hk.2 rfl dJ20_dec_12
  · rw [if_neg c1] at h
    refine j_iload_n (j := 1) dJ20_dec_7 rfl rfl ?_
    refine j_iconst (v := 1) dJ20_dec_8 (by decide) ?_
    refine j_isub dJ20_dec_9 ?_
    refine j_istore_n (lv' := [(0, vI (x1 - 1)), (1, vI x1)]) dJ20_dec_10 rfl (Nat.le_of_ble_eq_true rfl) rfl ?_
    refine j_iload_n (j := 0) dJ20_dec_11 rfl rfl ?_
    obtain rfl := Option.some.inj h
    exact j_iret hk.1 hk.2 rfl dJ20_dec_12
theorem yJ20_dec_ok {x0 : Int32} {x1 : Int32} {G : GS} {r : Int32} (h : fJ20_dec_0 x0 x1 G = some r) : zRuns yJ20_dec (ws_ yJ20_dec cJ20_dec 2 (some Jvm.ClassFile.FieldType.int)) [vI x0, vI x1] (.inl (some (vI r)), G, G, 1) :=
  zentry (M := mJ20_dec) (plainFor_of_name (by decide +kernel)) ⟨rfl, rfl, rfl, rfl⟩ (Nat.le_of_ble_eq_true rfl) (wfJ20_dec_0 (Nat.le_refl _) x0 x1 G h ⟨rfl, rfl⟩)
abbrev mJ20_newCapacity : zM := (cJ20_newCapacity, RJ20, 5, (some Jvm.ClassFile.FieldType.int), "newCapacity", [], "(II)I")
def fJ20_newCapacity_0 (t : Nat) (x1 : Int32) (x2 : Int32)  (G : GS) : Option ((Int32) × GS) :=
  (zgR G 14 t 0).bind fun r1 => r1.bind fun a3 => (zln G a3).bind fun v5 => if ((v5 + x1) - 2147483639) ≤ 0 then (if x1 ≤ x2 then (if 0 ≤ ((v5 + x2) - 2147483639) then (some (2147483639, G)) else (some ((v5 + x2), G))) else (some ((v5 + x1), G))) else (if 0 ≤ (v5 + x1) then (some (2147483647, G)) else none)
theorem wfJ20_newCapacity_0 {F : zF} (hd : 1 ≤ F.2.2.2) (t : Nat) (x1 : Int32) (x2 : Int32)  (G : GS) {a : (Int32) × GS} (h : fJ20_newCapacity_0 t x1 x2  G = some a) (hk : zKI F a) : J mJ20_newCapacity F G 0 [(0, vR (some t)), (1, vI x1), (2, vI x2)] [] := by
  unfold fJ20_newCapacity_0 at h
  refine j_aload_n (j := 0) dJ20_newCapacity_0 rfl rfl ?_
  replace h := zbE h
  obtain ⟨r1, e2, h⟩ := h
  refine j_getR fgJ20_3 (fun _ _ _ => rfl) dJ20_newCapacity_1 e2 ?_
  replace h := zbE h
  obtain ⟨a3, e4, h⟩ := h
  subst e4
  replace h := zbE h
  obtain ⟨v5, e6, h⟩ := h
  refine j_alen e6 dJ20_newCapacity_4 ?_
  refine j_istore_n (lv' := [(3, vI v5), (0, vR (some t)), (1, vI x1), (2, vI x2)]) dJ20_newCapacity_5 rfl (Nat.le_of_ble_eq_true rfl) rfl ?_
  refine j_iload_n (j := 0) dJ20_newCapacity_6 rfl rfl ?_
  refine j_iload_n (j := 2) dJ20_newCapacity_7 rfl rfl ?_
  refine j_iadd dJ20_newCapacity_8 ?_
  refine j_dup dJ20_newCapacity_9 rfl ?_
  refine j_istore (lv' := [(4, vI (v5 + x1)), (3, vI v5), (0, vR (some t)), (1, vI x1), (2, vI x2)]) dJ20_newCapacity_10 (Nat.le_of_ble_eq_true rfl) rfl ?_
  refine j_ldc (v := 2147483639) q2452 dJ20_newCapacity_12 ?_
  refine j_isub dJ20_newCapacity_14 ?_
  refine j_if_le (tgt := 36) dJ20_newCapacity_15 (by decide) (fun c7 => ?_) (fun c7 => ?_)
  · rw [if_pos c7] at h
    refine j_iload_n (j := 3) dJ20_newCapacity_36 rfl rfl ?_
    refine j_iload_n (j := 4) dJ20_newCapacity_37 rfl rfl ?_
    refine j_icmp_le (tgt := 44) dJ20_newCapacity_38 (by decide) (fun c8 => ?_) (fun c8 => ?_)
    · rw [if_pos c8] at h
      refine j_iload_n (j := 1) dJ20_newCapacity_44 rfl rfl ?_
      refine j_iload_n (j := 4) dJ20_newCapacity_45 rfl rfl ?_
      refine j_iadd dJ20_newCapacity_46 ?_
      refine j_ldc (v := 2147483639) q2452 dJ20_newCapacity_47 ?_
      refine j_isub dJ20_newCapacity_49 ?_
      refine j_if_ge (tgt := 59) dJ20_newCapacity_50 (by decide) (fun c9 => ?_) (fun c9 => ?_)
      · rw [if_pos c9] at h
        refine j_ldc (v := 2147483639) q2452 dJ20_newCapacity_59 ?_
        obtain rfl := Option.some.inj h
        exact j_iret hk.1 hk.2 rfl dJ20_newCapacity_61
      · rw [if_neg c9] at h
        refine j_iload_n (j := 1) dJ20_newCapacity_53 rfl rfl ?_
        refine j_iload_n (j := 4) dJ20_newCapacity_54 rfl rfl ?_
        refine j_iadd dJ20_newCapacity_55 ?_
        refine j_goto (tgt := 61) dJ20_newCapacity_56 (by decide) ?_
        obtain rfl := Option.some.inj h
        exact j_iret hk.1 hk.2 rfl dJ20_newCapacity_61
    · rw [if_neg c8] at h
      refine j_iload (j := 0) dJ20_newCapacity_41 rfl ?_
      obtain rfl := Option.some.inj h
      exact j_iret hk.1 hk.2 rfl dJ20_newCapacity_43
  · rw [if_neg c7] at h
    refine j_iload (j := 0) dJ20_newCapacity_18 rfl ?_
    refine j_if_ge (tgt := 33) dJ20_newCapacity_20 (by decide) (fun c10 => ?_) (fun c10 => ?_)
    · rw [if_pos c10] at h
      refine j_ldc (v := 2147483647) q2463 dJ20_newCapacity_33 ?_
      obtain rfl := Option.some.inj h
      exact j_iret hk.1 hk.2 rfl dJ20_newCapacity_35
    · rw [if_neg c10] at h
      cases h
theorem yJ20_newCapacity_ok {t : Nat} {x1 : Int32} {x2 : Int32} {G : GS} {r : Int32} {G1 : GS} (h : fJ20_newCapacity_0 t x1 x2 G = some (r, G1)) : zRuns yJ20_newCapacity (ws_ yJ20_newCapacity cJ20_newCapacity 5 (some Jvm.ClassFile.FieldType.int)) [vR (some t), vI x1, vI x2] (.inl (some (vI r)), G, G1, 1) :=
  zentry (M := mJ20_newCapacity) (plainFor_of_name (by decide +kernel)) ⟨rfl, rfl, rfl, rfl⟩ (Nat.le_of_ble_eq_true rfl) (wfJ20_newCapacity_0 (Nat.le_refl _) t x1 x2 G h ⟨rfl, rfl⟩)
theorem fpJ20_3_J20 : zFP RJ20 3 13 0 (.array (.object "java/lang/Object")) false := ⟨(RJ20, TJ20, 3, tyJ20), rfl, by decide, in_J20, tyJ20_ok, nmJ20, rfl, rfl, (by decide), "java/util/ArrayDeque", Or.inl rfl, q2422⟩
theorem msJ20_10 : zSV RJ20 10 RJ20 yJ20_newCapacity cJ20_newCapacity 5 (some Jvm.ClassFile.FieldType.int) 2 := ⟨lw_V q2453 q2455 qs51 q148 q2456, (by decide +kernel), (by decide)⟩
theorem msJ20_14 : zSS RJ20 14 yJ15_copyOf cJ15_copyOf 2 (some (Jvm.ClassFile.FieldType.array (Jvm.ClassFile.FieldType.object "java/lang/Object"))) 2 := ⟨lw_S q2464 q771 q141 q772, (by decide +kernel), (by decide)⟩
abbrev mJ20_grow : zM := (cJ20_grow, RJ20, 9, none, "grow", [], "(I)V")
def fbJ20_grow_145 (x5 : Option Nat) (x7 : Int32) (x8 : Int32)  (G : GS) : Option ((Int32 × GS) ⊕ (GS)) :=
  if x8 ≤ x7 then (zo (some G)) else (x5.bind fun a2 => (zsR G 54 a2 x7 (none : Option Nat) [3]).bind fun G4 => some (.inl ((x7 + 1), G4)))
def flJ20_grow_145 (x5 : Option Nat) (x7 : Int32) (x8 : Int32) (G : GS) : Option (GS) := zloop (fun s : Int32 × GS => fbJ20_grow_145 x5 s.1 x8 s.2) (x7, G)
theorem wfbJ20_grow_145 {F : zF} (hd : 4 ≤ F.2.2.2) (x5 : Option Nat) (x7 : Int32) (x8 : Int32) (G : GS) {a : (Int32 × GS) ⊕ (GS)} (h : fbJ20_grow_145 x5 x7 x8 G = some a) (hk : (zcase (fun s : Int32 × GS => J mJ20_grow F s.2 145 [(5, vR x5), (7, vI s.1), (8, vI x8)] []) (zKV F)) a) : J mJ20_grow F G 145 [(5, vR x5), (7, vI x7), (8, vI x8)] [] := by
  unfold fbJ20_grow_145 at h
  refine j_iload (j := 1) dJ20_grow_145 rfl ?_
  refine j_iload (j := 2) dJ20_grow_147 rfl ?_
  refine j_icmp_ge (tgt := 164) dJ20_grow_149 (by decide) (fun c1 => ?_) (fun c1 => ?_)
  · rw [if_pos c1] at h
    replace h := zoE h
    obtain ⟨a, h, rfl⟩ := h
    replace hk := hk
    obtain rfl := Option.some.inj h
    exact j_vret hk.1 hk.2 rfl dJ20_grow_164
  · rw [if_neg c1] at h
    refine j_aload (j := 0) dJ20_grow_152 rfl ?_
    refine j_iload (j := 1) dJ20_grow_154 rfl ?_
    refine j_null dJ20_grow_156 ?_
    replace h := zbE h
    obtain ⟨a2, e3, h⟩ := h
    subst e3
    replace h := zbE h
    obtain ⟨G4, e5, h⟩ := h
    refine j_aast (t := 4) rfl e5 (fun k hk => ⟨_, zk_3 k hk, (Or.inl (zxw 93 rfl))⟩) dJ20_grow_157 ?_
    refine j_iinc (j := 1) (v := (x7 + 1)) (lv' := [(7, vI (x7 + 1)), (5, vR (some a2)), (8, vI x8)]) dJ20_grow_158 rfl rfl (Nat.le_of_ble_eq_true rfl) rfl ?_
    refine j_goto (tgt := 145) dJ20_grow_161 (by decide) ?_
    obtain rfl := Option.some.inj h
    exact J.sub (zall [1, 0, 2] rfl) hk
theorem wflJ20_grow_145 {F : zF} (hd : 4 ≤ F.2.2.2) (x5 : Option Nat) (x7 : Int32) (x8 : Int32) (G : GS) {a : GS} (h : flJ20_grow_145 x5 x7 x8 G = some a) (hk : zKV F a) : J mJ20_grow F G 145 [(5, vR x5), (7, vI x7), (8, vI x8)] [] := by
  unfold flJ20_grow_145 at h
  exact zloop_walk (P := (fun s : Int32 × GS => J mJ20_grow F s.2 145 [(5, vR x5), (7, vI s.1), (8, vI x8)] [])) (fun s b e hk => wfbJ20_grow_145 hd x5 s.1 x8 s.2 e hk) (x7, G) _ h hk
def fJ20_grow_96 (t : Nat) (x2 : Int32) (x3 : Int32) (x5 : Option Nat)  (G : GS) : Option (GS) :=
  (zgI G 14 t 1).bind fun v1 => (zgI G 14 t 1).bind fun v3 => (zgI G 14 t 1).bind fun v5 => x5.bind fun a7 => (zcpR G a7 v1 a7 (v3 + (x3 - x2)) (x2 - v5)).bind fun G9 => (zgI G9 14 t 1).bind fun v11 => (zgI G9 14 t 1).bind fun v13 => (zpI G9 14 t 1 (v13 + (x3 - x2))).bind fun G15 => flJ20_grow_145 (some a7) v11 (v13 + (x3 - x2)) G15
theorem wfJ20_grow_96 {F : zF} (hd : 4 ≤ F.2.2.2) (t : Nat) (x2 : Int32) (x3 : Int32) (x5 : Option Nat)  (G : GS) {a : GS} (h : fJ20_grow_96 t x2 x3 x5  G = some a) (hk : zKV F a) : J mJ20_grow F G 96 [(0, vR (some t)), (2, vI x2), (3, vI x3), (5, vR x5)] [] := by
  unfold fJ20_grow_96 at h
  refine j_iload_n (j := 2) dJ20_grow_96 rfl rfl ?_
  refine j_iload_n (j := 1) dJ20_grow_97 rfl rfl ?_
  refine j_isub dJ20_grow_98 ?_
  refine j_istore (lv' := [(6, vI (x3 - x2)), (0, vR (some t)), (2, vI x2), (3, vI x3), (5, vR x5)]) dJ20_grow_99 (Nat.le_of_ble_eq_true rfl) rfl ?_
  refine j_aload (j := 4) dJ20_grow_101 rfl ?_
  refine j_aload_n (j := 1) dJ20_grow_103 rfl rfl ?_
  replace h := zbE h
  obtain ⟨v1, e2, h⟩ := h
  refine j_getI fgJ20_24 (fun _ _ _ => rfl) dJ20_grow_104 e2 ?_
  refine j_aload (j := 4) dJ20_grow_107 rfl ?_
  refine j_aload_n (j := 1) dJ20_grow_109 rfl rfl ?_
  replace h := zbE h
  obtain ⟨v3, e4, h⟩ := h
  refine j_getI fgJ20_24 (fun _ _ _ => rfl) dJ20_grow_110 e4 ?_
  refine j_iload (j := 0) dJ20_grow_113 rfl ?_
  refine j_iadd dJ20_grow_115 ?_
  refine j_iload_n (j := 2) dJ20_grow_116 rfl rfl ?_
  refine j_aload_n (j := 1) dJ20_grow_117 rfl rfl ?_
  replace h := zbE h
  obtain ⟨v5, e6, h⟩ := h
  refine j_getI fgJ20_24 (fun _ _ _ => rfl) dJ20_grow_118 e6 ?_
  refine j_isub dJ20_grow_121 ?_
  replace h := zbE h
  obtain ⟨a7, e8, h⟩ := h
  subst e8
  replace h := zbE h
  obtain ⟨G9, e10, h⟩ := h
  refine j_cpR e10 q2154 q816 q815 q142 (Nat.le_trans (Nat.le_of_ble_eq_true rfl) hd) (Nat.le_of_ble_eq_true rfl) dJ20_grow_122 ?_
  refine j_aload_n (j := 1) dJ20_grow_125 rfl rfl ?_
  replace h := zbE h
  obtain ⟨v11, e12, h⟩ := h
  refine j_getI fgJ20_24 (fun _ _ _ => rfl) dJ20_grow_126 e12 ?_
  refine j_istore (lv' := [(7, vI v11), (6, vI (x3 - x2)), (0, vR (some t)), (2, vI x2), (3, vI x3), (5, vR (some a7))]) dJ20_grow_129 (Nat.le_of_ble_eq_true rfl) rfl ?_
  refine j_aload_n (j := 2) dJ20_grow_131 rfl rfl ?_
  refine j_dup dJ20_grow_132 rfl ?_
  replace h := zbE h
  obtain ⟨v13, e14, h⟩ := h
  refine j_getI fgJ20_24 (fun _ _ _ => rfl) dJ20_grow_133 e14 ?_
  refine j_iload (j := 1) dJ20_grow_136 rfl ?_
  refine j_iadd dJ20_grow_138 ?_
  refine j_dup_x1 dJ20_grow_139 rfl rfl ?_
  replace h := zbE h
  obtain ⟨G15, e16, h⟩ := h
  refine j_putI fpJ20_24_J20 (Or.inl rfl) rfl dJ20_grow_140 e16 ?_
  refine j_istore (lv' := [(8, vI (v13 + (x3 - x2))), (7, vI v11), (6, vI (x3 - x2)), (0, vR (some t)), (2, vI x2), (3, vI x3), (5, vR (some a7))]) dJ20_grow_143 (Nat.le_of_ble_eq_true rfl) rfl ?_
  exact J.sub (zall [6, 1, 0] rfl) (wflJ20_grow_145 hd (some a7) v11 (v13 + (x3 - x2))  G15 h hk)
def fJ20_grow_49 (t : Nat) (x2 : Int32) (x3 : Int32)  (G : GS) : Option (GS) :=
  (zgR G 14 t 0).bind fun r1 => zb2 (fJ15_copyOf_0 r1 x3 G) fun r4 G5 => (zpR G5 14 t 0 r4).bind fun G6 => (zgI G6 14 t 2).bind fun v8 => (zgI G6 14 t 1).bind fun v10 => if v8 < v10 then (fJ20_grow_96 t x2 x3 r4 G6) else ((zgI G6 14 t 2).bind fun v13 => (zgI G6 14 t 1).bind fun v15 => if v13 = v15 then ((zgI G6 14 t 1).bind fun v18 => r4.bind fun a20 => (zaR G6 54 a20 v18).bind fun r22 => zopt r22 (some G6) (fun a24 => fJ20_grow_96 t x2 x3 (some a20) G6)) else (some G6))
theorem wfJ20_grow_49 {F : zF} (hd : 4 ≤ F.2.2.2) (t : Nat) (x2 : Int32) (x3 : Int32)  (G : GS) {a : GS} (h : fJ20_grow_49 t x2 x3  G = some a) (hk : zKV F a) : J mJ20_grow F G 49 [(0, vR (some t)), (2, vI x2), (3, vI x3)] [] := by
  unfold fJ20_grow_49 at h
  refine j_aload_n (j := 0) dJ20_grow_49 rfl rfl ?_
  refine j_aload_n (j := 0) dJ20_grow_50 rfl rfl ?_
  replace h := zbE h
  obtain ⟨r1, e2, h⟩ := h
  refine j_getR fgJ20_3 (fun _ _ _ => rfl) dJ20_grow_51 e2 ?_
  refine j_iload_n (j := 2) dJ20_grow_54 rfl rfl ?_
  replace h := zb2E h
  obtain ⟨r4, G5, e3, h⟩ := h
  refine j_cont (zrS (As := [vR r1, vI x3]) msJ20_14 (yJ15_copyOf_ok e3) (Nat.le_trans (Nat.le_of_ble_eq_true rfl) hd) rfl rfl (Nat.le_of_ble_eq_true rfl) dJ20_grow_55) ?_
  refine j_dup_x1 dJ20_grow_58 rfl rfl ?_
  replace h := zbE h
  obtain ⟨G6, e7, h⟩ := h
  refine j_putR fpJ20_3_J20 (Or.inl rfl) (Or.inr ⟨_, rfl⟩) dJ20_grow_59 e7 ?_
  refine j_astore (lv' := [(5, vR r4), (0, vR (some t)), (2, vI x2), (3, vI x3)]) dJ20_grow_62 (Nat.le_of_ble_eq_true rfl) rfl ?_
  refine j_aload_n (j := 1) dJ20_grow_64 rfl rfl ?_
  replace h := zbE h
  obtain ⟨v8, e9, h⟩ := h
  refine j_getI fgJ20_20 (fun _ _ _ => rfl) dJ20_grow_65 e9 ?_
  refine j_aload_n (j := 1) dJ20_grow_68 rfl rfl ?_
  replace h := zbE h
  obtain ⟨v10, e11, h⟩ := h
  refine j_getI fgJ20_24 (fun _ _ _ => rfl) dJ20_grow_69 e11 ?_
  refine j_icmp_lt (tgt := 96) dJ20_grow_72 (by decide) (fun c12 => ?_) (fun c12 => ?_)
  · rw [if_pos c12] at h
    exact J.sub (zall [1, 2, 3, 0] rfl) (wfJ20_grow_96 hd t x2 x3 r4  G6 h hk)
  · rw [if_neg c12] at h
    refine j_aload_n (j := 1) dJ20_grow_75 rfl rfl ?_
    replace h := zbE h
    obtain ⟨v13, e14, h⟩ := h
    refine j_getI fgJ20_20 (fun _ _ _ => rfl) dJ20_grow_76 e14 ?_
    refine j_aload_n (j := 1) dJ20_grow_79 rfl rfl ?_
    replace h := zbE h
    obtain ⟨v15, e16, h⟩ := h
    refine j_getI fgJ20_24 (fun _ _ _ => rfl) dJ20_grow_80 e16 ?_
    refine j_icmp_ne (tgt := 164) dJ20_grow_83 (by decide) (fun c17 => ?_) (fun c17 => ?_)
    · rw [if_pos c17] at h
      refine j_aload (j := 0) dJ20_grow_86 rfl ?_
      refine j_aload_n (j := 1) dJ20_grow_88 rfl rfl ?_
      replace h := zbE h
      obtain ⟨v18, e19, h⟩ := h
      refine j_getI fgJ20_24 (fun _ _ _ => rfl) dJ20_grow_89 e19 ?_
      replace h := zbE h
      obtain ⟨a20, e21, h⟩ := h
      subst e21
      replace h := zbE h
      obtain ⟨r22, e23, h⟩ := h
      refine j_aald (Or.inl rfl) e23 dJ20_grow_92 ?_
      rcases r22 with _ | a24
      · replace h := zopt_n h
        refine j_ifnull0 (tgt := 164) dJ20_grow_93 (by decide) ?_
        obtain rfl := Option.some.inj h
        exact j_vret hk.1 hk.2 rfl dJ20_grow_164
      · replace h := zopt_s h
        refine j_ifnull1 dJ20_grow_93 ?_
        exact J.sub (zall [1, 2, 3, 0] rfl) (wfJ20_grow_96 hd t x2 x3 (some a20)  G6 h hk)
    · rw [if_neg c17] at h
      obtain rfl := Option.some.inj h
      exact j_vret hk.1 hk.2 rfl dJ20_grow_164
def fJ20_grow_41 (t : Nat) (x1 : Int32) (x2 : Int32) (x4 : Int32)  (G : GS) : Option (GS) :=
  zk [14] G t <| zb2 (fJ20_newCapacity_0 t x1 x4 G) fun v3 G4 => fJ20_grow_49 t x2 v3 G4
theorem wfJ20_grow_41 {F : zF} (hd : 4 ≤ F.2.2.2) (t : Nat) (x1 : Int32) (x2 : Int32) (x4 : Int32)  (G : GS) {a : GS} (h : fJ20_grow_41 t x1 x2 x4  G = some a) (hk : zKV F a) : J mJ20_grow F G 41 [(0, vR (some t)), (1, vI x1), (2, vI x2), (4, vI x4)] [] := by
  unfold fJ20_grow_41 at h
  refine j_aload_n (j := 0) dJ20_grow_41 rfl rfl ?_
  refine j_iload_n (j := 1) dJ20_grow_42 rfl rfl ?_
  refine j_iload (j := 3) dJ20_grow_43 rfl ?_
  replace h := zkE h
  obtain ⟨e1, h⟩ := h
  replace h := zb2E h
  obtain ⟨v3, G4, e2, h⟩ := h
  refine j_cont (zrV (As := [vI x1, vI x4]) msJ20_10 (yJ20_newCapacity_ok e2) (Nat.le_trans (Nat.le_of_ble_eq_true rfl) hd) (zk_14 _ e1) rfl rfl (Nat.le_of_ble_eq_true rfl) dJ20_grow_45) ?_
  refine j_istore_n (lv' := [(3, vI v3), (0, vR (some t)), (1, vI x1), (2, vI x2), (4, vI x4)]) dJ20_grow_48 rfl (Nat.le_of_ble_eq_true rfl) rfl ?_
  exact J.sub (zall [1, 3, 0] rfl) (wfJ20_grow_49 hd t x2 v3  G4 h hk)
def fJ20_grow_21 (t : Nat) (x1 : Int32) (x2 : Int32) (s0 : Int32) (G : GS) : Option (GS) :=
  if s0 < x1 then (fJ20_grow_41 t x1 x2 s0 G) else (if ((x2 + s0) - 2147483639) ≤ 0 then (fJ20_grow_49 t x2 (x2 + s0) G) else (fJ20_grow_41 t x1 x2 s0 G))
theorem wfJ20_grow_21 {F : zF} (hd : 4 ≤ F.2.2.2) (t : Nat) (x1 : Int32) (x2 : Int32) (s0 : Int32) (G : GS) {a : GS} (h : fJ20_grow_21 t x1 x2 s0 G = some a) (hk : zKV F a) : J mJ20_grow F G 21 [(0, vR (some t)), (1, vI x1), (2, vI x2)] [vI s0] := by
  unfold fJ20_grow_21 at h
  refine j_istore (lv' := [(4, vI s0), (0, vR (some t)), (1, vI x1), (2, vI x2)]) dJ20_grow_21 (Nat.le_of_ble_eq_true rfl) rfl ?_
  refine j_iload (j := 0) dJ20_grow_23 rfl ?_
  refine j_iload_n (j := 2) dJ20_grow_25 rfl rfl ?_
  refine j_icmp_lt (tgt := 41) dJ20_grow_26 (by decide) (fun c1 => ?_) (fun c1 => ?_)
  · rw [if_pos c1] at h
    exact J.sub (zall [1, 2, 3, 0] rfl) (wfJ20_grow_41 hd t x1 x2 s0  G h hk)
  · rw [if_neg c1] at h
    refine j_iload_n (j := 3) dJ20_grow_29 rfl rfl ?_
    refine j_iload (j := 0) dJ20_grow_30 rfl ?_
    refine j_iadd dJ20_grow_32 ?_
    refine j_dup dJ20_grow_33 rfl ?_
    refine j_istore_n (lv' := [(3, vI (x2 + s0)), (4, vI s0), (0, vR (some t)), (1, vI x1), (2, vI x2)]) dJ20_grow_34 rfl (Nat.le_of_ble_eq_true rfl) rfl ?_
    refine j_ldc (v := 2147483639) q2452 dJ20_grow_35 ?_
    refine j_isub dJ20_grow_37 ?_
    refine j_if_le (tgt := 49) dJ20_grow_38 (by decide) (fun c2 => ?_) (fun c2 => ?_)
    · rw [if_pos c2] at h
      exact J.sub (zall [2, 4, 0] rfl) (wfJ20_grow_49 hd t x2 (x2 + s0)  G h hk)
    · rw [if_neg c2] at h
      exact J.sub (zall [2, 3, 4, 1] rfl) (wfJ20_grow_41 hd t x1 x2 s0  G h hk)
def fJ20_grow_0 (t : Nat) (x1 : Int32)  (G : GS) : Option (GS) :=
  (zgR G 14 t 0).bind fun r1 => r1.bind fun a3 => (zln G a3).bind fun v5 => if 64 ≤ v5 then (fJ20_grow_21 t x1 v5 (v5 >>> ((1 : Int32) &&& 31)) G) else (fJ20_grow_21 t x1 v5 (v5 + 2) G)
theorem wfJ20_grow_0 {F : zF} (hd : 4 ≤ F.2.2.2) (t : Nat) (x1 : Int32)  (G : GS) {a : GS} (h : fJ20_grow_0 t x1  G = some a) (hk : zKV F a) : J mJ20_grow F G 0 [(0, vR (some t)), (1, vI x1)] [] := by
  unfold fJ20_grow_0 at h
  refine j_aload_n (j := 0) dJ20_grow_0 rfl rfl ?_
  replace h := zbE h
  obtain ⟨r1, e2, h⟩ := h
  refine j_getR fgJ20_3 (fun _ _ _ => rfl) dJ20_grow_1 e2 ?_
  replace h := zbE h
  obtain ⟨a3, e4, h⟩ := h
  subst e4
  replace h := zbE h
  obtain ⟨v5, e6, h⟩ := h
  refine j_alen e6 dJ20_grow_4 ?_
  refine j_istore_n (lv' := [(2, vI v5), (0, vR (some t)), (1, vI x1)]) dJ20_grow_5 rfl (Nat.le_of_ble_eq_true rfl) rfl ?_
  refine j_iload_n (j := 0) dJ20_grow_6 rfl rfl ?_
  refine j_bipush (v := 64) dJ20_grow_7 (by decide) ?_
  refine j_icmp_ge (tgt := 18) dJ20_grow_9 (by decide) (fun c7 => ?_) (fun c7 => ?_)
  · rw [if_pos c7] at h
    refine j_iload_n (j := 0) dJ20_grow_18 rfl rfl ?_
    refine j_iconst (v := 1) dJ20_grow_19 (by decide) ?_
    refine j_ishr dJ20_grow_20 ?_
    exact J.sub (zall [1, 2, 0] rfl) (wfJ20_grow_21 hd t x1 v5 (v5 >>> ((1 : Int32) &&& 31)) G h hk)
  · rw [if_neg c7] at h
    refine j_iload_n (j := 0) dJ20_grow_12 rfl rfl ?_
    refine j_iconst (v := 2) dJ20_grow_13 (by decide) ?_
    refine j_iadd dJ20_grow_14 ?_
    refine j_goto (tgt := 21) dJ20_grow_15 (by decide) ?_
    exact J.sub (zall [1, 2, 0] rfl) (wfJ20_grow_21 hd t x1 v5 (v5 + 2) G h hk)
theorem yJ20_grow_ok {t : Nat} {x1 : Int32} {G : GS} {G1 : GS} (h : fJ20_grow_0 t x1 G = some G1) : zRuns yJ20_grow (ws_ yJ20_grow cJ20_grow 9 none) [vR (some t), vI x1] (.inl none, G, G1, 4) :=
  zentry (M := mJ20_grow) (plainFor_of_name (by decide +kernel)) ⟨rfl, rfl, rfl, rfl⟩ (Nat.le_of_ble_eq_true rfl) (wfJ20_grow_0 (Nat.le_refl _) t x1 G h ⟨rfl, rfl⟩)
theorem msJ20_68 : zSS RJ20 68 yJ20_dec cJ20_dec 2 (some Jvm.ClassFile.FieldType.int) 2 := ⟨lw_S q2445 q2446 q148 q2447, (by decide +kernel), (by decide)⟩
theorem msJ20_71 : zSV RJ20 71 RJ20 yJ20_grow cJ20_grow 9 none 1 := ⟨lw_V q2448 q2450 qs50 q148 q2451, (by decide +kernel), (by decide)⟩
abbrev mJ20_addFirst : zM := (cJ20_addFirst, RJ20, 3, none, "addFirst", [], "(Ljava/lang/Object;)V")
def fJ20_addFirst_0 (t : Nat) (x1 : Option Nat)  (G : GS) : Option (GS) :=
  zopt x1 none (fun a1 => (zgR G 14 t 0).bind fun r2 => (zgI G 14 t 1).bind fun v4 => r2.bind fun a6 => (zln G a6).bind fun v8 => (fJ20_dec_0 v4 v8 G).bind fun v11 => (zpI G 14 t 1 v11).bind fun G12 => (zsR G12 54 a6 v11 (some a1) [3, 6, 10, 21, 61]).bind fun G14 => (zgI G14 14 t 1).bind fun v16 => (zgI G14 14 t 2).bind fun v18 => if v16 = v18 then (zk [14] G14 t <| (fJ20_grow_0 t 1 G14).bind fun G23 => some G23) else (some G14))
theorem wfJ20_addFirst_0 {F : zF} (hd : 5 ≤ F.2.2.2) (t : Nat) (x1 : Option Nat)  (G : GS) {a : GS} (h : fJ20_addFirst_0 t x1  G = some a) (hk : zKV F a) : J mJ20_addFirst F G 0 [(0, vR (some t)), (1, vR x1)] [] := by
  unfold fJ20_addFirst_0 at h
  refine j_aload_n (j := 1) dJ20_addFirst_0 rfl rfl ?_
  rcases x1 with _ | a1
  · replace h := zopt_n h
    refine j_ifnonnull0 dJ20_addFirst_1 ?_
    cases h
  · replace h := zopt_s h
    refine j_ifnonnull1 (tgt := 12) dJ20_addFirst_1 (by decide) ?_
    refine j_aload_n (j := 0) dJ20_addFirst_12 rfl rfl ?_
    replace h := zbE h
    obtain ⟨r2, e3, h⟩ := h
    refine j_getR fgJ20_3 (fun _ _ _ => rfl) dJ20_addFirst_13 e3 ?_
    refine j_astore_n (lv' := [(2, vR r2), (0, vR (some t)), (1, vR (some a1))]) dJ20_addFirst_16 rfl (Nat.le_of_ble_eq_true rfl) rfl ?_
    refine j_aload_n (j := 0) dJ20_addFirst_17 rfl rfl ?_
    refine j_aload_n (j := 1) dJ20_addFirst_18 rfl rfl ?_
    refine j_aload_n (j := 1) dJ20_addFirst_19 rfl rfl ?_
    replace h := zbE h
    obtain ⟨v4, e5, h⟩ := h
    refine j_getI fgJ20_24 (fun _ _ _ => rfl) dJ20_addFirst_20 e5 ?_
    refine j_aload_n (j := 0) dJ20_addFirst_23 rfl rfl ?_
    replace h := zbE h
    obtain ⟨a6, e7, h⟩ := h
    subst e7
    replace h := zbE h
    obtain ⟨v8, e9, h⟩ := h
    refine j_alen e9 dJ20_addFirst_24 ?_
    replace h := zbE h
    obtain ⟨v11, e10, h⟩ := h
    refine j_cont (zrS (As := [vI v4, vI v8]) msJ20_68 (yJ20_dec_ok e10) (Nat.le_trans (Nat.le_of_ble_eq_true rfl) hd) rfl rfl (Nat.le_of_ble_eq_true rfl) dJ20_addFirst_25) ?_
    refine j_dup_x1 dJ20_addFirst_28 rfl rfl ?_
    replace h := zbE h
    obtain ⟨G12, e13, h⟩ := h
    refine j_putI fpJ20_24_J20 (Or.inl rfl) rfl dJ20_addFirst_29 e13 ?_
    refine j_aload_n (j := 2) dJ20_addFirst_32 rfl rfl ?_
    replace h := zbE h
    obtain ⟨G14, e15, h⟩ := h
    refine j_aast (t := 4) rfl e15 zobjK dJ20_addFirst_33 ?_
    refine j_aload_n (j := 1) dJ20_addFirst_34 rfl rfl ?_
    replace h := zbE h
    obtain ⟨v16, e17, h⟩ := h
    refine j_getI fgJ20_24 (fun _ _ _ => rfl) dJ20_addFirst_35 e17 ?_
    refine j_aload_n (j := 1) dJ20_addFirst_38 rfl rfl ?_
    replace h := zbE h
    obtain ⟨v18, e19, h⟩ := h
    refine j_getI fgJ20_20 (fun _ _ _ => rfl) dJ20_addFirst_39 e19 ?_
    refine j_icmp_ne (tgt := 50) dJ20_addFirst_42 (by decide) (fun c20 => ?_) (fun c20 => ?_)
    · rw [if_pos c20] at h
      refine j_aload_n (j := 1) dJ20_addFirst_45 rfl rfl ?_
      refine j_iconst (v := 1) dJ20_addFirst_46 (by decide) ?_
      replace h := zkE h
      obtain ⟨e21, h⟩ := h
      replace h := zbE h
      obtain ⟨G23, e22, h⟩ := h
      refine j_cont (zrV (As := [vI 1]) msJ20_71 (yJ20_grow_ok e22) (Nat.le_trans (Nat.le_of_ble_eq_true rfl) hd) (zk_14 _ e21) rfl rfl (Nat.le_of_ble_eq_true rfl) dJ20_addFirst_47) ?_
      obtain rfl := Option.some.inj h
      exact j_vret hk.1 hk.2 rfl dJ20_addFirst_50
    · rw [if_neg c20] at h
      obtain rfl := Option.some.inj h
      exact j_vret hk.1 hk.2 rfl dJ20_addFirst_50
theorem yJ20_addFirst_ok {t : Nat} {x1 : Option Nat} {G : GS} {G1 : GS} (h : fJ20_addFirst_0 t x1 G = some G1) : zRuns yJ20_addFirst (ws_ yJ20_addFirst cJ20_addFirst 3 none) [vR (some t), vR x1] (.inl none, G, G1, 5) :=
  zentry (M := mJ20_addFirst) (plainFor_of_name (by decide +kernel)) ⟨rfl, rfl, rfl, rfl⟩ (Nat.le_of_ble_eq_true rfl) (wfJ20_addFirst_0 (Nat.le_refl _) t x1 G h ⟨rfl, rfl⟩)
theorem msJ20_86 : zSV RJ20 86 RJ20 yJ20_addFirst cJ20_addFirst 3 none 1 := ⟨lw_V q2441 q2442 q2443 q148 q2444, (by decide +kernel), (by decide)⟩
abbrev mJ20_push : zM := (cJ20_push, RJ20, 2, none, "push", [], "(Ljava/lang/Object;)V")
def fJ20_push_0 (t : Nat) (x1 : Option Nat)  (G : GS) : Option (GS) :=
  zk [14] G t <| (fJ20_addFirst_0 t x1 G).bind fun G3 => some G3
theorem wfJ20_push_0 {F : zF} (hd : 6 ≤ F.2.2.2) (t : Nat) (x1 : Option Nat)  (G : GS) {a : GS} (h : fJ20_push_0 t x1  G = some a) (hk : zKV F a) : J mJ20_push F G 0 [(0, vR (some t)), (1, vR x1)] [] := by
  unfold fJ20_push_0 at h
  refine j_aload_n (j := 0) dJ20_push_0 rfl rfl ?_
  refine j_aload_n (j := 1) dJ20_push_1 rfl rfl ?_
  replace h := zkE h
  obtain ⟨e1, h⟩ := h
  replace h := zbE h
  obtain ⟨G3, e2, h⟩ := h
  refine j_cont (zrV (As := [vR x1]) msJ20_86 (yJ20_addFirst_ok e2) (Nat.le_trans (Nat.le_of_ble_eq_true rfl) hd) (zk_14 _ e1) rfl rfl (Nat.le_of_ble_eq_true rfl) dJ20_push_2) ?_
  obtain rfl := Option.some.inj h
  exact j_vret hk.1 hk.2 rfl dJ20_push_5
theorem yJ20_push_ok {t : Nat} {x1 : Option Nat} {G : GS} {G1 : GS} (h : fJ20_push_0 t x1 G = some G1) : zRuns yJ20_push (ws_ yJ20_push cJ20_push 2 none) [vR (some t), vR x1] (.inl none, G, G1, 6) :=
  zentry (M := mJ20_push) (plainFor_of_name (by decide +kernel)) ⟨rfl, rfl, rfl, rfl⟩ (Nat.le_of_ble_eq_true rfl) (wfJ20_push_0 (Nat.le_refl _) t x1 G h ⟨rfl, rfl⟩)
theorem fgX10_139 : zFG RX10 139 2 1 (.array (.int)) := ⟨(RX3, TX3, 2, tyX3), rfl, by decide, in_X3, rfl, "SelahGenerator$Rule", Or.inl rfl, Or.inr ⟨_, zxw 84 rfl⟩⟩
theorem fgX10_29 : zFG RX10 29 8 3 (.object "java/util/List") := ⟨(RX10, TX10, 8, tyX10), rfl, by decide, in_X10, rfl, "SelahGenerator$Parse", Or.inl rfl, Or.inl q2470⟩
theorem fpX10_35_X10 : zFP RX10 35 8 5 (.int) false := ⟨(RX10, TX10, 8, tyX10), rfl, by decide, in_X10, tyX10_ok, nmX10, rfl, rfl, (by decide), "SelahGenerator$Parse", Or.inl rfl, q2474⟩
theorem msX10_100 : zSV RX10 100 RJ20 yJ20_pop cJ20_pop 1 (some (Jvm.ClassFile.FieldType.object "java/lang/Object")) 0 := ⟨lw_V q2549 q2550 q2551 q148 q2552, (by decide +kernel), (by decide)⟩
theorem msX10_42 : zSS RX10 42 yJ26_valueOf cJ26_valueOf 1 (some (Jvm.ClassFile.FieldType.object "java/lang/Integer")) 1 := ⟨lw_S q2436 q1035 q156 q1036, (by decide +kernel), (by decide)⟩
theorem msX10_48 : zSV RX10 48 RJ20 yJ20_push cJ20_push 2 none 1 := ⟨lw_V q2437 q2438 q2439 q148 q2440, (by decide +kernel), (by decide)⟩
abbrev mX10_apply : zM := (cX10_apply, RX10, 5, (some Jvm.ClassFile.FieldType.boolean), "apply", [], "(I)Z")
def fbX10_apply_76 (t : Nat) (x3 : Option Nat) (x4 : Int32)  (G : GS) : Option ((Int32 × GS) ⊕ ((Int32) × GS)) :=
  if x4 < 0 then (zo (zcond (zbb 1) (some (1, G)))) else ((zgR G 9 t 1).bind fun r3 => x3.bind fun a5 => (zaI G 50 a5 x4).bind fun v7 => zb2 (fJ26_valueOf_0 v7 G) fun r10 G11 => r3.bind fun a12 => zk [14] G11 a12 <| (fJ20_push_0 a12 r10 G11).bind fun G16 => some (.inl ((x4 + (-1)), G16)))
def flX10_apply_76 (t : Nat) (x3 : Option Nat) (x4 : Int32) (G : GS) : Option ((Int32) × GS) := zloop (fun s : Int32 × GS => fbX10_apply_76 t x3 s.1 s.2) (x4, G)
theorem wfbX10_apply_76 {F : zF} (hd : 8 ≤ F.2.2.2) (t : Nat) (x3 : Option Nat) (x4 : Int32) (G : GS) {a : (Int32 × GS) ⊕ ((Int32) × GS)} (h : fbX10_apply_76 t x3 x4 G = some a) (hk : (zcase (fun s : Int32 × GS => J mX10_apply F s.2 76 [(0, vR (some t)), (3, vR x3), (4, vI s.1)] []) (zKI F)) a) : J mX10_apply F G 76 [(0, vR (some t)), (3, vR x3), (4, vI x4)] [] := by
  unfold fbX10_apply_76 at h
  refine j_iload (j := 2) dX10_apply_76 rfl ?_
  refine j_if_lt (tgt := 101) dX10_apply_78 (by decide) (fun c1 => ?_) (fun c1 => ?_)
  · rw [if_pos c1] at h
    replace h := zoE h
    obtain ⟨a, h, rfl⟩ := h
    replace hk := hk
    refine j_iconst (v := 1) dX10_apply_101 (by decide) ?_
    replace h := zcondE h
    obtain ⟨e2, h⟩ := h
    obtain rfl := Option.some.inj h
    exact j_zret hk.1 hk.2 rfl (zbb_n e2) dX10_apply_102
  · rw [if_neg c1] at h
    refine j_aload_n (j := 0) dX10_apply_81 rfl rfl ?_
    replace h := zbE h
    obtain ⟨r3, e4, h⟩ := h
    refine j_getR fgX10_18 (fun _ _ _ => rfl) dX10_apply_82 e4 ?_
    refine j_aload_n (j := 1) dX10_apply_85 rfl rfl ?_
    refine j_iload (j := 2) dX10_apply_86 rfl ?_
    replace h := zbE h
    obtain ⟨a5, e6, h⟩ := h
    subst e6
    replace h := zbE h
    obtain ⟨v7, e8, h⟩ := h
    refine j_iald (Or.inl rfl) e8 dX10_apply_88 ?_
    replace h := zb2E h
    obtain ⟨r10, G11, e9, h⟩ := h
    refine j_cont (zrS (As := [vI v7]) msX10_42 (yJ26_valueOf_ok e9) (Nat.le_trans (Nat.le_of_ble_eq_true rfl) hd) rfl rfl (Nat.le_of_ble_eq_true rfl) dX10_apply_89) ?_
    replace h := zbE h
    obtain ⟨a12, e13, h⟩ := h
    subst e13
    replace h := zkE h
    obtain ⟨e14, h⟩ := h
    replace h := zbE h
    obtain ⟨G16, e15, h⟩ := h
    refine j_cont (zrV (As := [vR r10]) msX10_48 (yJ20_push_ok e15) (Nat.le_trans (Nat.le_of_ble_eq_true rfl) hd) (zk_14 _ e14) rfl rfl (Nat.le_of_ble_eq_true rfl) dX10_apply_92) ?_
    refine j_iinc (j := 2) (v := (x4 + (-1))) (lv' := [(4, vI (x4 + (-1))), (0, vR (some t)), (3, vR (some a5))]) dX10_apply_95 rfl rfl (Nat.le_of_ble_eq_true rfl) rfl ?_
    refine j_goto (tgt := 76) dX10_apply_98 (by decide) ?_
    obtain rfl := Option.some.inj h
    exact J.sub (zall [1, 2, 0] rfl) hk
theorem wflX10_apply_76 {F : zF} (hd : 8 ≤ F.2.2.2) (t : Nat) (x3 : Option Nat) (x4 : Int32) (G : GS) {a : (Int32) × GS} (h : flX10_apply_76 t x3 x4 G = some a) (hk : zKI F a) : J mX10_apply F G 76 [(0, vR (some t)), (3, vR x3), (4, vI x4)] [] := by
  unfold flX10_apply_76 at h
  exact zloop_walk (P := (fun s : Int32 × GS => J mX10_apply F s.2 76 [(0, vR (some t)), (3, vR x3), (4, vI s.1)] [])) (fun s b e hk => wfbX10_apply_76 hd t x3 s.1 s.2 e hk) (x4, G) _ h hk
def fX10_apply_0 (t : Nat) (x1 : Int32)  (G : GS) : Option ((Int32) × GS) :=
  (zgR G 9 t 3).bind fun r1 => r1.bind fun a3 => zk [12] G a3 <| (fJ2_size_0 a3 G).bind fun v7 => if v7 = 400 then ((zpI G 9 t 5 3).bind fun G9 => zcond (zbb 0) (some (0, G9))) else ((zgR G 9 t 3).bind fun r12 => zb2 (fJ26_valueOf_0 x1 G) fun r15 G16 => r12.bind fun a17 => zk [12] G16 a17 <| zb2 (fJ2_add_0 a17 r15 G16) fun v21 G22 => (zgR G22 9 t 1).bind fun r23 => r23.bind fun a25 => zk [14] G22 a25 <| zb2 (fJ20_pop_0 a25 G22) fun r29 G30 => zkq [21, 61] G30 r29 (r29.bind fun a32 => zk [21, 61] G30 a32 <| (fJ26_intValue_0 a32 G30).bind fun v36 => (zgR G30 9 t 7).bind fun r37 => r37.bind fun a39 => (zgR G30 1 a39 0).bind fun r41 => r41.bind fun a43 => zk [12] G30 a43 <| (fJ2_get_0 a43 x1 G30).bind fun r47 => zkq [3] G30 r47 (r47.bind fun a49 => (zgR G30 3 a49 1).bind fun r51 => r51.bind fun a53 => (zln G30 a53).bind fun v55 => flX10_apply_76 t (some a53) (v55 - 1) G30)))
theorem wfX10_apply_0 {F : zF} (hd : 8 ≤ F.2.2.2) (t : Nat) (x1 : Int32)  (G : GS) {a : (Int32) × GS} (h : fX10_apply_0 t x1  G = some a) (hk : zKI F a) : J mX10_apply F G 0 [(0, vR (some t)), (1, vI x1)] [] := by
  unfold fX10_apply_0 at h
  refine j_aload_n (j := 0) dX10_apply_0 rfl rfl ?_
  replace h := zbE h
  obtain ⟨r1, e2, h⟩ := h
  refine j_getR fgX10_29 (fun _ _ _ => rfl) dX10_apply_1 e2 ?_
  replace h := zbE h
  obtain ⟨a3, e4, h⟩ := h
  subst e4
  replace h := zkE h
  obtain ⟨e5, h⟩ := h
  replace h := zbE h
  obtain ⟨v7, e6, h⟩ := h
  refine j_cont (zrF (As := []) msX10_52_J2 (yJ2_size_ok e6) (Nat.le_trans (Nat.le_of_ble_eq_true rfl) hd) (zk_12 _ e5) rfl rfl (Nat.le_of_ble_eq_true rfl) dX10_apply_4) ?_
  refine j_sipush (v := 400) dX10_apply_9 (by decide) ?_
  refine j_icmp_ne (tgt := 22) dX10_apply_12 (by decide) (fun c8 => ?_) (fun c8 => ?_)
  · rw [if_pos c8] at h
    refine j_aload_n (j := 0) dX10_apply_15 rfl rfl ?_
    refine j_iconst (v := 3) dX10_apply_16 (by decide) ?_
    replace h := zbE h
    obtain ⟨G9, e10, h⟩ := h
    refine j_putI fpX10_35_X10 (Or.inl rfl) rfl dX10_apply_17 e10 ?_
    refine j_iconst (v := 0) dX10_apply_20 (by decide) ?_
    replace h := zcondE h
    obtain ⟨e11, h⟩ := h
    obtain rfl := Option.some.inj h
    exact j_zret hk.1 hk.2 rfl (zbb_n e11) dX10_apply_21
  · rw [if_neg c8] at h
    refine j_aload_n (j := 0) dX10_apply_22 rfl rfl ?_
    replace h := zbE h
    obtain ⟨r12, e13, h⟩ := h
    refine j_getR fgX10_29 (fun _ _ _ => rfl) dX10_apply_23 e13 ?_
    refine j_iload_n (j := 1) dX10_apply_26 rfl rfl ?_
    replace h := zb2E h
    obtain ⟨r15, G16, e14, h⟩ := h
    refine j_cont (zrS (As := [vI x1]) msX10_42 (yJ26_valueOf_ok e14) (Nat.le_trans (Nat.le_of_ble_eq_true rfl) hd) rfl rfl (Nat.le_of_ble_eq_true rfl) dX10_apply_27) ?_
    replace h := zbE h
    obtain ⟨a17, e18, h⟩ := h
    subst e18
    replace h := zkE h
    obtain ⟨e19, h⟩ := h
    replace h := zb2E h
    obtain ⟨v21, G22, e20, h⟩ := h
    refine j_cont (zrF (As := [vR r15]) msX10_58_J2 (yJ2_add_ok e20) (Nat.le_trans (Nat.le_of_ble_eq_true rfl) hd) (zk_12 _ e19) rfl rfl (Nat.le_of_ble_eq_true rfl) dX10_apply_30) ?_
    refine j_pop dX10_apply_35 rfl ?_
    refine j_aload_n (j := 0) dX10_apply_36 rfl rfl ?_
    replace h := zbE h
    obtain ⟨r23, e24, h⟩ := h
    refine j_getR fgX10_18 (fun _ _ _ => rfl) dX10_apply_37 e24 ?_
    replace h := zbE h
    obtain ⟨a25, e26, h⟩ := h
    subst e26
    replace h := zkE h
    obtain ⟨e27, h⟩ := h
    replace h := zb2E h
    obtain ⟨r29, G30, e28, h⟩ := h
    refine j_cont (zrV (As := []) msX10_100 (yJ20_pop_ok e28) (Nat.le_trans (Nat.le_of_ble_eq_true rfl) hd) (zk_14 _ e27) rfl rfl (Nat.le_of_ble_eq_true rfl) dX10_apply_40) ?_
    replace h := zkqE h
    obtain ⟨e31, h⟩ := h
    refine j_castq (fun k => j_castN dX10_apply_43 k) (fun b q58 k => j_castS (zk_21_61 _ (e31 b q58)) ⟨20, _, rfl, rfl⟩ q1487 dX10_apply_43 k) ?_
    replace h := zbE h
    obtain ⟨a32, e33, h⟩ := h
    subst e33
    replace h := zkE h
    obtain ⟨e34, h⟩ := h
    replace h := zbE h
    obtain ⟨v36, e35, h⟩ := h
    refine j_cont (zrV (As := []) msX10_69 (yJ26_intValue_ok e35) (Nat.le_trans (Nat.le_of_ble_eq_true rfl) hd) (zk_21_61 _ e34) rfl rfl (Nat.le_of_ble_eq_true rfl) dX10_apply_46) ?_
    refine j_istore_n (lv' := [(2, vI v36), (0, vR (some t)), (1, vI x1)]) dX10_apply_49 rfl (Nat.le_of_ble_eq_true rfl) rfl ?_
    refine j_aload_n (j := 1) dX10_apply_50 rfl rfl ?_
    replace h := zbE h
    obtain ⟨r37, e38, h⟩ := h
    refine j_getR fgX10_3 (fun _ _ _ => rfl) dX10_apply_51 e38 ?_
    replace h := zbE h
    obtain ⟨a39, e40, h⟩ := h
    subst e40
    replace h := zbE h
    obtain ⟨r41, e42, h⟩ := h
    refine j_getR fgX10_134 (fun _ _ _ => rfl) dX10_apply_54 e42 ?_
    refine j_iload_n (j := 2) dX10_apply_57 rfl rfl ?_
    replace h := zbE h
    obtain ⟨a43, e44, h⟩ := h
    subst e44
    replace h := zkE h
    obtain ⟨e45, h⟩ := h
    replace h := zbE h
    obtain ⟨r47, e46, h⟩ := h
    refine j_cont (zrF (As := [vI x1]) msX10_65_J2 (yJ2_get_ok e46) (Nat.le_trans (Nat.le_of_ble_eq_true rfl) hd) (zk_12 _ e45) rfl rfl (Nat.le_of_ble_eq_true rfl) dX10_apply_58) ?_
    replace h := zkqE h
    obtain ⟨e48, h⟩ := h
    refine j_castq (fun k => j_castN dX10_apply_63 k) (fun b q57 k => j_castS (zk_3 _ (e48 b q57)) ⟨2, _, rfl, rfl⟩ q1494 dX10_apply_63 k) ?_
    replace h := zbE h
    obtain ⟨a49, e50, h⟩ := h
    subst e50
    replace h := zbE h
    obtain ⟨r51, e52, h⟩ := h
    refine j_getR fgX10_139 (fun _ _ _ => rfl) dX10_apply_66 e52 ?_
    refine j_astore_n (lv' := [(3, vR r51), (2, vI v36), (0, vR (some t)), (1, vI x1)]) dX10_apply_69 rfl (Nat.le_of_ble_eq_true rfl) rfl ?_
    refine j_aload_n (j := 0) dX10_apply_70 rfl rfl ?_
    replace h := zbE h
    obtain ⟨a53, e54, h⟩ := h
    subst e54
    replace h := zbE h
    obtain ⟨v55, e56, h⟩ := h
    refine j_alen e56 dX10_apply_71 ?_
    refine j_iconst (v := 1) dX10_apply_72 (by decide) ?_
    refine j_isub dX10_apply_73 ?_
    refine j_istore (lv' := [(4, vI (v55 - 1)), (3, vR (some a53)), (2, vI v36), (0, vR (some t)), (1, vI x1)]) dX10_apply_74 (Nat.le_of_ble_eq_true rfl) rfl ?_
    exact J.sub (zall [3, 1, 0] rfl) (wflX10_apply_76 hd t (some a53) (v55 - 1)  G30 h hk)
theorem yX10_apply_ok {t : Nat} {x1 : Int32} {G : GS} {r : Int32} {G1 : GS} (h : fX10_apply_0 t x1 G = some (r, G1)) : zRuns yX10_apply (ws_ yX10_apply cX10_apply 5 (some Jvm.ClassFile.FieldType.boolean)) [vR (some t), vI x1] (.inl (some (vI r)), G, G1, 8) :=
  zentry (M := mX10_apply) (plainFor_of_name (by decide +kernel)) ⟨rfl, rfl, rfl, rfl⟩ (Nat.le_of_ble_eq_true rfl) (wfX10_apply_0 (Nat.le_refl _) t x1 G h ⟨rfl, rfl⟩)
theorem fgX10_130 : zFG RX10 130 4 2 (.array (.int)) := ⟨(RX5, TX5, 10, tyX5), rfl, by decide, in_X5, rfl, "SelahGenerator$Sets", Or.inl rfl, Or.inr ⟨_, zxw 77 rfl⟩⟩
theorem msX10_112 : zSV RX10 112 RX5 yX5_predicted cX5_predicted 4 (some Jvm.ClassFile.FieldType.int) 2 := ⟨lw_V q2543 q1911 q1912 q151 q1913, (by decide +kernel), (by decide)⟩
theorem msX10_122 : zSV RX10 122 RX7 yX7_predicted cX7_predicted 6 (some Jvm.ClassFile.FieldType.int) 3 := ⟨lw_V q2544 q1950 q1951 q168 q1952, (by decide +kernel), (by decide)⟩
theorem msX10_127 : zSV RX10 127 RX10 yX10_apply cX10_apply 5 (some Jvm.ClassFile.FieldType.boolean) 1 := ⟨lw_V q2545 q2547 qs56 q171 q2548, (by decide +kernel), (by decide)⟩
theorem msX10_84 : zSV RX10 84 RX10 yX10_fault cX10_fault 3 none 2 := ⟨lw_V q2516 q2518 qs54 q171 q2519, (by decide +kernel), (by decide)⟩
abbrev mX10_expand : zM := (cX10_expand, RX10, 7, (some Jvm.ClassFile.FieldType.boolean), "expand", [], "(III)Z")
def fX10_expand_112 (x5 : Int32)  (G : GS) : Option ((Int32) × GS) :=
  if x5 = 0 then (zcond (zbb 1) (some (1, G))) else (zcond (zbb 0) (some (0, G)))
theorem wfX10_expand_112 {F : zF} (hd : 52 ≤ F.2.2.2) (x5 : Int32)  (G : GS) {a : (Int32) × GS} (h : fX10_expand_112 x5  G = some a) (hk : zKI F a) : J mX10_expand F G 112 [(5, vI x5)] [] := by
  unfold fX10_expand_112 at h
  refine j_iload (j := 0) dX10_expand_112 rfl ?_
  refine j_if_ne (tgt := 121) dX10_expand_114 (by decide) (fun c1 => ?_) (fun c1 => ?_)
  · rw [if_pos c1] at h
    refine j_iconst (v := 1) dX10_expand_117 (by decide) ?_
    refine j_goto (tgt := 122) dX10_expand_118 (by decide) ?_
    replace h := zcondE h
    obtain ⟨e2, h⟩ := h
    obtain rfl := Option.some.inj h
    exact j_zret hk.1 hk.2 rfl (zbb_n e2) dX10_expand_122
  · rw [if_neg c1] at h
    refine j_iconst (v := 0) dX10_expand_121 (by decide) ?_
    replace h := zcondE h
    obtain ⟨e3, h⟩ := h
    obtain rfl := Option.some.inj h
    exact j_zret hk.1 hk.2 rfl (zbb_n e3) dX10_expand_122
def fX10_expand_83 (t : Nat) (x1 : Int32) (s0 : Int32) (G : GS) : Option ((Int32) × GS) :=
  zk [9] G t <| (fX10_fault_0 t x1 s0 G).bind fun G3 => if s0 = 0 then ((zgR G3 9 t 1).bind fun r5 => r5.bind fun a7 => zk [14] G3 a7 <| zb2 (fJ20_pop_0 a7 G3) fun r11 G12 => zkq [21, 61] G12 r11 (r11.bind fun a14 => zk [21, 61] G12 a14 <| (fJ26_intValue_0 a14 G12).bind fun v18 => fX10_expand_112 s0 G12)) else (fX10_expand_112 s0 G3)
theorem wfX10_expand_83 {F : zF} (hd : 52 ≤ F.2.2.2) (t : Nat) (x1 : Int32) (s0 : Int32) (G : GS) {a : (Int32) × GS} (h : fX10_expand_83 t x1 s0 G = some a) (hk : zKI F a) : J mX10_expand F G 83 [(0, vR (some t)), (1, vI x1)] [vI s0] := by
  unfold fX10_expand_83 at h
  refine j_istore (lv' := [(5, vI s0), (0, vR (some t)), (1, vI x1)]) dX10_expand_83 (Nat.le_of_ble_eq_true rfl) rfl ?_
  refine j_aload_n (j := 1) dX10_expand_85 rfl rfl ?_
  refine j_iload_n (j := 2) dX10_expand_86 rfl rfl ?_
  refine j_iload (j := 0) dX10_expand_87 rfl ?_
  replace h := zkE h
  obtain ⟨e1, h⟩ := h
  replace h := zbE h
  obtain ⟨G3, e2, h⟩ := h
  refine j_cont (zrV (As := [vI x1, vI s0]) msX10_84 (yX10_fault_ok e2) (Nat.le_trans (Nat.le_of_ble_eq_true rfl) hd) (zk_9 _ e1) rfl rfl (Nat.le_of_ble_eq_true rfl) dX10_expand_89) ?_
  refine j_iload (j := 0) dX10_expand_92 rfl ?_
  refine j_if_ne (tgt := 112) dX10_expand_94 (by decide) (fun c4 => ?_) (fun c4 => ?_)
  · rw [if_pos c4] at h
    refine j_aload_n (j := 1) dX10_expand_97 rfl rfl ?_
    replace h := zbE h
    obtain ⟨r5, e6, h⟩ := h
    refine j_getR fgX10_18 (fun _ _ _ => rfl) dX10_expand_98 e6 ?_
    replace h := zbE h
    obtain ⟨a7, e8, h⟩ := h
    subst e8
    replace h := zkE h
    obtain ⟨e9, h⟩ := h
    replace h := zb2E h
    obtain ⟨r11, G12, e10, h⟩ := h
    refine j_cont (zrV (As := []) msX10_100 (yJ20_pop_ok e10) (Nat.le_trans (Nat.le_of_ble_eq_true rfl) hd) (zk_14 _ e9) rfl rfl (Nat.le_of_ble_eq_true rfl) dX10_expand_101) ?_
    replace h := zkqE h
    obtain ⟨e13, h⟩ := h
    refine j_castq (fun k => j_castN dX10_expand_104 k) (fun b q19 k => j_castS (zk_21_61 _ (e13 b q19)) ⟨20, _, rfl, rfl⟩ q1487 dX10_expand_104 k) ?_
    replace h := zbE h
    obtain ⟨a14, e15, h⟩ := h
    subst e15
    replace h := zkE h
    obtain ⟨e16, h⟩ := h
    replace h := zbE h
    obtain ⟨v18, e17, h⟩ := h
    refine j_cont (zrV (As := []) msX10_69 (yJ26_intValue_ok e17) (Nat.le_trans (Nat.le_of_ble_eq_true rfl) hd) (zk_21_61 _ e16) rfl rfl (Nat.le_of_ble_eq_true rfl) dX10_expand_107) ?_
    refine j_istore (lv' := [(6, vI v18), (5, vI s0), (0, vR (some t)), (1, vI x1)]) dX10_expand_110 (Nat.le_of_ble_eq_true rfl) rfl ?_
    exact J.sub (zall [1] rfl) (wfX10_expand_112 hd s0  G12 h hk)
  · rw [if_neg c4] at h
    exact J.sub (zall [0] rfl) (wfX10_expand_112 hd s0  G3 h hk)
def fX10_expand_82 (t : Nat) (x1 : Int32)  (G : GS) : Option ((Int32) × GS) :=
  fX10_expand_83 t x1 0 G
theorem wfX10_expand_82 {F : zF} (hd : 52 ≤ F.2.2.2) (t : Nat) (x1 : Int32)  (G : GS) {a : (Int32) × GS} (h : fX10_expand_82 t x1  G = some a) (hk : zKI F a) : J mX10_expand F G 82 [(0, vR (some t)), (1, vI x1)] [] := by
  unfold fX10_expand_82 at h
  refine j_iconst (v := 0) dX10_expand_82 (by decide) ?_
  exact J.sub (zall [0, 1] rfl) (wfX10_expand_83 hd t x1 0 G h hk)
def fX10_expand_36 (t : Nat) (x1 : Int32) (x2 : Int32) (s0 : Int32) (G : GS) : Option ((Int32) × GS) :=
  if s0 < 0 then (if x2 = 12 then (fX10_expand_82 t x1 G) else ((zgR G 9 t 7).bind fun r3 => r3.bind fun a5 => zk [1] G a5 <| zb2 (fX1_sets_0 a5 G) fun r9 G10 => r9.bind fun a11 => (zgR G10 5 a11 2).bind fun r13 => r13.bind fun a15 => (zaI G10 50 a15 (x1 - 20)).bind fun v17 => if ((v17 >>> (x2 &&& 31)) &&& 1) = 0 then (fX10_expand_83 t x1 1 G10) else (fX10_expand_82 t x1 G10))) else (zk [9] G t <| zb2 (fX10_apply_0 t s0 G) fun v22 G23 => zcond (zbb v22) (some (v22, G23)))
theorem wfX10_expand_36 {F : zF} (hd : 52 ≤ F.2.2.2) (t : Nat) (x1 : Int32) (x2 : Int32) (s0 : Int32) (G : GS) {a : (Int32) × GS} (h : fX10_expand_36 t x1 x2 s0 G = some a) (hk : zKI F a) : J mX10_expand F G 36 [(0, vR (some t)), (1, vI x1), (2, vI x2)] [vI s0] := by
  unfold fX10_expand_36 at h
  refine j_istore (lv' := [(4, vI s0), (0, vR (some t)), (1, vI x1), (2, vI x2)]) dX10_expand_36 (Nat.le_of_ble_eq_true rfl) rfl ?_
  refine j_iload (j := 0) dX10_expand_38 rfl ?_
  refine j_if_lt (tgt := 50) dX10_expand_40 (by decide) (fun c1 => ?_) (fun c1 => ?_)
  · rw [if_pos c1] at h
    refine j_iload_n (j := 3) dX10_expand_50 rfl rfl ?_
    refine j_bipush (v := 12) dX10_expand_51 (by decide) ?_
    refine j_icmp_eq (tgt := 82) dX10_expand_53 (by decide) (fun c2 => ?_) (fun c2 => ?_)
    · rw [if_pos c2] at h
      exact J.sub (zall [1, 2] rfl) (wfX10_expand_82 hd t x1  G h hk)
    · rw [if_neg c2] at h
      refine j_aload_n (j := 1) dX10_expand_56 rfl rfl ?_
      replace h := zbE h
      obtain ⟨r3, e4, h⟩ := h
      refine j_getR fgX10_3 (fun _ _ _ => rfl) dX10_expand_57 e4 ?_
      replace h := zbE h
      obtain ⟨a5, e6, h⟩ := h
      subst e6
      replace h := zkE h
      obtain ⟨e7, h⟩ := h
      replace h := zb2E h
      obtain ⟨r9, G10, e8, h⟩ := h
      refine j_cont (zrVN (As := []) msX10_108 ⟨q412, qs0⟩ (yX1_sets_ok e8) (Nat.le_trans (Nat.le_of_ble_eq_true rfl) hd) (zk_1 _ e7) rfl rfl (Nat.le_of_ble_eq_true rfl) dX10_expand_60) ?_
      replace h := zbE h
      obtain ⟨a11, e12, h⟩ := h
      subst e12
      replace h := zbE h
      obtain ⟨r13, e14, h⟩ := h
      refine j_getR fgX10_130 (fun _ _ _ => rfl) dX10_expand_63 e14 ?_
      refine j_iload_n (j := 2) dX10_expand_66 rfl rfl ?_
      refine j_bipush (v := 20) dX10_expand_67 (by decide) ?_
      refine j_isub dX10_expand_69 ?_
      replace h := zbE h
      obtain ⟨a15, e16, h⟩ := h
      subst e16
      replace h := zbE h
      obtain ⟨v17, e18, h⟩ := h
      refine j_iald (Or.inl rfl) e18 dX10_expand_70 ?_
      refine j_iload_n (j := 3) dX10_expand_71 rfl rfl ?_
      refine j_ishr dX10_expand_72 ?_
      refine j_iconst (v := 1) dX10_expand_73 (by decide) ?_
      refine j_iand dX10_expand_74 ?_
      refine j_if_ne (tgt := 82) dX10_expand_75 (by decide) (fun c19 => ?_) (fun c19 => ?_)
      · rw [if_pos c19] at h
        refine j_iconst (v := 1) dX10_expand_78 (by decide) ?_
        refine j_goto (tgt := 83) dX10_expand_79 (by decide) ?_
        exact J.sub (zall [1, 2] rfl) (wfX10_expand_83 hd t x1 1 G10 h hk)
      · rw [if_neg c19] at h
        exact J.sub (zall [1, 2] rfl) (wfX10_expand_82 hd t x1  G10 h hk)
  · rw [if_neg c1] at h
    refine j_aload_n (j := 1) dX10_expand_43 rfl rfl ?_
    refine j_iload (j := 0) dX10_expand_44 rfl ?_
    replace h := zkE h
    obtain ⟨e20, h⟩ := h
    replace h := zb2E h
    obtain ⟨v22, G23, e21, h⟩ := h
    refine j_cont (zrV (As := [vI s0]) msX10_127 (yX10_apply_ok e21) (Nat.le_trans (Nat.le_of_ble_eq_true rfl) hd) (zk_9 _ e20) rfl rfl (Nat.le_of_ble_eq_true rfl) dX10_expand_46) ?_
    replace h := zcondE h
    obtain ⟨e24, h⟩ := h
    obtain rfl := Option.some.inj h
    exact j_zret hk.1 hk.2 rfl (zbb_n e24) dX10_expand_49
def fX10_expand_0 (t : Nat) (x1 : Int32) (x2 : Int32) (x3 : Int32)  (G : GS) : Option ((Int32) × GS) :=
  (zgI G 9 t 0).bind fun v1 => if v1 = 1 then ((zgR G 9 t 7).bind fun r4 => r4.bind fun a6 => zk [1] G a6 <| zb2 (fX1_sets_0 a6 G) fun r10 G11 => r10.bind fun a12 => zk [5] G11 a12 <| zb2 (fX5_predicted_0 a12 x1 x2 G11) fun v16 G17 => fX10_expand_36 t x1 x2 v16 G17) else ((zgR G 9 t 7).bind fun r18 => r18.bind fun a20 => zk [1] G a20 <| zb2 (fX1_pairs_0 a20 G) fun r24 G25 => r24.bind fun a26 => zk [7] G25 a26 <| (fX7_predicted_0 a26 x1 x2 x3 G25).bind fun v30 => fX10_expand_36 t x1 x2 v30 G25)
theorem wfX10_expand_0 {F : zF} (hd : 52 ≤ F.2.2.2) (t : Nat) (x1 : Int32) (x2 : Int32) (x3 : Int32)  (G : GS) {a : (Int32) × GS} (h : fX10_expand_0 t x1 x2 x3  G = some a) (hk : zKI F a) : J mX10_expand F G 0 [(0, vR (some t)), (1, vI x1), (2, vI x2), (3, vI x3)] [] := by
  unfold fX10_expand_0 at h
  refine j_aload_n (j := 0) dX10_expand_0 rfl rfl ?_
  replace h := zbE h
  obtain ⟨v1, e2, h⟩ := h
  refine j_getI fgX10_39 (fun _ _ _ => rfl) dX10_expand_1 e2 ?_
  refine j_iconst (v := 1) dX10_expand_4 (by decide) ?_
  refine j_icmp_ne (tgt := 23) dX10_expand_5 (by decide) (fun c3 => ?_) (fun c3 => ?_)
  · rw [if_pos c3] at h
    refine j_aload_n (j := 0) dX10_expand_8 rfl rfl ?_
    replace h := zbE h
    obtain ⟨r4, e5, h⟩ := h
    refine j_getR fgX10_3 (fun _ _ _ => rfl) dX10_expand_9 e5 ?_
    replace h := zbE h
    obtain ⟨a6, e7, h⟩ := h
    subst e7
    replace h := zkE h
    obtain ⟨e8, h⟩ := h
    replace h := zb2E h
    obtain ⟨r10, G11, e9, h⟩ := h
    refine j_cont (zrVN (As := []) msX10_108 ⟨q412, qs0⟩ (yX1_sets_ok e9) (Nat.le_trans (Nat.le_of_ble_eq_true rfl) hd) (zk_1 _ e8) rfl rfl (Nat.le_of_ble_eq_true rfl) dX10_expand_12) ?_
    refine j_iload_n (j := 1) dX10_expand_15 rfl rfl ?_
    refine j_iload_n (j := 2) dX10_expand_16 rfl rfl ?_
    replace h := zbE h
    obtain ⟨a12, e13, h⟩ := h
    subst e13
    replace h := zkE h
    obtain ⟨e14, h⟩ := h
    replace h := zb2E h
    obtain ⟨v16, G17, e15, h⟩ := h
    refine j_cont (zrV (As := [vI x1, vI x2]) msX10_112 (yX5_predicted_ok e15) (Nat.le_trans (Nat.le_of_ble_eq_true rfl) hd) (zk_5 _ e14) rfl rfl (Nat.le_of_ble_eq_true rfl) dX10_expand_17) ?_
    refine j_goto (tgt := 36) dX10_expand_20 (by decide) ?_
    exact J.sub (zall [0, 1, 2] rfl) (wfX10_expand_36 hd t x1 x2 v16 G17 h hk)
  · rw [if_neg c3] at h
    refine j_aload_n (j := 0) dX10_expand_23 rfl rfl ?_
    replace h := zbE h
    obtain ⟨r18, e19, h⟩ := h
    refine j_getR fgX10_3 (fun _ _ _ => rfl) dX10_expand_24 e19 ?_
    replace h := zbE h
    obtain ⟨a20, e21, h⟩ := h
    subst e21
    replace h := zkE h
    obtain ⟨e22, h⟩ := h
    replace h := zb2E h
    obtain ⟨r24, G25, e23, h⟩ := h
    refine j_cont (zrVN (As := []) msX10_118 ⟨q1320, qs20⟩ (yX1_pairs_ok e23) (Nat.le_trans (Nat.le_of_ble_eq_true rfl) hd) (zk_1 _ e22) rfl rfl (Nat.le_of_ble_eq_true rfl) dX10_expand_27) ?_
    refine j_iload_n (j := 1) dX10_expand_30 rfl rfl ?_
    refine j_iload_n (j := 2) dX10_expand_31 rfl rfl ?_
    refine j_iload_n (j := 3) dX10_expand_32 rfl rfl ?_
    replace h := zbE h
    obtain ⟨a26, e27, h⟩ := h
    subst e27
    replace h := zkE h
    obtain ⟨e28, h⟩ := h
    replace h := zbE h
    obtain ⟨v30, e29, h⟩ := h
    refine j_cont (zrV (As := [vI x1, vI x2, vI x3]) msX10_122 (yX7_predicted_ok e29) (Nat.le_trans (Nat.le_of_ble_eq_true rfl) hd) (zk_7 _ e28) rfl rfl (Nat.le_of_ble_eq_true rfl) dX10_expand_33) ?_
    exact J.sub (zall [0, 1, 2] rfl) (wfX10_expand_36 hd t x1 x2 v30 G25 h hk)
theorem yX10_expand_ok {t : Nat} {x1 : Int32} {x2 : Int32} {x3 : Int32} {G : GS} {r : Int32} {G1 : GS} (h : fX10_expand_0 t x1 x2 x3 G = some (r, G1)) : zRuns yX10_expand (ws_ yX10_expand cX10_expand 7 (some Jvm.ClassFile.FieldType.boolean)) [vR (some t), vI x1, vI x2, vI x3] (.inl (some (vI r)), G, G1, 52) :=
  zentry (M := mX10_expand) (plainFor_of_name (by decide +kernel)) ⟨rfl, rfl, rfl, rfl⟩ (Nat.le_of_ble_eq_true rfl) (wfX10_expand_0 (Nat.le_refl _) t x1 x2 x3 G h ⟨rfl, rfl⟩)
theorem msX10_96 : zSV RX10 96 RX10 yX10_expand cX10_expand 7 (some Jvm.ClassFile.FieldType.boolean) 3 := ⟨lw_V q2539 q2541 qs55 q171 q2542, (by decide +kernel), (by decide)⟩
abbrev mX10_step : zM := (cX10_step, RX10, 5, (some Jvm.ClassFile.FieldType.boolean), "step", [], "(II)Z")
def fX10_step_0 (t : Nat) (x1 : Int32) (x2 : Int32)  (G : GS) : Option ((Int32) × GS) :=
  (zgR G 9 t 1).bind fun r1 => r1.bind fun a3 => zk [14] G a3 <| (fJ20_isEmpty_0 a3 G).bind fun v7 => if v7 = 0 then ((zgR G 9 t 1).bind fun r9 => r9.bind fun a11 => zk [14] G a11 <| (fJ20_peek_0 a11 G).bind fun r15 => zkq [21, 61] G r15 (r15.bind fun a17 => zk [21, 61] G a17 <| (fJ26_intValue_0 a17 G).bind fun v21 => (fX1_isNonterminal_0 v21 G).bind fun v23 => if v23 = 0 then ((zgR G 9 t 1).bind fun r25 => r25.bind fun a27 => zk [14] G a27 <| zb2 (fJ20_pop_0 a27 G) fun r31 G32 => zkq [21, 61] G32 r31 (r31.bind fun a34 => zk [21, 61] G32 a34 <| (fJ26_intValue_0 a34 G32).bind fun v38 => if v38 = x1 then (zcond (zbb 0) (some (0, G32))) else (zk [9] G32 t <| (fX10_fault_0 t v38 0 G32).bind fun G43 => zcond (zbb 1) (some (1, G43))))) else (zk [9] G t <| zb2 (fX10_expand_0 t v21 x1 x2 G) fun v48 G49 => zcond (zbb v48) (some (v48, G49))))) else (if x1 = 12 then ((zpI G 9 t 5 2).bind fun G53 => zcond (zbb 0) (some (0, G53))) else (zk [9] G t <| (fX10_fault_0 t (-1) 1 G).bind fun G58 => zcond (zbb 0) (some (0, G58))))
theorem wfX10_step_0 {F : zF} (hd : 53 ≤ F.2.2.2) (t : Nat) (x1 : Int32) (x2 : Int32)  (G : GS) {a : (Int32) × GS} (h : fX10_step_0 t x1 x2  G = some a) (hk : zKI F a) : J mX10_step F G 0 [(0, vR (some t)), (1, vI x1), (2, vI x2)] [] := by
  unfold fX10_step_0 at h
  refine j_aload_n (j := 0) dX10_step_0 rfl rfl ?_
  replace h := zbE h
  obtain ⟨r1, e2, h⟩ := h
  refine j_getR fgX10_18 (fun _ _ _ => rfl) dX10_step_1 e2 ?_
  replace h := zbE h
  obtain ⟨a3, e4, h⟩ := h
  subst e4
  replace h := zkE h
  obtain ⟨e5, h⟩ := h
  replace h := zbE h
  obtain ⟨v7, e6, h⟩ := h
  refine j_cont (zrV (As := []) msX10_80 (yJ20_isEmpty_ok e6) (Nat.le_trans (Nat.le_of_ble_eq_true rfl) hd) (zk_14 _ e5) rfl rfl (Nat.le_of_ble_eq_true rfl) dX10_step_4) ?_
  refine j_if_eq (tgt := 32) dX10_step_7 (by decide) (fun c8 => ?_) (fun c8 => ?_)
  · rw [if_pos c8] at h
    refine j_aload_n (j := 0) dX10_step_32 rfl rfl ?_
    replace h := zbE h
    obtain ⟨r9, e10, h⟩ := h
    refine j_getR fgX10_18 (fun _ _ _ => rfl) dX10_step_33 e10 ?_
    replace h := zbE h
    obtain ⟨a11, e12, h⟩ := h
    subst e12
    replace h := zkE h
    obtain ⟨e13, h⟩ := h
    replace h := zbE h
    obtain ⟨r15, e14, h⟩ := h
    refine j_cont (zrV (As := []) msX10_88 (yJ20_peek_ok e14) (Nat.le_trans (Nat.le_of_ble_eq_true rfl) hd) (zk_14 _ e13) rfl rfl (Nat.le_of_ble_eq_true rfl) dX10_step_36) ?_
    replace h := zkqE h
    obtain ⟨e16, h⟩ := h
    refine j_castq (fun k => j_castN dX10_step_39 k) (fun b q51 k => j_castS (zk_21_61 _ (e16 b q51)) ⟨20, _, rfl, rfl⟩ q1487 dX10_step_39 k) ?_
    replace h := zbE h
    obtain ⟨a17, e18, h⟩ := h
    subst e18
    replace h := zkE h
    obtain ⟨e19, h⟩ := h
    replace h := zbE h
    obtain ⟨v21, e20, h⟩ := h
    refine j_cont (zrV (As := []) msX10_69 (yJ26_intValue_ok e20) (Nat.le_trans (Nat.le_of_ble_eq_true rfl) hd) (zk_21_61 _ e19) rfl rfl (Nat.le_of_ble_eq_true rfl) dX10_step_42) ?_
    refine j_istore_n (lv' := [(3, vI v21), (0, vR (some t)), (1, vI x1), (2, vI x2)]) dX10_step_45 rfl (Nat.le_of_ble_eq_true rfl) rfl ?_
    refine j_iload_n (j := 0) dX10_step_46 rfl rfl ?_
    replace h := zbE h
    obtain ⟨v23, e22, h⟩ := h
    refine j_cont (zrSN (As := [vI v21]) msX10_92 q401 (yX1_isNonterminal_ok e22) (Nat.le_trans (Nat.le_of_ble_eq_true rfl) hd) rfl rfl (Nat.le_of_ble_eq_true rfl) dX10_step_47) ?_
    refine j_if_eq (tgt := 61) dX10_step_50 (by decide) (fun c24 => ?_) (fun c24 => ?_)
    · rw [if_pos c24] at h
      refine j_aload_n (j := 1) dX10_step_61 rfl rfl ?_
      replace h := zbE h
      obtain ⟨r25, e26, h⟩ := h
      refine j_getR fgX10_18 (fun _ _ _ => rfl) dX10_step_62 e26 ?_
      replace h := zbE h
      obtain ⟨a27, e28, h⟩ := h
      subst e28
      replace h := zkE h
      obtain ⟨e29, h⟩ := h
      replace h := zb2E h
      obtain ⟨r31, G32, e30, h⟩ := h
      refine j_cont (zrV (As := []) msX10_100 (yJ20_pop_ok e30) (Nat.le_trans (Nat.le_of_ble_eq_true rfl) hd) (zk_14 _ e29) rfl rfl (Nat.le_of_ble_eq_true rfl) dX10_step_65) ?_
      replace h := zkqE h
      obtain ⟨e33, h⟩ := h
      refine j_castq (fun k => j_castN dX10_step_68 k) (fun b q45 k => j_castS (zk_21_61 _ (e33 b q45)) ⟨20, _, rfl, rfl⟩ q1487 dX10_step_68 k) ?_
      replace h := zbE h
      obtain ⟨a34, e35, h⟩ := h
      subst e35
      replace h := zkE h
      obtain ⟨e36, h⟩ := h
      replace h := zbE h
      obtain ⟨v38, e37, h⟩ := h
      refine j_cont (zrV (As := []) msX10_69 (yJ26_intValue_ok e37) (Nat.le_trans (Nat.le_of_ble_eq_true rfl) hd) (zk_21_61 _ e36) rfl rfl (Nat.le_of_ble_eq_true rfl) dX10_step_71) ?_
      refine j_istore (lv' := [(4, vI v38), (3, vI v21), (0, vR (some t)), (1, vI x1), (2, vI x2)]) dX10_step_74 (Nat.le_of_ble_eq_true rfl) rfl ?_
      refine j_iload (j := 0) dX10_step_76 rfl ?_
      refine j_iload_n (j := 3) dX10_step_78 rfl rfl ?_
      refine j_icmp_ne (tgt := 84) dX10_step_79 (by decide) (fun c39 => ?_) (fun c39 => ?_)
      · rw [if_pos c39] at h
        refine j_iconst (v := 0) dX10_step_82 (by decide) ?_
        replace h := zcondE h
        obtain ⟨e40, h⟩ := h
        obtain rfl := Option.some.inj h
        exact j_zret hk.1 hk.2 rfl (zbb_n e40) dX10_step_83
      · rw [if_neg c39] at h
        refine j_aload_n (j := 2) dX10_step_84 rfl rfl ?_
        refine j_iload (j := 0) dX10_step_85 rfl ?_
        refine j_iconst (v := 0) dX10_step_87 (by decide) ?_
        replace h := zkE h
        obtain ⟨e41, h⟩ := h
        replace h := zbE h
        obtain ⟨G43, e42, h⟩ := h
        refine j_cont (zrV (As := [vI v38, vI 0]) msX10_84 (yX10_fault_ok e42) (Nat.le_trans (Nat.le_of_ble_eq_true rfl) hd) (zk_9 _ e41) rfl rfl (Nat.le_of_ble_eq_true rfl) dX10_step_88) ?_
        refine j_iconst (v := 1) dX10_step_91 (by decide) ?_
        replace h := zcondE h
        obtain ⟨e44, h⟩ := h
        obtain rfl := Option.some.inj h
        exact j_zret hk.1 hk.2 rfl (zbb_n e44) dX10_step_92
    · rw [if_neg c24] at h
      refine j_aload_n (j := 1) dX10_step_53 rfl rfl ?_
      refine j_iload_n (j := 0) dX10_step_54 rfl rfl ?_
      refine j_iload_n (j := 2) dX10_step_55 rfl rfl ?_
      refine j_iload_n (j := 3) dX10_step_56 rfl rfl ?_
      replace h := zkE h
      obtain ⟨e46, h⟩ := h
      replace h := zb2E h
      obtain ⟨v48, G49, e47, h⟩ := h
      refine j_cont (zrV (As := [vI v21, vI x1, vI x2]) msX10_96 (yX10_expand_ok e47) (Nat.le_trans (Nat.le_of_ble_eq_true rfl) hd) (zk_9 _ e46) rfl rfl (Nat.le_of_ble_eq_true rfl) dX10_step_57) ?_
      replace h := zcondE h
      obtain ⟨e50, h⟩ := h
      obtain rfl := Option.some.inj h
      exact j_zret hk.1 hk.2 rfl (zbb_n e50) dX10_step_60
  · rw [if_neg c8] at h
    refine j_iload_n (j := 1) dX10_step_10 rfl rfl ?_
    refine j_bipush (v := 12) dX10_step_11 (by decide) ?_
    refine j_icmp_ne (tgt := 24) dX10_step_13 (by decide) (fun c52 => ?_) (fun c52 => ?_)
    · rw [if_pos c52] at h
      refine j_aload_n (j := 0) dX10_step_16 rfl rfl ?_
      refine j_iconst (v := 2) dX10_step_17 (by decide) ?_
      replace h := zbE h
      obtain ⟨G53, e54, h⟩ := h
      refine j_putI fpX10_35_X10 (Or.inl rfl) rfl dX10_step_18 e54 ?_
      refine j_goto (tgt := 30) dX10_step_21 (by decide) ?_
      refine j_iconst (v := 0) dX10_step_30 (by decide) ?_
      replace h := zcondE h
      obtain ⟨e55, h⟩ := h
      obtain rfl := Option.some.inj h
      exact j_zret hk.1 hk.2 rfl (zbb_n e55) dX10_step_31
    · rw [if_neg c52] at h
      refine j_aload_n (j := 0) dX10_step_24 rfl rfl ?_
      refine j_iconst (v := (-1)) dX10_step_25 (by decide) ?_
      refine j_iconst (v := 1) dX10_step_26 (by decide) ?_
      replace h := zkE h
      obtain ⟨e56, h⟩ := h
      replace h := zbE h
      obtain ⟨G58, e57, h⟩ := h
      refine j_cont (zrV (As := [vI (-1), vI 1]) msX10_84 (yX10_fault_ok e57) (Nat.le_trans (Nat.le_of_ble_eq_true rfl) hd) (zk_9 _ e56) rfl rfl (Nat.le_of_ble_eq_true rfl) dX10_step_27) ?_
      refine j_iconst (v := 0) dX10_step_30 (by decide) ?_
      replace h := zcondE h
      obtain ⟨e59, h⟩ := h
      obtain rfl := Option.some.inj h
      exact j_zret hk.1 hk.2 rfl (zbb_n e59) dX10_step_31
theorem yX10_step_ok {t : Nat} {x1 : Int32} {x2 : Int32} {G : GS} {r : Int32} {G1 : GS} (h : fX10_step_0 t x1 x2 G = some (r, G1)) : zRuns yX10_step (ws_ yX10_step cX10_step 5 (some Jvm.ClassFile.FieldType.boolean)) [vR (some t), vI x1, vI x2] (.inl (some (vI r)), G, G1, 53) :=
  zentry (M := mX10_step) (plainFor_of_name (by decide +kernel)) ⟨rfl, rfl, rfl, rfl⟩ (Nat.le_of_ble_eq_true rfl) (wfX10_step_0 (Nat.le_refl _) t x1 x2 G h ⟨rfl, rfl⟩)
theorem msX10_76 : zSV RX10 76 RX10 yX10_step cX10_step 5 (some Jvm.ClassFile.FieldType.boolean) 2 := ⟨lw_V q2512 q2514 qs53 q171 q2515, (by decide +kernel), (by decide)⟩
abbrev mX10_workOff : zM := (cX10_workOff, RX10, 4, none, "workOff", [], "(II)V")
def fbX10_workOff_2 (t : Nat) (x1 : Int32) (x2 : Int32) (x3 : Int32)  (G : GS) : Option ((Int32 × GS) ⊕ (GS)) :=
  if x3 = 0 then (zo (some G)) else (zk [9] G t <| zb2 (fX10_step_0 t x1 x2 G) fun v4 G5 => some (.inl (v4, G5)))
def flX10_workOff_2 (t : Nat) (x1 : Int32) (x2 : Int32) (x3 : Int32) (G : GS) : Option (GS) := zloop (fun s : Int32 × GS => fbX10_workOff_2 t x1 x2 s.1 s.2) (x3, G)
theorem wfbX10_workOff_2 {F : zF} (hd : 54 ≤ F.2.2.2) (t : Nat) (x1 : Int32) (x2 : Int32) (x3 : Int32) (G : GS) {a : (Int32 × GS) ⊕ (GS)} (h : fbX10_workOff_2 t x1 x2 x3 G = some a) (hk : (zcase (fun s : Int32 × GS => J mX10_workOff F s.2 2 [(0, vR (some t)), (1, vI x1), (2, vI x2), (3, vI s.1)] []) (zKV F)) a) : J mX10_workOff F G 2 [(0, vR (some t)), (1, vI x1), (2, vI x2), (3, vI x3)] [] := by
  unfold fbX10_workOff_2 at h
  refine j_iload_n (j := 3) dX10_workOff_2 rfl rfl ?_
  refine j_if_eq (tgt := 16) dX10_workOff_3 (by decide) (fun c1 => ?_) (fun c1 => ?_)
  · rw [if_pos c1] at h
    replace h := zoE h
    obtain ⟨a, h, rfl⟩ := h
    replace hk := hk
    obtain rfl := Option.some.inj h
    exact j_vret hk.1 hk.2 rfl dX10_workOff_16
  · rw [if_neg c1] at h
    refine j_aload_n (j := 0) dX10_workOff_6 rfl rfl ?_
    refine j_iload_n (j := 1) dX10_workOff_7 rfl rfl ?_
    refine j_iload_n (j := 2) dX10_workOff_8 rfl rfl ?_
    replace h := zkE h
    obtain ⟨e2, h⟩ := h
    replace h := zb2E h
    obtain ⟨v4, G5, e3, h⟩ := h
    refine j_cont (zrV (As := [vI x1, vI x2]) msX10_76 (yX10_step_ok e3) (Nat.le_trans (Nat.le_of_ble_eq_true rfl) hd) (zk_9 _ e2) rfl rfl (Nat.le_of_ble_eq_true rfl) dX10_workOff_9) ?_
    refine j_istore_n (lv' := [(3, vI v4), (0, vR (some t)), (1, vI x1), (2, vI x2)]) dX10_workOff_12 rfl (Nat.le_of_ble_eq_true rfl) rfl ?_
    refine j_goto (tgt := 2) dX10_workOff_13 (by decide) ?_
    obtain rfl := Option.some.inj h
    exact J.sub (zall [1, 2, 3, 0] rfl) hk
theorem wflX10_workOff_2 {F : zF} (hd : 54 ≤ F.2.2.2) (t : Nat) (x1 : Int32) (x2 : Int32) (x3 : Int32) (G : GS) {a : GS} (h : flX10_workOff_2 t x1 x2 x3 G = some a) (hk : zKV F a) : J mX10_workOff F G 2 [(0, vR (some t)), (1, vI x1), (2, vI x2), (3, vI x3)] [] := by
  unfold flX10_workOff_2 at h
  exact zloop_walk (P := (fun s : Int32 × GS => J mX10_workOff F s.2 2 [(0, vR (some t)), (1, vI x1), (2, vI x2), (3, vI s.1)] [])) (fun s b e hk => wfbX10_workOff_2 hd t x1 x2 s.1 s.2 e hk) (x3, G) _ h hk
def fX10_workOff_0 (t : Nat) (x1 : Int32) (x2 : Int32)  (G : GS) : Option (GS) :=
  flX10_workOff_2 t x1 x2 1 G
theorem wfX10_workOff_0 {F : zF} (hd : 54 ≤ F.2.2.2) (t : Nat) (x1 : Int32) (x2 : Int32)  (G : GS) {a : GS} (h : fX10_workOff_0 t x1 x2  G = some a) (hk : zKV F a) : J mX10_workOff F G 0 [(0, vR (some t)), (1, vI x1), (2, vI x2)] [] := by
  unfold fX10_workOff_0 at h
  refine j_iconst (v := 1) dX10_workOff_0 (by decide) ?_
  refine j_istore_n (lv' := [(3, vI 1), (0, vR (some t)), (1, vI x1), (2, vI x2)]) dX10_workOff_1 rfl (Nat.le_of_ble_eq_true rfl) rfl ?_
  exact J.sub (zall [1, 2, 3, 0] rfl) (wflX10_workOff_2 hd t x1 x2 1  G h hk)
theorem yX10_workOff_ok {t : Nat} {x1 : Int32} {x2 : Int32} {G : GS} {G1 : GS} (h : fX10_workOff_0 t x1 x2 G = some G1) : zRuns yX10_workOff (ws_ yX10_workOff cX10_workOff 4 none) [vR (some t), vI x1, vI x2] (.inl none, G, G1, 54) :=
  zentry (M := mX10_workOff) (plainFor_of_name (by decide +kernel)) ⟨rfl, rfl, rfl, rfl⟩ (Nat.le_of_ble_eq_true rfl) (wfX10_workOff_0 (Nat.le_refl _) t x1 x2 G h ⟨rfl, rfl⟩)
end
