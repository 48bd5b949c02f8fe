/-! printed: functions and walks -/
set_option maxRecDepth 100000
noncomputable section
theorem msX1_196 : zSV RX1 196 RX1 yX1_isLL1 cX1_isLL1 1 (some Jvm.ClassFile.FieldType.boolean) 0 := ⟨lw_V q2408 q1311 q1312 q123 q1313, (by decide +kernel), (by decide)⟩
theorem msX1_199 : zSV RX1 199 RX1 yX1_isStrongLL2 cX1_isStrongLL2 1 (some Jvm.ClassFile.FieldType.boolean) 0 := ⟨lw_V q2409 q1444 q1445 q123 q1446, (by decide +kernel), (by decide)⟩
theorem msX1_204 : zSI RX1 204 yX10_init cX10_init 3 2 := ⟨q2414, q171, q2412, q2413, rfl, (by decide +kernel), (by decide)⟩
abbrev mX1_start : zM := (cX1_start, RX1, 2, (some Jvm.ClassFile.FieldType.int), "start", [], "(I)I")
def fX1_start_57 (t : Nat) (x1 : Int32) (s0 : Int32) (G : GS) : Option (((Int32) ⊕ String) × GS) :=
  zb3 (fX1_may_0 s0 G) (fun u5 G2 => zl (al G2 9 0 8) fun G6 => (fX10_init_0 (gz G2) (some t) x1 G6).bind fun G9 => (zpR G9 1 t 3 (some (gz G2))).bind fun G10 => (zgR G10 1 t 0).bind fun r12 => r12.bind fun a14 => zk [12] G10 a14 <| (fJ2_size_0 a14 G10).bind fun v18 => some (.inl v18, G10)) (fun X3 G4 => some (.inr X3, G4))
theorem wfX1_start_57 {F : zF} (hd : 53 ≤ F.2.2.2) (t : Nat) (x1 : Int32) (s0 : Int32) (G : GS) {a : ((Int32) ⊕ String) × GS} (h : fX1_start_57 t x1 s0 G = some a) (hk : zKXI F a) : J mX1_start F G 57 [(0, vR (some t)), (1, vI x1)] [vI s0] := by
  unfold fX1_start_57 at h
  replace h := zb3E h
  rcases h with ⟨u5, G2, e1, h⟩ | ⟨X3, G4, e1, h⟩
  · refine j_cont (zrS (As := [vI s0]) msX1_79 (yX1_may_ok e1) (Nat.le_trans (Nat.le_of_ble_eq_true rfl) hd) rfl rfl (Nat.le_of_ble_eq_true rfl) dX1_start_57) ?_
    refine j_aload_n (j := 0) dX1_start_60 rfl rfl ?_
    replace h := zlE h
    obtain ⟨G6, e7, h⟩ := h
    refine j_new (c := 8) (n := 8) (r := (RX10, TX10, 8, tyX10)) rfl rfl in_X10 tyX10_ok nwX10 q2410 q2411 q171 dX1_start_61 ?_
    rw [show al G2 (8 + 1) 0 8 = G6 from e7.symm]
    refine j_dup dX1_start_64 rfl ?_
    refine j_aload_n (j := 0) dX1_start_65 rfl rfl ?_
    refine j_iload_n (j := 1) dX1_start_66 rfl rfl ?_
    replace h := zbE h
    obtain ⟨G9, e8, h⟩ := h
    refine j_cont (zrI (As := [vR (some t), vI x1]) msX1_204 (yX10_init_ok e8) (Nat.le_trans (Nat.le_of_ble_eq_true rfl) hd) rfl rfl (Nat.le_of_ble_eq_true rfl) dX1_start_67) ?_
    replace h := zbE h
    obtain ⟨G10, e11, h⟩ := h
    refine j_putR fpX1_43_X1 (Or.inl rfl) (Or.inl ⟨_, rfl⟩) dX1_start_70 e11 ?_
    refine j_aload_n (j := 0) dX1_start_73 rfl rfl ?_
    replace h := zbE h
    obtain ⟨r12, e13, h⟩ := h
    refine j_getR fgX1_16 (fun _ _ _ => rfl) dX1_start_74 e13 ?_
    replace h := zbE h
    obtain ⟨a14, e15, h⟩ := h
    subst e15
    replace h := zkE h
    obtain ⟨e16, h⟩ := h
    replace h := zbE h
    obtain ⟨v18, e17, h⟩ := h
    refine j_cont (zrF (As := []) msX1_54_J2 (yJ2_size_ok e17) (Nat.le_trans (Nat.le_of_ble_eq_true rfl) hd) (zk_12 _ e16) rfl rfl (Nat.le_of_ble_eq_true rfl) dX1_start_77) ?_
    obtain rfl := Option.some.inj h
    exact j_iret hk.1 hk.2 rfl dX1_start_82
  · refine j_thr (zrS (As := [vI s0]) msX1_79 (yX1_may_ok e1) (Nat.le_trans (Nat.le_of_ble_eq_true rfl) hd) rfl rfl (Nat.le_of_ble_eq_true rfl) dX1_start_57) ?_
    obtain rfl := Option.some.inj h
    exact jx_out hk.1 hk.2 (by decide)
def fX1_start_56 (t : Nat) (x1 : Int32)  (G : GS) : Option (((Int32) ⊕ String) × GS) :=
  fX1_start_57 t x1 0 G
theorem wfX1_start_56 {F : zF} (hd : 53 ≤ F.2.2.2) (t : Nat) (x1 : Int32)  (G : GS) {a : ((Int32) ⊕ String) × GS} (h : fX1_start_56 t x1  G = some a) (hk : zKXI F a) : J mX1_start F G 56 [(0, vR (some t)), (1, vI x1)] [] := by
  unfold fX1_start_56 at h
  refine j_iconst (v := 0) dX1_start_56 (by decide) ?_
  exact J.sub (zall [0, 1] rfl) (wfX1_start_57 hd t x1 0 G h hk)
def fX1_start_52 (t : Nat) (x1 : Int32)  (G : GS) : Option (((Int32) ⊕ String) × GS) :=
  fX1_start_57 t x1 1 G
theorem wfX1_start_52 {F : zF} (hd : 53 ≤ F.2.2.2) (t : Nat) (x1 : Int32)  (G : GS) {a : ((Int32) ⊕ String) × GS} (h : fX1_start_52 t x1  G = some a) (hk : zKXI F a) : J mX1_start F G 52 [(0, vR (some t)), (1, vI x1)] [] := by
  unfold fX1_start_52 at h
  refine j_iconst (v := 1) dX1_start_52 (by decide) ?_
  refine j_goto (tgt := 57) dX1_start_53 (by decide) ?_
  exact J.sub (zall [0, 1] rfl) (wfX1_start_57 hd t x1 1 G h hk)
def fX1_start_15 (t : Nat) (x1 : Int32) (s0 : Int32) (G : GS) : Option (((Int32) ⊕ String) × GS) :=
  zb3 (fX1_argument_0 s0 G) (fun u5 G2 => (zgR G2 1 t 0).bind fun r6 => r6.bind fun a8 => zk [12] G2 a8 <| (fJ2_isEmpty_0 a8 G2).bind fun v12 => if v12 = 0 then (if x1 = 1 then (zk [1] G2 t <| zb2 (fX1_isLL1_0 t G2) fun v17 G18 => if v17 = 0 then (fX1_start_56 t x1 G18) else (fX1_start_52 t x1 G18)) else (zk [1] G2 t <| zb2 (fX1_isStrongLL2_0 t G2) fun v22 G23 => if v22 = 0 then (fX1_start_56 t x1 G23) else (fX1_start_52 t x1 G23))) else (fX1_start_56 t x1 G2)) (fun X3 G4 => some (.inr X3, G4))
theorem wfX1_start_15 {F : zF} (hd : 53 ≤ F.2.2.2) (t : Nat) (x1 : Int32) (s0 : Int32) (G : GS) {a : ((Int32) ⊕ String) × GS} (h : fX1_start_15 t x1 s0 G = some a) (hk : zKXI F a) : J mX1_start F G 15 [(0, vR (some t)), (1, vI x1)] [vI s0] := by
  unfold fX1_start_15 at h
  replace h := zb3E h
  rcases h with ⟨u5, G2, e1, h⟩ | ⟨X3, G4, e1, h⟩
  · refine j_cont (zrS (As := [vI s0]) msX1_101 (yX1_argument_ok e1) (Nat.le_trans (Nat.le_of_ble_eq_true rfl) hd) rfl rfl (Nat.le_of_ble_eq_true rfl) dX1_start_15) ?_
    refine j_aload_n (j := 0) dX1_start_18 rfl rfl ?_
    replace h := zbE h
    obtain ⟨r6, e7, h⟩ := h
    refine j_getR fgX1_16 (fun _ _ _ => rfl) dX1_start_19 e7 ?_
    replace h := zbE h
    obtain ⟨a8, e9, h⟩ := h
    subst e9
    replace h := zkE h
    obtain ⟨e10, h⟩ := h
    replace h := zbE h
    obtain ⟨v12, e11, h⟩ := h
    refine j_cont (zrF (As := []) msX1_192_J2 (yJ2_isEmpty_ok e11) (Nat.le_trans (Nat.le_of_ble_eq_true rfl) hd) (zk_12 _ e10) rfl rfl (Nat.le_of_ble_eq_true rfl) dX1_start_22) ?_
    refine j_if_ne (tgt := 56) dX1_start_27 (by decide) (fun c13 => ?_) (fun c13 => ?_)
    · rw [if_pos c13] at h
      refine j_iload_n (j := 1) dX1_start_30 rfl rfl ?_
      refine j_iconst (v := 1) dX1_start_31 (by decide) ?_
      refine j_icmp_ne (tgt := 45) dX1_start_32 (by decide) (fun c14 => ?_) (fun c14 => ?_)
      · rw [if_pos c14] at h
        refine j_aload_n (j := 0) dX1_start_35 rfl rfl ?_
        replace h := zkE h
        obtain ⟨e15, h⟩ := h
        replace h := zb2E h
        obtain ⟨v17, G18, e16, h⟩ := h
        refine j_cont (zrV (As := []) msX1_196 (yX1_isLL1_ok e16) (Nat.le_trans (Nat.le_of_ble_eq_true rfl) hd) (zk_1 _ e15) rfl rfl (Nat.le_of_ble_eq_true rfl) dX1_start_36) ?_
        refine j_if_eq (tgt := 56) dX1_start_39 (by decide) (fun c19 => ?_) (fun c19 => ?_)
        · rw [if_pos c19] at h
          exact J.sub (zall [0, 1] rfl) (wfX1_start_56 hd t x1  G18 h hk)
        · rw [if_neg c19] at h
          refine j_goto (tgt := 52) dX1_start_42 (by decide) ?_
          exact J.sub (zall [0, 1] rfl) (wfX1_start_52 hd t x1  G18 h hk)
      · rw [if_neg c14] at h
        refine j_aload_n (j := 0) dX1_start_45 rfl rfl ?_
        replace h := zkE h
        obtain ⟨e20, h⟩ := h
        replace h := zb2E h
        obtain ⟨v22, G23, e21, h⟩ := h
        refine j_cont (zrV (As := []) msX1_199 (yX1_isStrongLL2_ok e21) (Nat.le_trans (Nat.le_of_ble_eq_true rfl) hd) (zk_1 _ e20) rfl rfl (Nat.le_of_ble_eq_true rfl) dX1_start_46) ?_
        refine j_if_eq (tgt := 56) dX1_start_49 (by decide) (fun c24 => ?_) (fun c24 => ?_)
        · rw [if_pos c24] at h
          exact J.sub (zall [0, 1] rfl) (wfX1_start_56 hd t x1  G23 h hk)
        · rw [if_neg c24] at h
          exact J.sub (zall [0, 1] rfl) (wfX1_start_52 hd t x1  G23 h hk)
    · rw [if_neg c13] at h
      exact J.sub (zall [0, 1] rfl) (wfX1_start_56 hd t x1  G2 h hk)
  · refine j_thr (zrS (As := [vI s0]) msX1_101 (yX1_argument_ok e1) (Nat.le_trans (Nat.le_of_ble_eq_true rfl) hd) rfl rfl (Nat.le_of_ble_eq_true rfl) dX1_start_15) ?_
    obtain rfl := Option.some.inj h
    exact jx_out hk.1 hk.2 (by decide)
def fX1_start_10 (t : Nat) (x1 : Int32)  (G : GS) : Option (((Int32) ⊕ String) × GS) :=
  fX1_start_15 t x1 1 G
theorem wfX1_start_10 {F : zF} (hd : 53 ≤ F.2.2.2) (t : Nat) (x1 : Int32)  (G : GS) {a : ((Int32) ⊕ String) × GS} (h : fX1_start_10 t x1  G = some a) (hk : zKXI F a) : J mX1_start F G 10 [(0, vR (some t)), (1, vI x1)] [] := by
  unfold fX1_start_10 at h
  refine j_iconst (v := 1) dX1_start_10 (by decide) ?_
  refine j_goto (tgt := 15) dX1_start_11 (by decide) ?_
  exact J.sub (zall [0, 1] rfl) (wfX1_start_15 hd t x1 1 G h hk)
def fX1_start_0 (t : Nat) (x1 : Int32)  (G : GS) : Option (((Int32) ⊕ String) × GS) :=
  if x1 = 1 then (fX1_start_10 t x1 G) else (if x1 = 2 then (fX1_start_10 t x1 G) else (fX1_start_15 t x1 0 G))
theorem wfX1_start_0 {F : zF} (hd : 53 ≤ F.2.2.2) (t : Nat) (x1 : Int32)  (G : GS) {a : ((Int32) ⊕ String) × GS} (h : fX1_start_0 t x1  G = some a) (hk : zKXI F a) : J mX1_start F G 0 [(0, vR (some t)), (1, vI x1)] [] := by
  unfold fX1_start_0 at h
  refine j_iload_n (j := 1) dX1_start_0 rfl rfl ?_
  refine j_iconst (v := 1) dX1_start_1 (by decide) ?_
  refine j_icmp_eq (tgt := 10) dX1_start_2 (by decide) (fun c1 => ?_) (fun c1 => ?_)
  · rw [if_pos c1] at h
    exact J.sub (zall [0, 1] rfl) (wfX1_start_10 hd t x1  G h hk)
  · rw [if_neg c1] at h
    refine j_iload_n (j := 1) dX1_start_5 rfl rfl ?_
    refine j_iconst (v := 2) dX1_start_6 (by decide) ?_
    refine j_icmp_ne (tgt := 14) dX1_start_7 (by decide) (fun c2 => ?_) (fun c2 => ?_)
    · rw [if_pos c2] at h
      exact J.sub (zall [0, 1] rfl) (wfX1_start_10 hd t x1  G h hk)
    · rw [if_neg c2] at h
      refine j_iconst (v := 0) dX1_start_14 (by decide) ?_
      exact J.sub (zall [0, 1] rfl) (wfX1_start_15 hd t x1 0 G h hk)
theorem yX1_start_ok {t : Nat} {x1 : Int32} {G : GS} {r : (Int32) ⊕ String} {G1 : GS} (h : fX1_start_0 t x1 G = some (r, G1)) : zRuns yX1_start (ws_ yX1_start cX1_start 2 (some Jvm.ClassFile.FieldType.int)) [vR (some t), vI x1] (zout (fun v => some (vI v)) r, G, G1, 53) :=
  zentry (M := mX1_start) (plainFor_of_name (by decide +kernel)) ⟨rfl, rfl, rfl, rfl⟩ (Nat.le_of_ble_eq_true rfl) (wfX1_start_0 (Nat.le_refl _) t x1 G h ⟨rfl, rfl⟩)
abbrev mX1_symbolAt : zM := (cX1_symbolAt, RX1, 4, (some Jvm.ClassFile.FieldType.int), "symbolAt", [], "(II)I")
def fX1_symbolAt_0 (t : Nat) (x1 : Int32) (x2 : Int32)  (G : GS) : Option (((Int32) ⊕ String) × GS) :=
  zk [1] G t <| zb3 (fX1_rule_0 t x1 G) (fun r3 G4 => r3.bind fun a7 => (zgR G4 3 a7 1).bind fun r9 => r9.bind fun a11 => (zln G4 a11).bind fun v13 => (fX1_isIn_0 x2 0 (v13 - 1) G4).bind fun v16 => if v16 = 0 then (some (.inl (-1), G4)) else ((zaI G4 50 a11 x2).bind fun v18 => some (.inl v18, G4))) (fun X5 G6 => some (.inr X5, G6))
theorem wfX1_symbolAt_0 {F : zF} (hd : 10 ≤ F.2.2.2) (t : Nat) (x1 : Int32) (x2 : Int32)  (G : GS) {a : ((Int32) ⊕ String) × GS} (h : fX1_symbolAt_0 t x1 x2  G = some a) (hk : zKXI F a) : J mX1_symbolAt F G 0 [(0, vR (some t)), (1, vI x1), (2, vI x2)] [] := by
  unfold fX1_symbolAt_0 at h
  refine j_aload_n (j := 0) dX1_symbolAt_0 rfl rfl ?_
  refine j_iload_n (j := 1) dX1_symbolAt_1 rfl rfl ?_
  replace h := zkE h
  obtain ⟨e1, h⟩ := h
  replace h := zb3E h
  rcases h with ⟨r3, G4, e2, h⟩ | ⟨X5, G6, e2, h⟩
  · refine j_cont (zrV (As := [vI x1]) msX1_93 (yX1_rule_ok e2) (Nat.le_trans (Nat.le_of_ble_eq_true rfl) hd) (zk_1 _ e1) rfl rfl (Nat.le_of_ble_eq_true rfl) dX1_symbolAt_2) ?_
    replace h := zbE h
    obtain ⟨a7, e8, h⟩ := h
    subst e8
    replace h := zbE h
    obtain ⟨r9, e10, h⟩ := h
    refine j_getR fgX1_104 (fun _ _ _ => rfl) dX1_symbolAt_5 e10 ?_
    refine j_astore_n (lv' := [(3, vR r9), (0, vR (some t)), (1, vI x1), (2, vI x2)]) dX1_symbolAt_8 rfl (Nat.le_of_ble_eq_true rfl) rfl ?_
    refine j_iload_n (j := 3) dX1_symbolAt_9 rfl rfl ?_
    refine j_iconst (v := 0) dX1_symbolAt_10 (by decide) ?_
    refine j_aload_n (j := 0) dX1_symbolAt_11 rfl rfl ?_
    replace h := zbE h
    obtain ⟨a11, e12, h⟩ := h
    subst e12
    replace h := zbE h
    obtain ⟨v13, e14, h⟩ := h
    refine j_alen e14 dX1_symbolAt_12 ?_
    refine j_iconst (v := 1) dX1_symbolAt_13 (by decide) ?_
    refine j_isub dX1_symbolAt_14 ?_
    replace h := zbE h
    obtain ⟨v16, e15, h⟩ := h
    refine j_cont (zrS (As := [vI x2, vI 0, vI (v13 - 1)]) msX1_3 (yX1_isIn_ok e15) (Nat.le_trans (Nat.le_of_ble_eq_true rfl) hd) rfl rfl (Nat.le_of_ble_eq_true rfl) dX1_symbolAt_15) ?_
    refine j_if_eq (tgt := 27) dX1_symbolAt_18 (by decide) (fun c17 => ?_) (fun c17 => ?_)
    · rw [if_pos c17] at h
      refine j_iconst (v := (-1)) dX1_symbolAt_27 (by decide) ?_
      obtain rfl := Option.some.inj h
      exact j_iret hk.1 hk.2 rfl dX1_symbolAt_28
    · rw [if_neg c17] at h
      refine j_aload_n (j := 0) dX1_symbolAt_21 rfl rfl ?_
      refine j_iload_n (j := 3) dX1_symbolAt_22 rfl rfl ?_
      replace h := zbE h
      obtain ⟨v18, e19, h⟩ := h
      refine j_iald (Or.inl rfl) e19 dX1_symbolAt_23 ?_
      refine j_goto (tgt := 28) dX1_symbolAt_24 (by decide) ?_
      obtain rfl := Option.some.inj h
      exact j_iret hk.1 hk.2 rfl dX1_symbolAt_28
  · refine j_thr (zrV (As := [vI x1]) msX1_93 (yX1_rule_ok e2) (Nat.le_trans (Nat.le_of_ble_eq_true rfl) hd) (zk_1 _ e1) rfl rfl (Nat.le_of_ble_eq_true rfl) dX1_symbolAt_2) ?_
    obtain rfl := Option.some.inj h
    exact jx_out hk.1 hk.2 (by decide)
theorem yX1_symbolAt_ok {t : Nat} {x1 : Int32} {x2 : Int32} {G : GS} {r : (Int32) ⊕ String} {G1 : GS} (h : fX1_symbolAt_0 t x1 x2 G = some (r, G1)) : zRuns yX1_symbolAt (ws_ yX1_symbolAt cX1_symbolAt 4 (some Jvm.ClassFile.FieldType.int)) [vR (some t), vI x1, vI x2] (zout (fun v => some (vI v)) r, G, G1, 10) :=
  zentry (M := mX1_symbolAt) (plainFor_of_name (by decide +kernel)) ⟨rfl, rfl, rfl, rfl⟩ (Nat.le_of_ble_eq_true rfl) (wfX1_symbolAt_0 (Nat.le_refl _) t x1 x2 G h ⟨rfl, rfl⟩)
abbrev mJ22_size : zM := (cJ22_size, RJ22, 1, (some Jvm.ClassFile.FieldType.int), "size", [], "()I")
def fJ22_size_0 (t : Nat)  (G : GS) : Option (Int32) :=
  (zgI G 16 t 4).bind fun v1 => some v1
theorem wfJ22_size_0 {F : zF} (hd : 1 ≤ F.2.2.2) (t : Nat)  (G : GS) {a : Int32} (h : fJ22_size_0 t  G = some a) (hk : zKPI F G a) : J mJ22_size F G 0 [(0, vR (some t))] [] := by
  unfold fJ22_size_0 at h
  refine j_aload_n (j := 0) dJ22_size_0 rfl rfl ?_
  replace h := zbE h
  obtain ⟨v1, e2, h⟩ := h
  refine j_getI fgJ22_7 (fun _ _ _ => rfl) dJ22_size_1 e2 ?_
  obtain rfl := Option.some.inj h
  exact j_iret hk.1 hk.2 rfl dJ22_size_4
theorem yJ22_size_ok {t : Nat} {G : GS} {r : Int32} (h : fJ22_size_0 t G = some r) : zRuns yJ22_size (ws_ yJ22_size cJ22_size 1 (some Jvm.ClassFile.FieldType.int)) [vR (some t)] (.inl (some (vI r)), G, G, 1) :=
  zentry (M := mJ22_size) (plainFor_of_name (by decide +kernel)) ⟨rfl, rfl, rfl, rfl⟩ (Nat.le_of_ble_eq_true rfl) (wfJ22_size_0 (Nat.le_refl _) t G h ⟨rfl, rfl⟩)
abbrev mJ26_bitCount : zM := (cJ26_bitCount, RJ26, 1, (some Jvm.ClassFile.FieldType.int), "bitCount", [], "(I)I")
def fJ26_bitCount_0 (x0 : Int32)  (G : GS) : Option (Int32) :=
  some ((((((((x0 - ((x0.toUInt32 >>> ((1 : Int32).toUInt32 &&& Int32.toUInt32 31)).toInt32 &&& 1431655765)) &&& 858993459) + (((x0 - ((x0.toUInt32 >>> ((1 : Int32).toUInt32 &&& Int32.toUInt32 31)).toInt32 &&& 1431655765)).toUInt32 >>> ((2 : Int32).toUInt32 &&& Int32.toUInt32 31)).toInt32 &&& 858993459)) + ((((x0 - ((x0.toUInt32 >>> ((1 : Int32).toUInt32 &&& Int32.toUInt32 31)).toInt32 &&& 1431655765)) &&& 858993459) + (((x0 - ((x0.toUInt32 >>> ((1 : Int32).toUInt32 &&& Int32.toUInt32 31)).toInt32 &&& 1431655765)).toUInt32 >>> ((2 : Int32).toUInt32 &&& Int32.toUInt32 31)).toInt32 &&& 858993459)).toUInt32 >>> ((4 : Int32).toUInt32 &&& Int32.toUInt32 31)).toInt32) &&& 252645135) + ((((((x0 - ((x0.toUInt32 >>> ((1 : Int32).toUInt32 &&& Int32.toUInt32 31)).toInt32 &&& 1431655765)) &&& 858993459) + (((x0 - ((x0.toUInt32 >>> ((1 : Int32).toUInt32 &&& Int32.toUInt32 31)).toInt32 &&& 1431655765)).toUInt32 >>> ((2 : Int32).toUInt32 &&& Int32.toUInt32 31)).toInt32 &&& 858993459)) + ((((x0 - ((x0.toUInt32 >>> ((1 : Int32).toUInt32 &&& Int32.toUInt32 31)).toInt32 &&& 1431655765)) &&& 858993459) + (((x0 - ((x0.toUInt32 >>> ((1 : Int32).toUInt32 &&& Int32.toUInt32 31)).toInt32 &&& 1431655765)).toUInt32 >>> ((2 : Int32).toUInt32 &&& Int32.toUInt32 31)).toInt32 &&& 858993459)).toUInt32 >>> ((4 : Int32).toUInt32 &&& Int32.toUInt32 31)).toInt32) &&& 252645135).toUInt32 >>> ((8 : Int32).toUInt32 &&& Int32.toUInt32 31)).toInt32) + (((((((x0 - ((x0.toUInt32 >>> ((1 : Int32).toUInt32 &&& Int32.toUInt32 31)).toInt32 &&& 1431655765)) &&& 858993459) + (((x0 - ((x0.toUInt32 >>> ((1 : Int32).toUInt32 &&& Int32.toUInt32 31)).toInt32 &&& 1431655765)).toUInt32 >>> ((2 : Int32).toUInt32 &&& Int32.toUInt32 31)).toInt32 &&& 858993459)) + ((((x0 - ((x0.toUInt32 >>> ((1 : Int32).toUInt32 &&& Int32.toUInt32 31)).toInt32 &&& 1431655765)) &&& 858993459) + (((x0 - ((x0.toUInt32 >>> ((1 : Int32).toUInt32 &&& Int32.toUInt32 31)).toInt32 &&& 1431655765)).toUInt32 >>> ((2 : Int32).toUInt32 &&& Int32.toUInt32 31)).toInt32 &&& 858993459)).toUInt32 >>> ((4 : Int32).toUInt32 &&& Int32.toUInt32 31)).toInt32) &&& 252645135) + ((((((x0 - ((x0.toUInt32 >>> ((1 : Int32).toUInt32 &&& Int32.toUInt32 31)).toInt32 &&& 1431655765)) &&& 858993459) + (((x0 - ((x0.toUInt32 >>> ((1 : Int32).toUInt32 &&& Int32.toUInt32 31)).toInt32 &&& 1431655765)).toUInt32 >>> ((2 : Int32).toUInt32 &&& Int32.toUInt32 31)).toInt32 &&& 858993459)) + ((((x0 - ((x0.toUInt32 >>> ((1 : Int32).toUInt32 &&& Int32.toUInt32 31)).toInt32 &&& 1431655765)) &&& 858993459) + (((x0 - ((x0.toUInt32 >>> ((1 : Int32).toUInt32 &&& Int32.toUInt32 31)).toInt32 &&& 1431655765)).toUInt32 >>> ((2 : Int32).toUInt32 &&& Int32.toUInt32 31)).toInt32 &&& 858993459)).toUInt32 >>> ((4 : Int32).toUInt32 &&& Int32.toUInt32 31)).toInt32) &&& 252645135).toUInt32 >>> ((8 : Int32).toUInt32 &&& Int32.toUInt32 31)).toInt32).toUInt32 >>> ((16 : Int32).toUInt32 &&& Int32.toUInt32 31)).toInt32) &&& 63)
theorem wfJ26_bitCount_0 {F : zF} (hd : 1 ≤ F.2.2.2) (x0 : Int32)  (G : GS) {a : Int32} (h : fJ26_bitCount_0 x0  G = some a) (hk : zKPI F G a) : J mJ26_bitCount F G 0 [(0, vI x0)] [] := by
  unfold fJ26_bitCount_0 at h
  refine j_iload_n (j := 0) dJ26_bitCount_0 rfl rfl ?_
  refine j_iload_n (j := 0) dJ26_bitCount_1 rfl rfl ?_
  refine j_iconst (v := 1) dJ26_bitCount_2 (by decide) ?_
  refine j_iushr dJ26_bitCount_3 ?_
  refine j_ldcw (v := 1431655765) q1639 dJ26_bitCount_4 ?_
  refine j_iand dJ26_bitCount_7 ?_
  refine j_isub dJ26_bitCount_8 ?_
  refine j_istore_n (lv' := [(0, vI (x0 - ((x0.toUInt32 >>> ((1 : Int32).toUInt32 &&& Int32.toUInt32 31)).toInt32 &&& 1431655765)))]) dJ26_bitCount_9 rfl (Nat.le_of_ble_eq_true rfl) rfl ?_
  refine j_iload_n (j := 0) dJ26_bitCount_10 rfl rfl ?_
  refine j_ldcw (v := 858993459) q1640 dJ26_bitCount_11 ?_
  refine j_iand dJ26_bitCount_14 ?_
  refine j_iload_n (j := 0) dJ26_bitCount_15 rfl rfl ?_
  refine j_iconst (v := 2) dJ26_bitCount_16 (by decide) ?_
  refine j_iushr dJ26_bitCount_17 ?_
  refine j_ldcw (v := 858993459) q1640 dJ26_bitCount_18 ?_
  refine j_iand dJ26_bitCount_21 ?_
  refine j_iadd dJ26_bitCount_22 ?_
  refine j_istore_n (lv' := [(0, vI (((x0 - ((x0.toUInt32 >>> ((1 : Int32).toUInt32 &&& Int32.toUInt32 31)).toInt32 &&& 1431655765)) &&& 858993459) + (((x0 - ((x0.toUInt32 >>> ((1 : Int32).toUInt32 &&& Int32.toUInt32 31)).toInt32 &&& 1431655765)).toUInt32 >>> ((2 : Int32).toUInt32 &&& Int32.toUInt32 31)).toInt32 &&& 858993459)))]) dJ26_bitCount_23 rfl (Nat.le_of_ble_eq_true rfl) rfl ?_
  refine j_iload_n (j := 0) dJ26_bitCount_24 rfl rfl ?_
  refine j_iload_n (j := 0) dJ26_bitCount_25 rfl rfl ?_
  refine j_iconst (v := 4) dJ26_bitCount_26 (by decide) ?_
  refine j_iushr dJ26_bitCount_27 ?_
  refine j_iadd dJ26_bitCount_28 ?_
  refine j_ldcw (v := 252645135) q1641 dJ26_bitCount_29 ?_
  refine j_iand dJ26_bitCount_32 ?_
  refine j_istore_n (lv' := [(0, vI (((((x0 - ((x0.toUInt32 >>> ((1 : Int32).toUInt32 &&& Int32.toUInt32 31)).toInt32 &&& 1431655765)) &&& 858993459) + (((x0 - ((x0.toUInt32 >>> ((1 : Int32).toUInt32 &&& Int32.toUInt32 31)).toInt32 &&& 1431655765)).toUInt32 >>> ((2 : Int32).toUInt32 &&& Int32.toUInt32 31)).toInt32 &&& 858993459)) + ((((x0 - ((x0.toUInt32 >>> ((1 : Int32).toUInt32 &&& Int32.toUInt32 31)).toInt32 &&& 1431655765)) &&& 858993459) + (((x0 - ((x0.toUInt32 >>> ((1 : Int32).toUInt32 &&& Int32.toUInt32 31)).toInt32 &&& 1431655765)).toUInt32 >>> ((2 : Int32).toUInt32 &&& Int32.toUInt32 31)).toInt32 &&& 858993459)).toUInt32 >>> ((4 : Int32).toUInt32 &&& Int32.toUInt32 31)).toInt32) &&& 252645135))]) dJ26_bitCount_33 rfl (Nat.le_of_ble_eq_true rfl) rfl ?_
  refine j_iload_n (j := 0) dJ26_bitCount_34 rfl rfl ?_
  refine j_iload_n (j := 0) dJ26_bitCount_35 rfl rfl ?_
  refine j_bipush (v := 8) dJ26_bitCount_36 (by decide) ?_
  refine j_iushr dJ26_bitCount_38 ?_
  refine j_iadd dJ26_bitCount_39 ?_
  refine j_istore_n (lv' := [(0, vI ((((((x0 - ((x0.toUInt32 >>> ((1 : Int32).toUInt32 &&& Int32.toUInt32 31)).toInt32 &&& 1431655765)) &&& 858993459) + (((x0 - ((x0.toUInt32 >>> ((1 : Int32).toUInt32 &&& Int32.toUInt32 31)).toInt32 &&& 1431655765)).toUInt32 >>> ((2 : Int32).toUInt32 &&& Int32.toUInt32 31)).toInt32 &&& 858993459)) + ((((x0 - ((x0.toUInt32 >>> ((1 : Int32).toUInt32 &&& Int32.toUInt32 31)).toInt32 &&& 1431655765)) &&& 858993459) + (((x0 - ((x0.toUInt32 >>> ((1 : Int32).toUInt32 &&& Int32.toUInt32 31)).toInt32 &&& 1431655765)).toUInt32 >>> ((2 : Int32).toUInt32 &&& Int32.toUInt32 31)).toInt32 &&& 858993459)).toUInt32 >>> ((4 : Int32).toUInt32 &&& Int32.toUInt32 31)).toInt32) &&& 252645135) + ((((((x0 - ((x0.toUInt32 >>> ((1 : Int32).toUInt32 &&& Int32.toUInt32 31)).toInt32 &&& 1431655765)) &&& 858993459) + (((x0 - ((x0.toUInt32 >>> ((1 : Int32).toUInt32 &&& Int32.toUInt32 31)).toInt32 &&& 1431655765)).toUInt32 >>> ((2 : Int32).toUInt32 &&& Int32.toUInt32 31)).toInt32 &&& 858993459)) + ((((x0 - ((x0.toUInt32 >>> ((1 : Int32).toUInt32 &&& Int32.toUInt32 31)).toInt32 &&& 1431655765)) &&& 858993459) + (((x0 - ((x0.toUInt32 >>> ((1 : Int32).toUInt32 &&& Int32.toUInt32 31)).toInt32 &&& 1431655765)).toUInt32 >>> ((2 : Int32).toUInt32 &&& Int32.toUInt32 31)).toInt32 &&& 858993459)).toUInt32 >>> ((4 : Int32).toUInt32 &&& Int32.toUInt32 31)).toInt32) &&& 252645135).toUInt32 >>> ((8 : Int32).toUInt32 &&& Int32.toUInt32 31)).toInt32))]) dJ26_bitCount_40 rfl (Nat.le_of_ble_eq_true rfl) rfl ?_
  refine j_iload_n (j := 0) dJ26_bitCount_41 rfl rfl ?_
  refine j_iload_n (j := 0) dJ26_bitCount_42 rfl rfl ?_
  refine j_bipush (v := 16) dJ26_bitCount_43 (by decide) ?_
  refine j_iushr dJ26_bitCount_45 ?_
  refine j_iadd dJ26_bitCount_46 ?_
  refine j_istore_n (lv' := [(0, vI (((((((x0 - ((x0.toUInt32 >>> ((1 : Int32).toUInt32 &&& Int32.toUInt32 31)).toInt32 &&& 1431655765)) &&& 858993459) + (((x0 - ((x0.toUInt32 >>> ((1 : Int32).toUInt32 &&& Int32.toUInt32 31)).toInt32 &&& 1431655765)).toUInt32 >>> ((2 : Int32).toUInt32 &&& Int32.toUInt32 31)).toInt32 &&& 858993459)) + ((((x0 - ((x0.toUInt32 >>> ((1 : Int32).toUInt32 &&& Int32.toUInt32 31)).toInt32 &&& 1431655765)) &&& 858993459) + (((x0 - ((x0.toUInt32 >>> ((1 : Int32).toUInt32 &&& Int32.toUInt32 31)).toInt32 &&& 1431655765)).toUInt32 >>> ((2 : Int32).toUInt32 &&& Int32.toUInt32 31)).toInt32 &&& 858993459)).toUInt32 >>> ((4 : Int32).toUInt32 &&& Int32.toUInt32 31)).toInt32) &&& 252645135) + ((((((x0 - ((x0.toUInt32 >>> ((1 : Int32).toUInt32 &&& Int32.toUInt32 31)).toInt32 &&& 1431655765)) &&& 858993459) + (((x0 - ((x0.toUInt32 >>> ((1 : Int32).toUInt32 &&& Int32.toUInt32 31)).toInt32 &&& 1431655765)).toUInt32 >>> ((2 : Int32).toUInt32 &&& Int32.toUInt32 31)).toInt32 &&& 858993459)) + ((((x0 - ((x0.toUInt32 >>> ((1 : Int32).toUInt32 &&& Int32.toUInt32 31)).toInt32 &&& 1431655765)) &&& 858993459) + (((x0 - ((x0.toUInt32 >>> ((1 : Int32).toUInt32 &&& Int32.toUInt32 31)).toInt32 &&& 1431655765)).toUInt32 >>> ((2 : Int32).toUInt32 &&& Int32.toUInt32 31)).toInt32 &&& 858993459)).toUInt32 >>> ((4 : Int32).toUInt32 &&& Int32.toUInt32 31)).toInt32) &&& 252645135).toUInt32 >>> ((8 : Int32).toUInt32 &&& Int32.toUInt32 31)).toInt32) + (((((((x0 - ((x0.toUInt32 >>> ((1 : Int32).toUInt32 &&& Int32.toUInt32 31)).toInt32 &&& 1431655765)) &&& 858993459) + (((x0 - ((x0.toUInt32 >>> ((1 : Int32).toUInt32 &&& Int32.toUInt32 31)).toInt32 &&& 1431655765)).toUInt32 >>> ((2 : Int32).toUInt32 &&& Int32.toUInt32 31)).toInt32 &&& 858993459)) + ((((x0 - ((x0.toUInt32 >>> ((1 : Int32).toUInt32 &&& Int32.toUInt32 31)).toInt32 &&& 1431655765)) &&& 858993459) + (((x0 - ((x0.toUInt32 >>> ((1 : Int32).toUInt32 &&& Int32.toUInt32 31)).toInt32 &&& 1431655765)).toUInt32 >>> ((2 : Int32).toUInt32 &&& Int32.toUInt32 31)).toInt32 &&& 858993459)).toUInt32 >>> ((4 : Int32).toUInt32 &&& Int32.toUInt32 31)).toInt32) &&& 252645135) + ((((((x0 - ((x0.toUInt32 >>> ((1 : Int32).toUInt32 &&& Int32.toUInt32 31)).toInt32 &&& 1431655765)) &&& 858993459) + (((x0 - ((x0.toUInt32 >>> ((1 : Int32).toUInt32 &&& Int32.toUInt32 31)).toInt32 &&& 1431655765)).toUInt32 >>> ((2 : Int32).toUInt32 &&& Int32.toUInt32 31)).toInt32 &&& 858993459)) + ((((x0 - ((x0.toUInt32 >>> ((1 : Int32).toUInt32 &&& Int32.toUInt32 31)).toInt32 &&& 1431655765)) &&& 858993459) + (((x0 - ((x0.toUInt32 >>> ((1 : Int32).toUInt32 &&& Int32.toUInt32 31)).toInt32 &&& 1431655765)).toUInt32 >>> ((2 : Int32).toUInt32 &&& Int32.toUInt32 31)).toInt32 &&& 858993459)).toUInt32 >>> ((4 : Int32).toUInt32 &&& Int32.toUInt32 31)).toInt32) &&& 252645135).toUInt32 >>> ((8 : Int32).toUInt32 &&& Int32.toUInt32 31)).toInt32).toUInt32 >>> ((16 : Int32).toUInt32 &&& Int32.toUInt32 31)).toInt32))]) dJ26_bitCount_47 rfl (Nat.le_of_ble_eq_true rfl) rfl ?_
  refine j_iload_n (j := 0) dJ26_bitCount_48 rfl rfl ?_
  refine j_bipush (v := 63) dJ26_bitCount_49 (by decide) ?_
  refine j_iand dJ26_bitCount_51 ?_
  obtain rfl := Option.some.inj h
  exact j_iret hk.1 hk.2 rfl dJ26_bitCount_52
theorem yJ26_bitCount_ok {x0 : Int32} {G : GS} {r : Int32} (h : fJ26_bitCount_0 x0 G = some r) : zRuns yJ26_bitCount (ws_ yJ26_bitCount cJ26_bitCount 1 (some Jvm.ClassFile.FieldType.int)) [vI x0] (.inl (some (vI r)), G, G, 1) :=
  zentry (M := mJ26_bitCount) (plainFor_of_name (by decide +kernel)) ⟨rfl, rfl, rfl, rfl⟩ (Nat.le_of_ble_eq_true rfl) (wfJ26_bitCount_0 (Nat.le_refl _) x0 G h ⟨rfl, rfl⟩)
theorem fgX1_292 : zFG RX1 292 4 6 (.object "java/util/Map") := ⟨(RX5, TX5, 10, tyX5), rfl, by decide, in_X5, rfl, "SelahGenerator$Sets", Or.inl rfl, Or.inr ⟨_, zxw 60 rfl⟩⟩
theorem msX1_296_J22 : zSF RX1 296 RJ22 ⟨"java/util/Map", "size", "()I"⟩ yJ22_size cJ22_size 1 (some Jvm.ClassFile.FieldType.int) 0 := ⟨lw_F q1630 q1633 q994 q150 q996, zfw 20 rfl, ⟨15, _, rfl, rfl⟩, (by decide +kernel), (by decide)⟩
theorem msX1_299 : zSS RX1 299 yJ26_bitCount cJ26_bitCount 1 (some Jvm.ClassFile.FieldType.int) 1 := ⟨lw_S q1636 q1637 q156 q1638, (by decide +kernel), (by decide)⟩
abbrev mX1_tableShare : zM := (cX1_tableShare, RX1, 4, (some Jvm.ClassFile.FieldType.float), "tableShare", [], "()F")
def fX1_tableShare_46 (t : Nat) (x1 : Int32)  (G : GS) : Option ((UInt32) × GS) :=
  if x1 = 0 then (some (FP.fconst0, G)) else (zk [1] G t <| zb2 (fX1_sets_0 t G) fun r4 G5 => r4.bind fun a6 => (zgR G5 5 a6 6).bind fun r8 => r8.bind fun a10 => zk [16] G5 a10 <| (fJ22_size_0 a10 G5).bind fun v14 => (fJ26_bitCount_0 x1 G5).bind fun v16 => zcond (zn32 (FP.fdiv (FP.i2f v14) (FP.i2f (13 * v16)))) (some ((FP.fdiv (FP.i2f v14) (FP.i2f (13 * v16))), G5)))
theorem wfX1_tableShare_46 {F : zF} (hd : 52 ≤ F.2.2.2) (t : Nat) (x1 : Int32)  (G : GS) {a : (UInt32) × GS} (h : fX1_tableShare_46 t x1  G = some a) (hk : zKF F a) : J mX1_tableShare F G 46 [(0, vR (some t)), (1, vI x1)] [] := by
  unfold fX1_tableShare_46 at h
  refine j_iload_n (j := 1) dX1_tableShare_46 rfl rfl ?_
  refine j_if_ne (tgt := 54) dX1_tableShare_47 (by decide) (fun c1 => ?_) (fun c1 => ?_)
  · rw [if_pos c1] at h
    refine j_fconst0 dX1_tableShare_50 ?_
    refine j_goto (tgt := 76) dX1_tableShare_51 (by decide) ?_
    obtain rfl := Option.some.inj h
    exact j_fret hk.1 hk.2 rfl dX1_tableShare_76
  · rw [if_neg c1] at h
    refine j_aload_n (j := 0) dX1_tableShare_54 rfl rfl ?_
    replace h := zkE h
    obtain ⟨e2, h⟩ := h
    replace h := zb2E h
    obtain ⟨r4, G5, e3, h⟩ := h
    refine j_cont (zrV (As := []) msX1_128 (yX1_sets_ok e3) (Nat.le_trans (Nat.le_of_ble_eq_true rfl) hd) (zk_1 _ e2) rfl rfl (Nat.le_of_ble_eq_true rfl) dX1_tableShare_55) ?_
    replace h := zbE h
    obtain ⟨a6, e7, h⟩ := h
    subst e7
    replace h := zbE h
    obtain ⟨r8, e9, h⟩ := h
    refine j_getR fgX1_292 (fun _ _ _ => rfl) dX1_tableShare_58 e9 ?_
    replace h := zbE h
    obtain ⟨a10, e11, h⟩ := h
    subst e11
    replace h := zkE h
    obtain ⟨e12, h⟩ := h
    replace h := zbE h
    obtain ⟨v14, e13, h⟩ := h
    refine j_cont (zrF (As := []) msX1_296_J22 (yJ22_size_ok e13) (Nat.le_trans (Nat.le_of_ble_eq_true rfl) hd) (zk_16 _ e12) rfl rfl (Nat.le_of_ble_eq_true rfl) dX1_tableShare_61) ?_
    refine j_i2f dX1_tableShare_66 ?_
    refine j_bipush (v := 13) dX1_tableShare_67 (by decide) ?_
    refine j_iload_n (j := 1) dX1_tableShare_69 rfl rfl ?_
    replace h := zbE h
    obtain ⟨v16, e15, h⟩ := h
    refine j_cont (zrS (As := [vI x1]) msX1_299 (yJ26_bitCount_ok e15) (Nat.le_trans (Nat.le_of_ble_eq_true rfl) hd) rfl rfl (Nat.le_of_ble_eq_true rfl) dX1_tableShare_70) ?_
    refine j_imul dX1_tableShare_73 ?_
    refine j_i2f dX1_tableShare_74 ?_
    replace h := zcondE h
    obtain ⟨e17, h⟩ := h
    refine j_fdiv dX1_tableShare_75 e17 ?_
    obtain rfl := Option.some.inj h
    exact j_fret hk.1 hk.2 rfl dX1_tableShare_76
def fbX1_tableShare_12 (t : Nat) (x1 : Int32) (x2 : Option Nat)  (G : GS) : Option ((Int32 × GS) ⊕ ((UInt32) × GS)) :=
  x2.bind fun a1 => zk [13] G a1 <| (fJ19_hasNext_0 a1 G).bind fun v5 => if v5 = 0 then (zo (fX1_tableShare_46 t x1 G)) else (zk [13] G a1 <| zb2 (fJ19_next_0 a1 G) fun r9 G10 => zkq [3] G10 r9 (r9.bind fun a12 => (zgI G10 3 a12 0).bind fun v14 => some (.inl ((x1 ||| ((1 : Int32) <<< ((v14 - 20) &&& 31))), G10))))
def flX1_tableShare_12 (t : Nat) (x1 : Int32) (x2 : Option Nat) (G : GS) : Option ((UInt32) × GS) := zloop (fun s : Int32 × GS => fbX1_tableShare_12 t s.1 x2 s.2) (x1, G)
theorem wfbX1_tableShare_12 {F : zF} (hd : 52 ≤ F.2.2.2) (t : Nat) (x1 : Int32) (x2 : Option Nat) (G : GS) {a : (Int32 × GS) ⊕ ((UInt32) × GS)} (h : fbX1_tableShare_12 t x1 x2 G = some a) (hk : (zcase (fun s : Int32 × GS => J mX1_tableShare F s.2 12 [(0, vR (some t)), (1, vI s.1), (2, vR x2)] []) (zKF F)) a) : J mX1_tableShare F G 12 [(0, vR (some t)), (1, vI x1), (2, vR x2)] [] := by
  unfold fbX1_tableShare_12 at h
  refine j_aload_n (j := 2) dX1_tableShare_12 rfl rfl ?_
  replace h := zbE h
  obtain ⟨a1, e2, h⟩ := h
  subst e2
  replace h := zkE h
  obtain ⟨e3, h⟩ := h
  replace h := zbE h
  obtain ⟨v5, e4, h⟩ := h
  refine j_cont (zrF (As := []) msX1_289_J19 (yJ19_hasNext_ok e4) (Nat.le_trans (Nat.le_of_ble_eq_true rfl) hd) (zk_13 _ e3) rfl rfl (Nat.le_of_ble_eq_true rfl) dX1_tableShare_13) ?_
  refine j_if_eq (tgt := 46) dX1_tableShare_18 (by decide) (fun c6 => ?_) (fun c6 => ?_)
  · rw [if_pos c6] at h
    replace h := zoE h
    obtain ⟨a, h, rfl⟩ := h
    replace hk := hk
    exact J.sub (zall [0, 1] rfl) (wfX1_tableShare_46 hd t x1  G h hk)
  · rw [if_neg c6] at h
    refine j_aload_n (j := 2) dX1_tableShare_21 rfl rfl ?_
    replace h := zkE h
    obtain ⟨e7, h⟩ := h
    replace h := zb2E h
    obtain ⟨r9, G10, e8, h⟩ := h
    refine j_cont (zrF (As := []) msX1_230_J19 (yJ19_next_ok e8) (Nat.le_trans (Nat.le_of_ble_eq_true rfl) hd) (zk_13 _ e7) rfl rfl (Nat.le_of_ble_eq_true rfl) dX1_tableShare_22) ?_
    replace h := zkqE h
    obtain ⟨e11, h⟩ := h
    refine j_castq (fun k => j_castN dX1_tableShare_27 k) (fun b q16 k => j_castS (zk_3 _ (e11 b q16)) ⟨2, _, rfl, rfl⟩ q1615 dX1_tableShare_27 k) ?_
    refine j_astore_n (lv' := [(3, vR r9), (0, vR (some t)), (1, vI x1), (2, vR (some a1))]) dX1_tableShare_30 rfl (Nat.le_of_ble_eq_true rfl) rfl ?_
    refine j_iload_n (j := 2) dX1_tableShare_31 rfl rfl ?_
    refine j_iconst (v := 1) dX1_tableShare_32 (by decide) ?_
    refine j_aload_n (j := 0) dX1_tableShare_33 rfl rfl ?_
    replace h := zbE h
    obtain ⟨a12, e13, h⟩ := h
    subst e13
    replace h := zbE h
    obtain ⟨v14, e15, h⟩ := h
    refine j_getI fgX1_118 (fun _ _ _ => rfl) dX1_tableShare_34 e15 ?_
    refine j_bipush (v := 20) dX1_tableShare_37 (by decide) ?_
    refine j_isub dX1_tableShare_39 ?_
    refine j_ishl dX1_tableShare_40 ?_
    refine j_ior dX1_tableShare_41 ?_
    refine j_istore_n (lv' := [(1, vI (x1 ||| ((1 : Int32) <<< ((v14 - 20) &&& 31)))), (3, vR (some a12)), (0, vR (some t)), (2, vR (some a1))]) dX1_tableShare_42 rfl (Nat.le_of_ble_eq_true rfl) rfl ?_
    refine j_goto (tgt := 12) dX1_tableShare_43 (by decide) ?_
    obtain rfl := Option.some.inj h
    exact J.sub (zall [2, 0, 3] rfl) hk
theorem wflX1_tableShare_12 {F : zF} (hd : 52 ≤ F.2.2.2) (t : Nat) (x1 : Int32) (x2 : Option Nat) (G : GS) {a : (UInt32) × GS} (h : flX1_tableShare_12 t x1 x2 G = some a) (hk : zKF F a) : J mX1_tableShare F G 12 [(0, vR (some t)), (1, vI x1), (2, vR x2)] [] := by
  unfold flX1_tableShare_12 at h
  exact zloop_walk (P := (fun s : Int32 × GS => J mX1_tableShare F s.2 12 [(0, vR (some t)), (1, vI s.1), (2, vR x2)] [])) (fun s b e hk => wfbX1_tableShare_12 hd t s.1 x2 s.2 e hk) (x1, G) _ h hk
def fX1_tableShare_0 (t : Nat)  (G : GS) : Option ((UInt32) × GS) :=
  (zgR G 1 t 0).bind fun r1 => r1.bind fun a3 => zk [12] G a3 <| zb2 (fJ2_iterator_0 a3 G) fun r7 G8 => flX1_tableShare_12 t 0 r7 G8
theorem wfX1_tableShare_0 {F : zF} (hd : 52 ≤ F.2.2.2) (t : Nat)  (G : GS) {a : (UInt32) × GS} (h : fX1_tableShare_0 t  G = some a) (hk : zKF F a) : J mX1_tableShare F G 0 [(0, vR (some t))] [] := by
  unfold fX1_tableShare_0 at h
  refine j_iconst (v := 0) dX1_tableShare_0 (by decide) ?_
  refine j_istore_n (lv' := [(1, vI 0), (0, vR (some t))]) dX1_tableShare_1 rfl (Nat.le_of_ble_eq_true rfl) rfl ?_
  refine j_aload_n (j := 1) dX1_tableShare_2 rfl rfl ?_
  replace h := zbE h
  obtain ⟨r1, e2, h⟩ := h
  refine j_getR fgX1_16 (fun _ _ _ => rfl) dX1_tableShare_3 e2 ?_
  replace h := zbE h
  obtain ⟨a3, e4, h⟩ := h
  subst e4
  replace h := zkE h
  obtain ⟨e5, h⟩ := h
  replace h := zb2E h
  obtain ⟨r7, G8, e6, h⟩ := h
  refine j_cont (zrF (As := []) msX1_288_J2 (yJ2_iterator_ok e6) (Nat.le_trans (Nat.le_of_ble_eq_true rfl) hd) (zk_12 _ e5) rfl rfl (Nat.le_of_ble_eq_true rfl) dX1_tableShare_6) ?_
  refine j_astore_n (lv' := [(2, vR r7), (1, vI 0), (0, vR (some t))]) dX1_tableShare_11 rfl (Nat.le_of_ble_eq_true rfl) rfl ?_
  exact J.sub (zall [2, 1, 0] rfl) (wflX1_tableShare_12 hd t 0 r7  G8 h hk)
theorem yX1_tableShare_ok {t : Nat} {G : GS} {r : UInt32} {G1 : GS} (h : fX1_tableShare_0 t G = some (r, G1)) : zRuns yX1_tableShare (ws_ yX1_tableShare cX1_tableShare 4 (some Jvm.ClassFile.FieldType.float)) [vR (some t)] (.inl (some (vF r)), G, G1, 52) :=
  zentry (M := mX1_tableShare) (plainFor_of_name (by decide +kernel)) ⟨rfl, rfl, rfl, rfl⟩ (Nat.le_of_ble_eq_true rfl) (wfX1_tableShare_0 (Nat.le_refl _) t G h ⟨rfl, rfl⟩)
abbrev mX1_tokenCount : zM := (cX1_tokenCount, RX1, 1, (some Jvm.ClassFile.FieldType.int), "tokenCount", [], "()I")
def fX1_tokenCount_0 (t : Nat)  (G : GS) : Option (Int32) :=
  (zgR G 1 t 3).bind fun r1 => zopt r1 (some 0) (fun a3 => (zgR G 1 t 3).bind fun r4 => r4.bind fun a6 => (zgR G 9 a6 2).bind fun r8 => r8.bind fun a10 => zk [12] G a10 <| (fJ2_size_0 a10 G).bind fun v14 => some v14)
theorem wfX1_tokenCount_0 {F : zF} (hd : 2 ≤ F.2.2.2) (t : Nat)  (G : GS) {a : Int32} (h : fX1_tokenCount_0 t  G = some a) (hk : zKPI F G a) : J mX1_tokenCount F G 0 [(0, vR (some t))] [] := by
  unfold fX1_tokenCount_0 at h
  refine j_aload_n (j := 0) dX1_tokenCount_0 rfl rfl ?_
  replace h := zbE h
  obtain ⟨r1, e2, h⟩ := h
  refine j_getR fgX1_43 (fun _ _ _ => rfl) dX1_tokenCount_1 e2 ?_
  rcases r1 with _ | a3
  · replace h := zopt_n h
    refine j_ifnonnull0 dX1_tokenCount_4 ?_
    refine j_iconst (v := 0) dX1_tokenCount_7 (by decide) ?_
    refine j_goto (tgt := 23) dX1_tokenCount_8 (by decide) ?_
    obtain rfl := Option.some.inj h
    exact j_iret hk.1 hk.2 rfl dX1_tokenCount_23
  · replace h := zopt_s h
    refine j_ifnonnull1 (tgt := 11) dX1_tokenCount_4 (by decide) ?_
    refine j_aload_n (j := 0) dX1_tokenCount_11 rfl rfl ?_
    replace h := zbE h
    obtain ⟨r4, e5, h⟩ := h
    refine j_getR fgX1_43 (fun _ _ _ => rfl) dX1_tokenCount_12 e5 ?_
    replace h := zbE h
    obtain ⟨a6, e7, h⟩ := h
    subst e7
    replace h := zbE h
    obtain ⟨r8, e9, h⟩ := h
    refine j_getR fgX1_210 (fun _ _ _ => rfl) dX1_tokenCount_15 e9 ?_
    replace h := zbE h
    obtain ⟨a10, e11, h⟩ := h
    subst e11
    replace h := zkE h
    obtain ⟨e12, h⟩ := h
    replace h := zbE h
    obtain ⟨v14, e13, h⟩ := h
    refine j_cont (zrF (As := []) msX1_54_J2 (yJ2_size_ok e13) (Nat.le_trans (Nat.le_of_ble_eq_true rfl) hd) (zk_12 _ e12) rfl rfl (Nat.le_of_ble_eq_true rfl) dX1_tokenCount_18) ?_
    obtain rfl := Option.some.inj h
    exact j_iret hk.1 hk.2 rfl dX1_tokenCount_23
theorem yX1_tokenCount_ok {t : Nat} {G : GS} {r : Int32} (h : fX1_tokenCount_0 t G = some r) : zRuns yX1_tokenCount (ws_ yX1_tokenCount cX1_tokenCount 1 (some Jvm.ClassFile.FieldType.int)) [vR (some t)] (.inl (some (vI r)), G, G, 2) :=
  zentry (M := mX1_tokenCount) (plainFor_of_name (by decide +kernel)) ⟨rfl, rfl, rfl, rfl⟩ (Nat.le_of_ble_eq_true rfl) (wfX1_tokenCount_0 (Nat.le_refl _) t G h ⟨rfl, rfl⟩)
theorem msX1_122 : zSN RX1 122 yX4_used "SelahGenerator" cX4_used 8 (some Jvm.ClassFile.FieldType.int) 1 := ⟨q283, q146, zxw 55 rfl, (by decide +kernel), (by decide)⟩
abbrev mX1_usedNonterminals : zM := (cX1_usedNonterminals, RX1, 1, (some Jvm.ClassFile.FieldType.int), "usedNonterminals", [], "()I")
def fX1_usedNonterminals_0 (t : Nat)  (G : GS) : Option ((Int32) × GS) :=
  (zgR G 1 t 0).bind fun r1 => zb2 (fX4_used_0 r1 G) fun v4 G5 => some (v4, G5)
theorem wfX1_usedNonterminals_0 {F : zF} (hd : 5 ≤ F.2.2.2) (t : Nat)  (G : GS) {a : (Int32) × GS} (h : fX1_usedNonterminals_0 t  G = some a) (hk : zKI F a) : J mX1_usedNonterminals F G 0 [(0, vR (some t))] [] := by
  unfold fX1_usedNonterminals_0 at h
  refine j_aload_n (j := 0) dX1_usedNonterminals_0 rfl rfl ?_
  replace h := zbE h
  obtain ⟨r1, e2, h⟩ := h
  refine j_getR fgX1_16 (fun _ _ _ => rfl) dX1_usedNonterminals_1 e2 ?_
  replace h := zb2E h
  obtain ⟨v4, G5, e3, h⟩ := h
  refine j_cont (zrSN (As := [vR r1]) msX1_122 q282 (yX4_used_ok e3) (Nat.le_trans (Nat.le_of_ble_eq_true rfl) hd) rfl rfl (Nat.le_of_ble_eq_true rfl) dX1_usedNonterminals_4) ?_
  obtain rfl := Option.some.inj h
  exact j_iret hk.1 hk.2 rfl dX1_usedNonterminals_7
theorem yX1_usedNonterminals_ok {t : Nat} {G : GS} {r : Int32} {G1 : GS} (h : fX1_usedNonterminals_0 t G = some (r, G1)) : zRuns yX1_usedNonterminals (ws_ yX1_usedNonterminals cX1_usedNonterminals 1 (some Jvm.ClassFile.FieldType.int)) [vR (some t)] (.inl (some (vI r)), G, G1, 5) :=
  zentry (M := mX1_usedNonterminals) (plainFor_of_name (by decide +kernel)) ⟨rfl, rfl, rfl, rfl⟩ (Nat.le_of_ble_eq_true rfl) (wfX1_usedNonterminals_0 (Nat.le_refl _) t G h ⟨rfl, rfl⟩)
theorem fgX1_267 : zFG RX1 267 9 2 (.boolean) := ⟨(RX11, TX11, 3, tyX11), rfl, by decide, in_X11, rfl, "SelahGenerator$Fault", Or.inl rfl, Or.inr ⟨_, zxw 74 rfl⟩⟩
abbrev mX1_wasSkipped : zM := (cX1_wasSkipped, RX1, 2, (some Jvm.ClassFile.FieldType.boolean), "wasSkipped", [], "(I)Z")
def fX1_wasSkipped_0 (t : Nat) (x1 : Int32)  (G : GS) : Option (((Int32) ⊕ String) × GS) :=
  zk [1] G t <| zb3 (fX1_fault_0 t x1 G) (fun r3 G4 => r3.bind fun a7 => (zgI G4 10 a7 2).bind fun v9 => zcond (zbb v9) (some (.inl v9, G4))) (fun X5 G6 => some (.inr X5, G6))
theorem wfX1_wasSkipped_0 {F : zF} (hd : 9 ≤ F.2.2.2) (t : Nat) (x1 : Int32)  (G : GS) {a : ((Int32) ⊕ String) × GS} (h : fX1_wasSkipped_0 t x1  G = some a) (hk : zKXI F a) : J mX1_wasSkipped F G 0 [(0, vR (some t)), (1, vI x1)] [] := by
  unfold fX1_wasSkipped_0 at h
  refine j_aload_n (j := 0) dX1_wasSkipped_0 rfl rfl ?_
  refine j_iload_n (j := 1) dX1_wasSkipped_1 rfl rfl ?_
  replace h := zkE h
  obtain ⟨e1, h⟩ := h
  replace h := zb3E h
  rcases h with ⟨r3, G4, e2, h⟩ | ⟨X5, G6, e2, h⟩
  · refine j_cont (zrV (As := [vI x1]) msX1_258 (yX1_fault_ok e2) (Nat.le_trans (Nat.le_of_ble_eq_true rfl) hd) (zk_1 _ e1) rfl rfl (Nat.le_of_ble_eq_true rfl) dX1_wasSkipped_2) ?_
    replace h := zbE h
    obtain ⟨a7, e8, h⟩ := h
    subst e8
    replace h := zbE h
    obtain ⟨v9, e10, h⟩ := h
    refine j_getI fgX1_267 (fun _ _ _ => rfl) dX1_wasSkipped_5 e10 ?_
    replace h := zcondE h
    obtain ⟨e11, h⟩ := h
    obtain rfl := Option.some.inj h
    exact j_zret hk.1 hk.2 rfl (zbb_n e11) dX1_wasSkipped_8
  · refine j_thr (zrV (As := [vI x1]) msX1_258 (yX1_fault_ok e2) (Nat.le_trans (Nat.le_of_ble_eq_true rfl) hd) (zk_1 _ e1) rfl rfl (Nat.le_of_ble_eq_true rfl) dX1_wasSkipped_2) ?_
    obtain rfl := Option.some.inj h
    exact jx_out hk.1 hk.2 (by decide)
theorem yX1_wasSkipped_ok {t : Nat} {x1 : Int32} {G : GS} {r : (Int32) ⊕ String} {G1 : GS} (h : fX1_wasSkipped_0 t x1 G = some (r, G1)) : zRuns yX1_wasSkipped (ws_ yX1_wasSkipped cX1_wasSkipped 2 (some Jvm.ClassFile.FieldType.boolean)) [vR (some t), vI x1] (zout (fun v => some (vI v)) r, G, G1, 9) :=
  zentry (M := mX1_wasSkipped) (plainFor_of_name (by decide +kernel)) ⟨rfl, rfl, rfl, rfl⟩ (Nat.le_of_ble_eq_true rfl) (wfX1_wasSkipped_0 (Nat.le_refl _) t x1 G h ⟨rfl, rfl⟩)
abbrev mJ15_rangeCheck : zM := (cJ15_rangeCheck, RJ15, 3, none, "rangeCheck", [], "(III)V")
def fJ15_rangeCheck_0 (x0 : Int32) (x1 : Int32) (x2 : Int32)  (G : GS) : Option (GS) :=
  if x1 ≤ x2 then (if 0 ≤ x1 then (if x2 ≤ x0 then (some G) else none) else none) else none
theorem wfJ15_rangeCheck_0 {F : zF} (hd : 18 ≤ F.2.2.2) (x0 : Int32) (x1 : Int32) (x2 : Int32)  (G : GS) {a : GS} (h : fJ15_rangeCheck_0 x0 x1 x2  G = some a) (hk : zKV F a) : J mJ15_rangeCheck F G 0 [(0, vI x0), (1, vI x1), (2, vI x2)] [] := by
  unfold fJ15_rangeCheck_0 at h
  refine j_iload_n (j := 1) dJ15_rangeCheck_0 rfl rfl ?_
  refine j_iload_n (j := 2) dJ15_rangeCheck_1 rfl rfl ?_
  refine j_icmp_le (tgt := 46) dJ15_rangeCheck_2 (by decide) (fun c1 => ?_) (fun c1 => ?_)
  · rw [if_pos c1] at h
    refine j_iload_n (j := 1) dJ15_rangeCheck_46 rfl rfl ?_
    refine j_if_ge (tgt := 59) dJ15_rangeCheck_47 (by decide) (fun c2 => ?_) (fun c2 => ?_)
    · rw [if_pos c2] at h
      refine j_iload_n (j := 2) dJ15_rangeCheck_59 rfl rfl ?_
      refine j_iload_n (j := 0) dJ15_rangeCheck_60 rfl rfl ?_
      refine j_icmp_le (tgt := 73) dJ15_rangeCheck_61 (by decide) (fun c3 => ?_) (fun c3 => ?_)
      · rw [if_pos c3] at h
        obtain rfl := Option.some.inj h
        exact j_vret hk.1 hk.2 rfl dJ15_rangeCheck_73
      · rw [if_neg c3] at h
        cases h
    · rw [if_neg c2] at h
      cases h
  · rw [if_neg c1] at h
    cases h
theorem yJ15_rangeCheck_ok {x0 : Int32} {x1 : Int32} {x2 : Int32} {G : GS} {G1 : GS} (h : fJ15_rangeCheck_0 x0 x1 x2 G = some G1) : zRuns yJ15_rangeCheck (ws_ yJ15_rangeCheck cJ15_rangeCheck 3 none) [vI x0, vI x1, vI x2] (.inl none, G, G1, 18) :=
  zentry (M := mJ15_rangeCheck) (plainFor_of_name (by decide +kernel)) ⟨rfl, rfl, rfl, rfl⟩ (Nat.le_of_ble_eq_true rfl) (wfJ15_rangeCheck_0 (Nat.le_refl _) x0 x1 x2 G h ⟨rfl, rfl⟩)
theorem msJ15_13 : zSS RJ15 13 yJ15_rangeCheck cJ15_rangeCheck 3 none 3 := ⟨lw_S q2626 q2627 q141 q2628, (by decide +kernel), (by decide)⟩
abbrev mJ15_fill_2 : zM := (cJ15_fill_2, RJ15, 5, none, "fill", [], "([BIIB)V")
def fbJ15_fill_2_10 (x0 : Option Nat) (x2 : Int32) (x3 : Int32) (x4 : Int32)  (G : GS) : Option ((Int32 × GS) ⊕ (GS)) :=
  if x2 ≤ x4 then (zo (some G)) else (x0.bind fun a2 => (zsB G 53 a2 x4 x3).bind fun G4 => some (.inl ((x4 + 1), G4)))
def flJ15_fill_2_10 (x0 : Option Nat) (x2 : Int32) (x3 : Int32) (x4 : Int32) (G : GS) : Option (GS) := zloop (fun s : Int32 × GS => fbJ15_fill_2_10 x0 x2 x3 s.1 s.2) (x4, G)
theorem wfbJ15_fill_2_10 {F : zF} (hd : 19 ≤ F.2.2.2) (x0 : Option Nat) (x2 : Int32) (x3 : Int32) (x4 : Int32) (G : GS) {a : (Int32 × GS) ⊕ (GS)} (h : fbJ15_fill_2_10 x0 x2 x3 x4 G = some a) (hk : (zcase (fun s : Int32 × GS => J mJ15_fill_2 F s.2 10 [(0, vR x0), (2, vI x2), (3, vI x3), (4, vI s.1)] []) (zKV F)) a) : J mJ15_fill_2 F G 10 [(0, vR x0), (2, vI x2), (3, vI x3), (4, vI x4)] [] := by
  unfold fbJ15_fill_2_10 at h
  refine j_iload (j := 3) dJ15_fill_2_10 rfl ?_
  refine j_iload_n (j := 1) dJ15_fill_2_12 rfl rfl ?_
  refine j_icmp_ge (tgt := 27) dJ15_fill_2_13 (by decide) (fun c1 => ?_) (fun c1 => ?_)
  · rw [if_pos c1] at h
    replace h := zoE h
    obtain ⟨a, h, rfl⟩ := h
    replace hk := hk
    obtain rfl := Option.some.inj h
    exact j_vret hk.1 hk.2 rfl dJ15_fill_2_27
  · rw [if_neg c1] at h
    refine j_aload_n (j := 0) dJ15_fill_2_16 rfl rfl ?_
    refine j_iload (j := 3) dJ15_fill_2_17 rfl ?_
    refine j_iload_n (j := 2) dJ15_fill_2_19 rfl rfl ?_
    replace h := zbE h
    obtain ⟨a2, e3, h⟩ := h
    subst e3
    replace h := zbE h
    obtain ⟨G4, e5, h⟩ := h
    refine j_bast e5 dJ15_fill_2_20 ?_
    refine j_iinc (j := 3) (v := (x4 + 1)) (lv' := [(4, vI (x4 + 1)), (0, vR (some a2)), (2, vI x2), (3, vI x3)]) dJ15_fill_2_21 rfl rfl (Nat.le_of_ble_eq_true rfl) rfl ?_
    refine j_goto (tgt := 10) dJ15_fill_2_24 (by decide) ?_
    obtain rfl := Option.some.inj h
    exact J.sub (zall [1, 2, 3, 0] rfl) hk
theorem wflJ15_fill_2_10 {F : zF} (hd : 19 ≤ F.2.2.2) (x0 : Option Nat) (x2 : Int32) (x3 : Int32) (x4 : Int32) (G : GS) {a : GS} (h : flJ15_fill_2_10 x0 x2 x3 x4 G = some a) (hk : zKV F a) : J mJ15_fill_2 F G 10 [(0, vR x0), (2, vI x2), (3, vI x3), (4, vI x4)] [] := by
  unfold flJ15_fill_2_10 at h
  exact zloop_walk (P := (fun s : Int32 × GS => J mJ15_fill_2 F s.2 10 [(0, vR x0), (2, vI x2), (3, vI x3), (4, vI s.1)] [])) (fun s b e hk => wfbJ15_fill_2_10 hd x0 x2 x3 s.1 s.2 e hk) (x4, G) _ h hk
def fJ15_fill_2_0 (x0 : Option Nat) (x1 : Int32) (x2 : Int32) (x3 : Int32)  (G : GS) : Option (GS) :=
  x0.bind fun a1 => (zln G a1).bind fun v3 => (fJ15_rangeCheck_0 v3 x1 x2 G).bind fun G6 => flJ15_fill_2_10 (some a1) x2 x3 x1 G6
theorem wfJ15_fill_2_0 {F : zF} (hd : 19 ≤ F.2.2.2) (x0 : Option Nat) (x1 : Int32) (x2 : Int32) (x3 : Int32)  (G : GS) {a : GS} (h : fJ15_fill_2_0 x0 x1 x2 x3  G = some a) (hk : zKV F a) : J mJ15_fill_2 F G 0 [(0, vR x0), (1, vI x1), (2, vI x2), (3, vI x3)] [] := by
  unfold fJ15_fill_2_0 at h
  refine j_aload_n (j := 0) dJ15_fill_2_0 rfl rfl ?_
  replace h := zbE h
  obtain ⟨a1, e2, h⟩ := h
  subst e2
  replace h := zbE h
  obtain ⟨v3, e4, h⟩ := h
  refine j_alen e4 dJ15_fill_2_1 ?_
  refine j_iload_n (j := 1) dJ15_fill_2_2 rfl rfl ?_
  refine j_iload_n (j := 2) dJ15_fill_2_3 rfl rfl ?_
  replace h := zbE h
  obtain ⟨G6, e5, h⟩ := h
  refine j_cont (zrS (As := [vI v3, vI x1, vI x2]) msJ15_13 (yJ15_rangeCheck_ok e5) (Nat.le_trans (Nat.le_of_ble_eq_true rfl) hd) rfl rfl (Nat.le_of_ble_eq_true rfl) dJ15_fill_2_4) ?_
  refine j_iload_n (j := 1) dJ15_fill_2_7 rfl rfl ?_
  refine j_istore (lv' := [(4, vI x1), (0, vR (some a1)), (1, vI x1), (2, vI x2), (3, vI x3)]) dJ15_fill_2_8 (Nat.le_of_ble_eq_true rfl) rfl ?_
  exact J.sub (zall [1, 3, 4, 0] rfl) (wflJ15_fill_2_10 hd (some a1) x2 x3 x1  G6 h hk)
theorem yJ15_fill_2_ok {x0 : Option Nat} {x1 : Int32} {x2 : Int32} {x3 : Int32} {G : GS} {G1 : GS} (h : fJ15_fill_2_0 x0 x1 x2 x3 G = some G1) : zRuns yJ15_fill_2 (ws_ yJ15_fill_2 cJ15_fill_2 5 none) [vR x0, vI x1, vI x2, vI x3] (.inl none, G, G1, 19) :=
  zentry (M := mJ15_fill_2) (plainFor_of_name (by decide +kernel)) ⟨rfl, rfl, rfl, rfl⟩ (Nat.le_of_ble_eq_true rfl) (wfJ15_fill_2_0 (Nat.le_refl _) x0 x1 x2 x3 G h ⟨rfl, rfl⟩)
theorem msJ29_236 : zSS RJ29 236 yJ15_fill_2 cJ15_fill_2 5 none 4 := ⟨lw_S q2623 q2624 q141 q2625, (by decide +kernel), (by decide)⟩
abbrev mJ29_fillNull : zM := (cJ29_fillNull, RJ29, 3, none, "fillNull", [], "([BII)V")
def fJ29_fillNull_0 (x0 : Option Nat) (x1 : Int32) (x2 : Int32)  (G : GS) : Option (GS) :=
  (fJ15_fill_2_0 x0 x1 x2 0 G).bind fun G2 => some G2
theorem wfJ29_fillNull_0 {F : zF} (hd : 20 ≤ F.2.2.2) (x0 : Option Nat) (x1 : Int32) (x2 : Int32)  (G : GS) {a : GS} (h : fJ29_fillNull_0 x0 x1 x2  G = some a) (hk : zKV F a) : J mJ29_fillNull F G 0 [(0, vR x0), (1, vI x1), (2, vI x2)] [] := by
  unfold fJ29_fillNull_0 at h
  refine j_aload_n (j := 0) dJ29_fillNull_0 rfl rfl ?_
  refine j_iload_n (j := 1) dJ29_fillNull_1 rfl rfl ?_
  refine j_iload_n (j := 2) dJ29_fillNull_2 rfl rfl ?_
  refine j_iconst (v := 0) dJ29_fillNull_3 (by decide) ?_
  replace h := zbE h
  obtain ⟨G2, e1, h⟩ := h
  refine j_cont (zrS (As := [vR x0, vI x1, vI x2, vI 0]) msJ29_236 (yJ15_fill_2_ok e1) (Nat.le_trans (Nat.le_of_ble_eq_true rfl) hd) rfl rfl (Nat.le_of_ble_eq_true rfl) dJ29_fillNull_4) ?_
  obtain rfl := Option.some.inj h
  exact j_vret hk.1 hk.2 rfl dJ29_fillNull_7
theorem yJ29_fillNull_ok {x0 : Option Nat} {x1 : Int32} {x2 : Int32} {G : GS} {G1 : GS} (h : fJ29_fillNull_0 x0 x1 x2 G = some G1) : zRuns yJ29_fillNull (ws_ yJ29_fillNull cJ29_fillNull 3 none) [vR x0, vI x1, vI x2] (.inl none, G, G1, 20) :=
  zentry (M := mJ29_fillNull) (plainFor_of_name (by decide +kernel)) ⟨rfl, rfl, rfl, rfl⟩ (Nat.le_of_ble_eq_true rfl) (wfJ29_fillNull_0 (Nat.le_refl _) x0 x1 x2 G h ⟨rfl, rfl⟩)
theorem msJ6_380 : zSS RJ6 380 yJ15_fill_2 cJ15_fill_2 5 none 4 := ⟨lw_S q2645 q2624 q141 q2625, (by decide +kernel), (by decide)⟩
abbrev mJ6_fillNull : zM := (cJ6_fillNull, RJ6, 3, none, "fillNull", [], "([BII)V")
def fJ6_fillNull_0 (x0 : Option Nat) (x1 : Int32) (x2 : Int32)  (G : GS) : Option (GS) :=
  (fJ15_fill_2_0 x0 (x1 <<< ((1 : Int32) &&& 31)) (x2 <<< ((1 : Int32) &&& 31)) 0 G).bind fun G2 => some G2
theorem wfJ6_fillNull_0 {F : zF} (hd : 20 ≤ F.2.2.2) (x0 : Option Nat) (x1 : Int32) (x2 : Int32)  (G : GS) {a : GS} (h : fJ6_fillNull_0 x0 x1 x2  G = some a) (hk : zKV F a) : J mJ6_fillNull F G 0 [(0, vR x0), (1, vI x1), (2, vI x2)] [] := by
  unfold fJ6_fillNull_0 at h
  refine j_aload_n (j := 0) dJ6_fillNull_0 rfl rfl ?_
  refine j_iload_n (j := 1) dJ6_fillNull_1 rfl rfl ?_
  refine j_iconst (v := 1) dJ6_fillNull_2 (by decide) ?_
  refine j_ishl dJ6_fillNull_3 ?_
  refine j_iload_n (j := 2) dJ6_fillNull_4 rfl rfl ?_
  refine j_iconst (v := 1) dJ6_fillNull_5 (by decide) ?_
  refine j_ishl dJ6_fillNull_6 ?_
  refine j_iconst (v := 0) dJ6_fillNull_7 (by decide) ?_
  replace h := zbE h
  obtain ⟨G2, e1, h⟩ := h
  refine j_cont (zrS (As := [vR x0, vI (x1 <<< ((1 : Int32) &&& 31)), vI (x2 <<< ((1 : Int32) &&& 31)), vI 0]) msJ6_380 (yJ15_fill_2_ok e1) (Nat.le_trans (Nat.le_of_ble_eq_true rfl) hd) rfl rfl (Nat.le_of_ble_eq_true rfl) dJ6_fillNull_8) ?_
  obtain rfl := Option.some.inj h
  exact j_vret hk.1 hk.2 rfl dJ6_fillNull_11
theorem yJ6_fillNull_ok {x0 : Option Nat} {x1 : Int32} {x2 : Int32} {G : GS} {G1 : GS} (h : fJ6_fillNull_0 x0 x1 x2 G = some G1) : zRuns yJ6_fillNull (ws_ yJ6_fillNull cJ6_fillNull 3 none) [vR x0, vI x1, vI x2] (.inl none, G, G1, 20) :=
  zentry (M := mJ6_fillNull) (plainFor_of_name (by decide +kernel)) ⟨rfl, rfl, rfl, rfl⟩ (Nat.le_of_ble_eq_true rfl) (wfJ6_fillNull_0 (Nat.le_refl _) x0 x1 x2 G h ⟨rfl, rfl⟩)
theorem fpJ3_73_J4 : zFP RJ3 73 21 2 (.boolean) false := ⟨(RJ4, TJ4, 4, tyJ4), rfl, by decide, in_J4, tyJ4_ok, nmJ4, rfl, rfl, (by decide), "java/lang/AbstractStringBuilder", Or.inl rfl, q232⟩
theorem msJ3_133 : zSS RJ3 133 yJ29_fillNull cJ29_fillNull 3 none 3 := ⟨lw_S q2620 q2621 q160 q2622, (by decide +kernel), (by decide)⟩
theorem msJ3_137 : zSS RJ3 137 yJ6_fillNull cJ6_fillNull 3 none 3 := ⟨lw_S q2642 q2643 q130 q2644, (by decide +kernel), (by decide)⟩
abbrev mJ3_setLength : zM := (cJ3_setLength, RJ3, 2, none, "setLength", [], "(I)V")
def fJ3_setLength_76 (t : Nat) (x1 : Int32)  (G : GS) : Option (GS) :=
  (zpI G 22 t 3 x1).bind fun G1 => some G1
theorem wfJ3_setLength_76 {F : zF} (hd : 21 ≤ F.2.2.2) (t : Nat) (x1 : Int32)  (G : GS) {a : GS} (h : fJ3_setLength_76 t x1  G = some a) (hk : zKV F a) : J mJ3_setLength F G 76 [(0, vR (some t)), (1, vI x1)] [] := by
  unfold fJ3_setLength_76 at h
  refine j_aload_n (j := 0) dJ3_setLength_76 rfl rfl ?_
  refine j_iload_n (j := 1) dJ3_setLength_77 rfl rfl ?_
  replace h := zbE h
  obtain ⟨G1, e2, h⟩ := h
  refine j_putI fpJ3_79_J4 (Or.inl rfl) rfl dJ3_setLength_78 e2 ?_
  obtain rfl := Option.some.inj h
  exact j_vret hk.1 hk.2 rfl dJ3_setLength_81
def fJ3_setLength_0 (t : Nat) (x1 : Int32)  (G : GS) : Option (GS) :=
  if 0 ≤ x1 then (zk [22] G t <| (fJ3_ensureCapacityInternal_0 t x1 G).bind fun G4 => (zgI G4 22 t 3).bind fun v5 => if x1 ≤ v5 then ((zgI G4 22 t 3).bind fun v8 => if v8 ≤ x1 then (fJ3_setLength_76 t x1 G4) else ((zpZ G4 22 t 2 1).bind fun G11 => fJ3_setLength_76 t x1 G11)) else (zk [22] G4 t <| (fJ3_isLatin1_0 t G4).bind fun v15 => if v15 = 0 then ((zgR G4 22 t 0).bind fun r17 => (zgI G4 22 t 3).bind fun v19 => (fJ6_fillNull_0 r17 v19 x1 G4).bind fun G22 => fJ3_setLength_76 t x1 G22) else ((zgR G4 22 t 0).bind fun r23 => (zgI G4 22 t 3).bind fun v25 => (fJ29_fillNull_0 r23 v25 x1 G4).bind fun G28 => fJ3_setLength_76 t x1 G28))) else none
theorem wfJ3_setLength_0 {F : zF} (hd : 21 ≤ F.2.2.2) (t : Nat) (x1 : Int32)  (G : GS) {a : GS} (h : fJ3_setLength_0 t x1  G = some a) (hk : zKV F a) : J mJ3_setLength F G 0 [(0, vR (some t)), (1, vI x1)] [] := by
  unfold fJ3_setLength_0 at h
  refine j_iload_n (j := 1) dJ3_setLength_0 rfl rfl ?_
  refine j_if_ge (tgt := 13) dJ3_setLength_1 (by decide) (fun c1 => ?_) (fun c1 => ?_)
  · rw [if_pos c1] at h
    refine j_aload_n (j := 0) dJ3_setLength_13 rfl rfl ?_
    refine j_iload_n (j := 1) dJ3_setLength_14 rfl rfl ?_
    replace h := zkE h
    obtain ⟨e2, h⟩ := h
    replace h := zbE h
    obtain ⟨G4, e3, h⟩ := h
    refine j_cont (zrP (As := [vI x1]) msJ3_100_J4 (yJ3_ensureCapacityInternal_ok e3) (Nat.le_trans (Nat.le_of_ble_eq_true rfl) hd) (zk_22 _ e2) rfl rfl (Nat.le_of_ble_eq_true rfl) dJ3_setLength_15) ?_
    refine j_aload_n (j := 0) dJ3_setLength_18 rfl rfl ?_
    replace h := zbE h
    obtain ⟨v5, e6, h⟩ := h
    refine j_getI fgJ3_79 (fun _ _ _ => rfl) dJ3_setLength_19 e6 ?_
    refine j_iload_n (j := 1) dJ3_setLength_22 rfl rfl ?_
    refine j_icmp_ge (tgt := 63) dJ3_setLength_23 (by decide) (fun c7 => ?_) (fun c7 => ?_)
    · rw [if_pos c7] at h
      refine j_aload_n (j := 0) dJ3_setLength_63 rfl rfl ?_
      replace h := zbE h
      obtain ⟨v8, e9, h⟩ := h
      refine j_getI fgJ3_79 (fun _ _ _ => rfl) dJ3_setLength_64 e9 ?_
      refine j_iload_n (j := 1) dJ3_setLength_67 rfl rfl ?_
      refine j_icmp_le (tgt := 76) dJ3_setLength_68 (by decide) (fun c10 => ?_) (fun c10 => ?_)
      · rw [if_pos c10] at h
        exact J.sub (zall [0, 1] rfl) (wfJ3_setLength_76 hd t x1  G4 h hk)
      · rw [if_neg c10] at h
        refine j_aload_n (j := 0) dJ3_setLength_71 rfl rfl ?_
        refine j_iconst (v := 1) dJ3_setLength_72 (by decide) ?_
        replace h := zbE h
        obtain ⟨G11, e12, h⟩ := h
        refine j_putZ fpJ3_73_J4 (Or.inl rfl) rfl dJ3_setLength_73 e12 ?_
        exact J.sub (zall [0, 1] rfl) (wfJ3_setLength_76 hd t x1  G11 h hk)
    · rw [if_neg c7] at h
      refine j_aload_n (j := 0) dJ3_setLength_26 rfl rfl ?_
      replace h := zkE h
      obtain ⟨e13, h⟩ := h
      replace h := zbE h
      obtain ⟨v15, e14, h⟩ := h
      refine j_cont (zrU (As := []) msJ3_83_J4 (yJ3_isLatin1_ok e14) (Nat.le_trans (Nat.le_of_ble_eq_true rfl) hd) (zk_22 _ e13) rfl rfl (Nat.le_of_ble_eq_true rfl) dJ3_setLength_27) ?_
      refine j_if_eq (tgt := 48) dJ3_setLength_30 (by decide) (fun c16 => ?_) (fun c16 => ?_)
      · rw [if_pos c16] at h
        refine j_aload_n (j := 0) dJ3_setLength_48 rfl rfl ?_
        replace h := zbE h
        obtain ⟨r17, e18, h⟩ := h
        refine j_getR fgJ3_15 (fun _ _ _ => rfl) dJ3_setLength_49 e18 ?_
        refine j_aload_n (j := 0) dJ3_setLength_52 rfl rfl ?_
        replace h := zbE h
        obtain ⟨v19, e20, h⟩ := h
        refine j_getI fgJ3_79 (fun _ _ _ => rfl) dJ3_setLength_53 e20 ?_
        refine j_iload_n (j := 1) dJ3_setLength_56 rfl rfl ?_
        replace h := zbE h
        obtain ⟨G22, e21, h⟩ := h
        refine j_cont (zrS (As := [vR r17, vI v19, vI x1]) msJ3_137 (yJ6_fillNull_ok e21) (Nat.le_trans (Nat.le_of_ble_eq_true rfl) hd) rfl rfl (Nat.le_of_ble_eq_true rfl) dJ3_setLength_57) ?_
        refine j_goto (tgt := 76) dJ3_setLength_60 (by decide) ?_
        exact J.sub (zall [0, 1] rfl) (wfJ3_setLength_76 hd t x1  G22 h hk)
      · rw [if_neg c16] at h
        refine j_aload_n (j := 0) dJ3_setLength_33 rfl rfl ?_
        replace h := zbE h
        obtain ⟨r23, e24, h⟩ := h
        refine j_getR fgJ3_15 (fun _ _ _ => rfl) dJ3_setLength_34 e24 ?_
        refine j_aload_n (j := 0) dJ3_setLength_37 rfl rfl ?_
        replace h := zbE h
        obtain ⟨v25, e26, h⟩ := h
        refine j_getI fgJ3_79 (fun _ _ _ => rfl) dJ3_setLength_38 e26 ?_
        refine j_iload_n (j := 1) dJ3_setLength_41 rfl rfl ?_
        replace h := zbE h
        obtain ⟨G28, e27, h⟩ := h
        refine j_cont (zrS (As := [vR r23, vI v25, vI x1]) msJ3_133 (yJ29_fillNull_ok e27) (Nat.le_trans (Nat.le_of_ble_eq_true rfl) hd) rfl rfl (Nat.le_of_ble_eq_true rfl) dJ3_setLength_42) ?_
        refine j_goto (tgt := 76) dJ3_setLength_45 (by decide) ?_
        exact J.sub (zall [0, 1] rfl) (wfJ3_setLength_76 hd t x1  G28 h hk)
  · rw [if_neg c1] at h
    cases h
theorem yJ3_setLength_ok {t : Nat} {x1 : Int32} {G : GS} {G1 : GS} (h : fJ3_setLength_0 t x1 G = some G1) : zRuns yJ3_setLength (ws_ yJ3_setLength cJ3_setLength 2 none) [vR (some t), vI x1] (.inl none, G, G1, 21) :=
  zentry (M := mJ3_setLength) (plainFor_of_name (by decide +kernel)) ⟨rfl, rfl, rfl, rfl⟩ (Nat.le_of_ble_eq_true rfl) (wfJ3_setLength_0 (Nat.le_refl _) t x1 G h ⟨rfl, rfl⟩)
theorem msJ4_333 : zSP RJ4 333 yJ3_setLength cJ3_setLength 2 none 1 := ⟨lw_SP q2598 q3288 q243 q2599 q127 q2600, (by decide +kernel), (by decide)⟩
abbrev mJ4_setLength : zM := (cJ4_setLength, RJ4, 2, none, "setLength", [], "(I)V")
def fJ4_setLength_0 (t : Nat) (x1 : Int32)  (G : GS) : Option (GS) :=
  zk [22] G t <| (fJ3_setLength_0 t x1 G).bind fun G3 => some G3
theorem wfJ4_setLength_0 {F : zF} (hd : 22 ≤ F.2.2.2) (t : Nat) (x1 : Int32)  (G : GS) {a : GS} (h : fJ4_setLength_0 t x1  G = some a) (hk : zKV F a) : J mJ4_setLength F G 0 [(0, vR (some t)), (1, vI x1)] [] := by
  unfold fJ4_setLength_0 at h
  refine j_aload_n (j := 0) dJ4_setLength_0 rfl rfl ?_
  refine j_iload_n (j := 1) dJ4_setLength_1 rfl rfl ?_
  replace h := zkE h
  obtain ⟨e1, h⟩ := h
  replace h := zbE h
  obtain ⟨G3, e2, h⟩ := h
  refine j_cont (zrSP (As := [vI x1]) msJ4_333 ⟨21, _, rfl, rfl⟩ (yJ3_setLength_ok e2) (Nat.le_trans (Nat.le_of_ble_eq_true rfl) hd) (zk_22 _ e1) rfl rfl (Nat.le_of_ble_eq_true rfl) dJ4_setLength_2) ?_
  obtain rfl := Option.some.inj h
  exact j_vret hk.1 hk.2 rfl dJ4_setLength_5
theorem yJ4_setLength_ok {t : Nat} {x1 : Int32} {G : GS} {G1 : GS} (h : fJ4_setLength_0 t x1 G = some G1) : zRuns yJ4_setLength (ws_ yJ4_setLength cJ4_setLength 2 none) [vR (some t), vI x1] (.inl none, G, G1, 22) :=
  zentry (M := mJ4_setLength) (plainFor_of_name (by decide +kernel)) ⟨rfl, rfl, rfl, rfl⟩ (Nat.le_of_ble_eq_true rfl) (wfJ4_setLength_0 (Nat.le_refl _) t x1 G h ⟨rfl, rfl⟩)
abbrev mJ29_canEncode : zM := (cJ29_canEncode, RJ29, 1, (some Jvm.ClassFile.FieldType.boolean), "canEncode", [], "(C)Z")
def fJ29_canEncode_0 (x0 : Int32)  (G : GS) : Option (Int32) :=
  if 255 < x0 then (zcond (zbb 0) (some 0)) else (zcond (zbb 1) (some 1))
theorem wfJ29_canEncode_0 {F : zF} (hd : 1 ≤ F.2.2.2) (x0 : Int32)  (G : GS) {a : Int32} (h : fJ29_canEncode_0 x0  G = some a) (hk : zKPI F G a) : J mJ29_canEncode F G 0 [(0, vI x0)] [] := by
  unfold fJ29_canEncode_0 at h
  refine j_iload_n (j := 0) dJ29_canEncode_0 rfl rfl ?_
  refine j_sipush (v := 255) dJ29_canEncode_1 (by decide) ?_
  refine j_icmp_gt (tgt := 11) dJ29_canEncode_4 (by decide) (fun c1 => ?_) (fun c1 => ?_)
  · rw [if_pos c1] at h
    refine j_iconst (v := 0) dJ29_canEncode_11 (by decide) ?_
    replace h := zcondE h
    obtain ⟨e2, h⟩ := h
    obtain rfl := Option.some.inj h
    exact j_zret hk.1 hk.2 rfl (zbb_n e2) dJ29_canEncode_12
  · rw [if_neg c1] at h
    refine j_iconst (v := 1) dJ29_canEncode_7 (by decide) ?_
    refine j_goto (tgt := 12) dJ29_canEncode_8 (by decide) ?_
    replace h := zcondE h
    obtain ⟨e3, h⟩ := h
    obtain rfl := Option.some.inj h
    exact j_zret hk.1 hk.2 rfl (zbb_n e3) dJ29_canEncode_12
theorem yJ29_canEncode_ok {x0 : Int32} {G : GS} {r : Int32} (h : fJ29_canEncode_0 x0 G = some r) : zRuns yJ29_canEncode (ws_ yJ29_canEncode cJ29_canEncode 1 (some Jvm.ClassFile.FieldType.boolean)) [vI x0] (.inl (some (vI r)), G, G, 1) :=
  zentry (M := mJ29_canEncode) (plainFor_of_name (by decide +kernel)) ⟨rfl, rfl, rfl, rfl⟩ (Nat.le_of_ble_eq_true rfl) (wfJ29_canEncode_0 (Nat.le_refl _) x0 G h ⟨rfl, rfl⟩)
theorem msJ6_414 : zSS RJ6 414 yJ5_checkIndex cJ5_checkIndex 2 none 2 := ⟨lw_S q2665 q1662 q129 q1663, (by decide +kernel), (by decide)⟩
abbrev mJ6_checkIndex : zM := (cJ6_checkIndex, RJ6, 2, none, "checkIndex", [], "(I[B)V")
def fJ6_checkIndex_0 (x0 : Int32) (x1 : Option Nat)  (G : GS) : Option (GS) :=
  (fJ6_length_0 x1 G).bind fun v2 => (fJ5_checkIndex_0 x0 v2 G).bind fun G4 => some G4
theorem wfJ6_checkIndex_0 {F : zF} (hd : 3 ≤ F.2.2.2) (x0 : Int32) (x1 : Option Nat)  (G : GS) {a : GS} (h : fJ6_checkIndex_0 x0 x1  G = some a) (hk : zKV F a) : J mJ6_checkIndex F G 0 [(0, vI x0), (1, vR x1)] [] := by
  unfold fJ6_checkIndex_0 at h
  refine j_iload_n (j := 0) dJ6_checkIndex_0 rfl rfl ?_
  refine j_aload_n (j := 1) dJ6_checkIndex_1 rfl rfl ?_
  replace h := zbE h
  obtain ⟨v2, e1, h⟩ := h
  refine j_cont (zrS (As := [vR x1]) msJ6_48 (yJ6_length_ok e1) (Nat.le_trans (Nat.le_of_ble_eq_true rfl) hd) rfl rfl (Nat.le_of_ble_eq_true rfl) dJ6_checkIndex_2) ?_
  replace h := zbE h
  obtain ⟨G4, e3, h⟩ := h
  refine j_cont (zrS (As := [vI x0, vI v2]) msJ6_414 (yJ5_checkIndex_ok e3) (Nat.le_trans (Nat.le_of_ble_eq_true rfl) hd) rfl rfl (Nat.le_of_ble_eq_true rfl) dJ6_checkIndex_5) ?_
  obtain rfl := Option.some.inj h
  exact j_vret hk.1 hk.2 rfl dJ6_checkIndex_8
theorem yJ6_checkIndex_ok {x0 : Int32} {x1 : Option Nat} {G : GS} {G1 : GS} (h : fJ6_checkIndex_0 x0 x1 G = some G1) : zRuns yJ6_checkIndex (ws_ yJ6_checkIndex cJ6_checkIndex 2 none) [vI x0, vR x1] (.inl none, G, G1, 3) :=
  zentry (M := mJ6_checkIndex) (plainFor_of_name (by decide +kernel)) ⟨rfl, rfl, rfl, rfl⟩ (Nat.le_of_ble_eq_true rfl) (wfJ6_checkIndex_0 (Nat.le_refl _) x0 x1 G h ⟨rfl, rfl⟩)
theorem msJ6_67 : zSS RJ6 67 yJ6_checkIndex cJ6_checkIndex 2 none 2 := ⟨lw_S q2662 q2663 q130 q2664, (by decide +kernel), (by decide)⟩
abbrev mJ6_putCharSB : zM := (cJ6_putCharSB, RJ6, 3, none, "putCharSB", [], "([BII)V")
def fJ6_putCharSB_0 (x0 : Option Nat) (x1 : Int32) (x2 : Int32)  (G : GS) : Option (GS) :=
  (fJ6_checkIndex_0 x1 x0 G).bind fun G2 => (fJ6_putChar_0 x0 x1 x2 G2).bind fun G4 => some G4
theorem wfJ6_putCharSB_0 {F : zF} (hd : 4 ≤ F.2.2.2) (x0 : Option Nat) (x1 : Int32) (x2 : Int32)  (G : GS) {a : GS} (h : fJ6_putCharSB_0 x0 x1 x2  G = some a) (hk : zKV F a) : J mJ6_putCharSB F G 0 [(0, vR x0), (1, vI x1), (2, vI x2)] [] := by
  unfold fJ6_putCharSB_0 at h
  refine j_iload_n (j := 1) dJ6_putCharSB_0 rfl rfl ?_
  refine j_aload_n (j := 0) dJ6_putCharSB_1 rfl rfl ?_
  replace h := zbE h
  obtain ⟨G2, e1, h⟩ := h
  refine j_cont (zrS (As := [vI x1, vR x0]) msJ6_67 (yJ6_checkIndex_ok e1) (Nat.le_trans (Nat.le_of_ble_eq_true rfl) hd) rfl rfl (Nat.le_of_ble_eq_true rfl) dJ6_putCharSB_2) ?_
  refine j_aload_n (j := 0) dJ6_putCharSB_5 rfl rfl ?_
  refine j_iload_n (j := 1) dJ6_putCharSB_6 rfl rfl ?_
  refine j_iload_n (j := 2) dJ6_putCharSB_7 rfl rfl ?_
  replace h := zbE h
  obtain ⟨G4, e3, h⟩ := h
  refine j_cont (zrS (As := [vR x0, vI x1, vI x2]) msJ6_111 (yJ6_putChar_ok e3) (Nat.le_trans (Nat.le_of_ble_eq_true rfl) hd) rfl rfl (Nat.le_of_ble_eq_true rfl) dJ6_putCharSB_8) ?_
  obtain rfl := Option.some.inj h
  exact j_vret hk.1 hk.2 rfl dJ6_putCharSB_11
theorem yJ6_putCharSB_ok {x0 : Option Nat} {x1 : Int32} {x2 : Int32} {G : GS} {G1 : GS} (h : fJ6_putCharSB_0 x0 x1 x2 G = some G1) : zRuns yJ6_putCharSB (ws_ yJ6_putCharSB cJ6_putCharSB 3 none) [vR x0, vI x1, vI x2] (.inl none, G, G1, 4) :=
  zentry (M := mJ6_putCharSB) (plainFor_of_name (by decide +kernel)) ⟨rfl, rfl, rfl, rfl⟩ (Nat.le_of_ble_eq_true rfl) (wfJ6_putCharSB_0 (Nat.le_refl _) x0 x1 x2 G h ⟨rfl, rfl⟩)
theorem msJ3_191 : zSS RJ3 191 yJ29_canEncode cJ29_canEncode 1 (some Jvm.ClassFile.FieldType.boolean) 1 := ⟨lw_S q2656 q2657 q160 q2658, (by decide +kernel), (by decide)⟩
theorem msJ3_197 : zSS RJ3 197 yJ6_putCharSB cJ6_putCharSB 3 none 3 := ⟨lw_S q2659 q2660 q130 q2661, (by decide +kernel), (by decide)⟩
abbrev mJ3_append_3 : zM := (cJ3_append_3, RJ3, 2, (some (Jvm.ClassFile.FieldType.object "java/lang/AbstractStringBuilder")), "append", [], "(C)Ljava/lang/AbstractStringBuilder;")
def fJ3_append_3_56 (t : Nat) (x1 : Int32)  (G : GS) : Option ((Option Nat) × GS) :=
  (zgR G 22 t 0).bind fun r1 => (zgI G 22 t 3).bind fun v3 => (zpI G 22 t 3 (v3 + 1)).bind fun G5 => (fJ6_putCharSB_0 r1 v3 x1 G5).bind fun G8 => some ((some t), G8)
theorem wfJ3_append_3_56 {F : zF} (hd : 7 ≤ F.2.2.2) (t : Nat) (x1 : Int32)  (G : GS) {a : (Option Nat) × GS} (h : fJ3_append_3_56 t x1  G = some a) (hk : zKR F a) : J mJ3_append_3 F G 56 [(0, vR (some t)), (1, vI x1)] [] := by
  unfold fJ3_append_3_56 at h
  refine j_aload_n (j := 0) dJ3_append_3_56 rfl rfl ?_
  replace h := zbE h
  obtain ⟨r1, e2, h⟩ := h
  refine j_getR fgJ3_15 (fun _ _ _ => rfl) dJ3_append_3_57 e2 ?_
  refine j_aload_n (j := 0) dJ3_append_3_60 rfl rfl ?_
  refine j_dup dJ3_append_3_61 rfl ?_
  replace h := zbE h
  obtain ⟨v3, e4, h⟩ := h
  refine j_getI fgJ3_79 (fun _ _ _ => rfl) dJ3_append_3_62 e4 ?_
  refine j_dup_x1 dJ3_append_3_65 rfl rfl ?_
  refine j_iconst (v := 1) dJ3_append_3_66 (by decide) ?_
  refine j_iadd dJ3_append_3_67 ?_
  replace h := zbE h
  obtain ⟨G5, e6, h⟩ := h
  refine j_putI fpJ3_79_J4 (Or.inl rfl) rfl dJ3_append_3_68 e6 ?_
  refine j_iload_n (j := 1) dJ3_append_3_71 rfl rfl ?_
  replace h := zbE h
  obtain ⟨G8, e7, h⟩ := h
  refine j_cont (zrS (As := [vR r1, vI v3, vI x1]) msJ3_197 (yJ6_putCharSB_ok e7) (Nat.le_trans (Nat.le_of_ble_eq_true rfl) hd) rfl rfl (Nat.le_of_ble_eq_true rfl) dJ3_append_3_72) ?_
  refine j_aload_n (j := 0) dJ3_append_3_75 rfl rfl ?_
  obtain rfl := Option.some.inj h
  exact j_aret hk.1 hk.2 rfl (Or.inl ⟨_, rfl⟩) dJ3_append_3_76
def fJ3_append_3_45 (t : Nat) (x1 : Int32)  (G : GS) : Option ((Option Nat) × GS) :=
  zk [22] G t <| (fJ3_isLatin1_0 t G).bind fun v3 => if v3 = 0 then (fJ3_append_3_56 t x1 G) else none
theorem wfJ3_append_3_45 {F : zF} (hd : 7 ≤ F.2.2.2) (t : Nat) (x1 : Int32)  (G : GS) {a : (Option Nat) × GS} (h : fJ3_append_3_45 t x1  G = some a) (hk : zKR F a) : J mJ3_append_3 F G 45 [(0, vR (some t)), (1, vI x1)] [] := by
  unfold fJ3_append_3_45 at h
  refine j_aload_n (j := 0) dJ3_append_3_45 rfl rfl ?_
  replace h := zkE h
  obtain ⟨e1, h⟩ := h
  replace h := zbE h
  obtain ⟨v3, e2, h⟩ := h
  refine j_cont (zrU (As := []) msJ3_83_J4 (yJ3_isLatin1_ok e2) (Nat.le_trans (Nat.le_of_ble_eq_true rfl) hd) (zk_22 _ e1) rfl rfl (Nat.le_of_ble_eq_true rfl) dJ3_append_3_46) ?_
  refine j_if_eq (tgt := 56) dJ3_append_3_49 (by decide) (fun c4 => ?_) (fun c4 => ?_)
  · rw [if_pos c4] at h
    exact J.sub (zall [0, 1] rfl) (wfJ3_append_3_56 hd t x1  G h hk)
  · rw [if_neg c4] at h
    refine j_aload_n (j := 0) dJ3_append_3_52 rfl rfl ?_
    cases h
def fJ3_append_3_0 (t : Nat) (x1 : Int32)  (G : GS) : Option ((Option Nat) × GS) :=
  (zgI G 22 t 3).bind fun v1 => zk [22] G t <| (fJ3_ensureCapacityInternal_0 t (v1 + 1) G).bind fun G5 => zk [22] G5 t <| (fJ3_isLatin1_0 t G5).bind fun v8 => if v8 = 0 then (fJ3_append_3_45 t x1 G5) else ((fJ29_canEncode_0 x1 G5).bind fun v11 => if v11 = 0 then (fJ3_append_3_45 t x1 G5) else ((zgR G5 22 t 0).bind fun r13 => (zgI G5 22 t 3).bind fun v15 => (zpI G5 22 t 3 (v15 + 1)).bind fun G17 => r13.bind fun a19 => (zsB G17 53 a19 v15 x1.toInt8.toInt32).bind fun G21 => some ((some t), G21)))
theorem wfJ3_append_3_0 {F : zF} (hd : 7 ≤ F.2.2.2) (t : Nat) (x1 : Int32)  (G : GS) {a : (Option Nat) × GS} (h : fJ3_append_3_0 t x1  G = some a) (hk : zKR F a) : J mJ3_append_3 F G 0 [(0, vR (some t)), (1, vI x1)] [] := by
  unfold fJ3_append_3_0 at h
  refine j_aload_n (j := 0) dJ3_append_3_0 rfl rfl ?_
  refine j_aload_n (j := 0) dJ3_append_3_1 rfl rfl ?_
  replace h := zbE h
  obtain ⟨v1, e2, h⟩ := h
  refine j_getI fgJ3_79 (fun _ _ _ => rfl) dJ3_append_3_2 e2 ?_
  refine j_iconst (v := 1) dJ3_append_3_5 (by decide) ?_
  refine j_iadd dJ3_append_3_6 ?_
  replace h := zkE h
  obtain ⟨e3, h⟩ := h
  replace h := zbE h
  obtain ⟨G5, e4, h⟩ := h
  refine j_cont (zrP (As := [vI (v1 + 1)]) msJ3_100_J4 (yJ3_ensureCapacityInternal_ok e4) (Nat.le_trans (Nat.le_of_ble_eq_true rfl) hd) (zk_22 _ e3) rfl rfl (Nat.le_of_ble_eq_true rfl) dJ3_append_3_7) ?_
  refine j_aload_n (j := 0) dJ3_append_3_10 rfl rfl ?_
  replace h := zkE h
  obtain ⟨e6, h⟩ := h
  replace h := zbE h
  obtain ⟨v8, e7, h⟩ := h
  refine j_cont (zrU (As := []) msJ3_83_J4 (yJ3_isLatin1_ok e7) (Nat.le_trans (Nat.le_of_ble_eq_true rfl) hd) (zk_22 _ e6) rfl rfl (Nat.le_of_ble_eq_true rfl) dJ3_append_3_11) ?_
  refine j_if_eq (tgt := 45) dJ3_append_3_14 (by decide) (fun c9 => ?_) (fun c9 => ?_)
  · rw [if_pos c9] at h
    exact J.sub (zall [0, 1] rfl) (wfJ3_append_3_45 hd t x1  G5 h hk)
  · rw [if_neg c9] at h
    refine j_iload_n (j := 1) dJ3_append_3_17 rfl rfl ?_
    replace h := zbE h
    obtain ⟨v11, e10, h⟩ := h
    refine j_cont (zrS (As := [vI x1]) msJ3_191 (yJ29_canEncode_ok e10) (Nat.le_trans (Nat.le_of_ble_eq_true rfl) hd) rfl rfl (Nat.le_of_ble_eq_true rfl) dJ3_append_3_18) ?_
    refine j_if_eq (tgt := 45) dJ3_append_3_21 (by decide) (fun c12 => ?_) (fun c12 => ?_)
    · rw [if_pos c12] at h
      exact J.sub (zall [0, 1] rfl) (wfJ3_append_3_45 hd t x1  G5 h hk)
    · rw [if_neg c12] at h
      refine j_aload_n (j := 0) dJ3_append_3_24 rfl rfl ?_
      replace h := zbE h
      obtain ⟨r13, e14, h⟩ := h
      refine j_getR fgJ3_15 (fun _ _ _ => rfl) dJ3_append_3_25 e14 ?_
      refine j_aload_n (j := 0) dJ3_append_3_28 rfl rfl ?_
      refine j_dup dJ3_append_3_29 rfl ?_
      replace h := zbE h
      obtain ⟨v15, e16, h⟩ := h
      refine j_getI fgJ3_79 (fun _ _ _ => rfl) dJ3_append_3_30 e16 ?_
      refine j_dup_x1 dJ3_append_3_33 rfl rfl ?_
      refine j_iconst (v := 1) dJ3_append_3_34 (by decide) ?_
      refine j_iadd dJ3_append_3_35 ?_
      replace h := zbE h
      obtain ⟨G17, e18, h⟩ := h
      refine j_putI fpJ3_79_J4 (Or.inl rfl) rfl dJ3_append_3_36 e18 ?_
      refine j_iload_n (j := 1) dJ3_append_3_39 rfl rfl ?_
      refine j_i2b dJ3_append_3_40 ?_
      replace h := zbE h
      obtain ⟨a19, e20, h⟩ := h
      subst e20
      replace h := zbE h
      obtain ⟨G21, e22, h⟩ := h
      refine j_bast e22 dJ3_append_3_41 ?_
      refine j_goto (tgt := 75) dJ3_append_3_42 (by decide) ?_
      refine j_aload_n (j := 0) dJ3_append_3_75 rfl rfl ?_
      obtain rfl := Option.some.inj h
      exact j_aret hk.1 hk.2 rfl (Or.inl ⟨_, rfl⟩) dJ3_append_3_76
theorem yJ3_append_3_ok {t : Nat} {x1 : Int32} {G : GS} {r : Option Nat} {G1 : GS} (h : fJ3_append_3_0 t x1 G = some (r, G1)) : zRuns yJ3_append_3 (ws_ yJ3_append_3 cJ3_append_3 2 (some (Jvm.ClassFile.FieldType.object "java/lang/AbstractStringBuilder"))) [vR (some t), vI x1] (.inl (some (vR r)), G, G1, 7) :=
  zentry (M := mJ3_append_3) (plainFor_of_name (by decide +kernel)) ⟨rfl, rfl, rfl, rfl⟩ (Nat.le_of_ble_eq_true rfl) (wfJ3_append_3_0 (Nat.le_refl _) t x1 G h ⟨rfl, rfl⟩)
theorem msJ4_50 : zSP RJ4 50 yJ3_append_3 cJ3_append_3 2 (some (Jvm.ClassFile.FieldType.object "java/lang/AbstractStringBuilder")) 1 := ⟨lw_SP q2653 q3289 q243 q2654 q127 q2655, (by decide +kernel), (by decide)⟩
abbrev mJ4_append_3 : zM := (cJ4_append_3, RJ4, 2, (some (Jvm.ClassFile.FieldType.object "java/lang/StringBuilder")), "append", [], "(C)Ljava/lang/StringBuilder;")
def fJ4_append_3_0 (t : Nat) (x1 : Int32)  (G : GS) : Option ((Option Nat) × GS) :=
  zk [22] G t <| zb2 (fJ3_append_3_0 t x1 G) fun r3 G4 => some ((some t), G4)
theorem wfJ4_append_3_0 {F : zF} (hd : 8 ≤ F.2.2.2) (t : Nat) (x1 : Int32)  (G : GS) {a : (Option Nat) × GS} (h : fJ4_append_3_0 t x1  G = some a) (hk : zKR F a) : J mJ4_append_3 F G 0 [(0, vR (some t)), (1, vI x1)] [] := by
  unfold fJ4_append_3_0 at h
  refine j_aload_n (j := 0) dJ4_append_3_0 rfl rfl ?_
  refine j_iload_n (j := 1) dJ4_append_3_1 rfl rfl ?_
  replace h := zkE h
  obtain ⟨e1, h⟩ := h
  replace h := zb2E h
  obtain ⟨r3, G4, e2, h⟩ := h
  refine j_cont (zrSP (As := [vI x1]) msJ4_50 ⟨21, _, rfl, rfl⟩ (yJ3_append_3_ok e2) (Nat.le_trans (Nat.le_of_ble_eq_true rfl) hd) (zk_22 _ e1) rfl rfl (Nat.le_of_ble_eq_true rfl) dJ4_append_3_2) ?_
  refine j_pop dJ4_append_3_5 rfl ?_
  refine j_aload_n (j := 0) dJ4_append_3_6 rfl rfl ?_
  obtain rfl := Option.some.inj h
  exact j_aret hk.1 hk.2 rfl (Or.inl ⟨_, rfl⟩) dJ4_append_3_7
theorem yJ4_append_3_ok {t : Nat} {x1 : Int32} {G : GS} {r : Option Nat} {G1 : GS} (h : fJ4_append_3_0 t x1 G = some (r, G1)) : zRuns yJ4_append_3 (ws_ yJ4_append_3 cJ4_append_3 2 (some (Jvm.ClassFile.FieldType.object "java/lang/StringBuilder"))) [vR (some t), vI x1] (.inl (some (vR r)), G, G1, 8) :=
  zentry (M := mJ4_append_3) (plainFor_of_name (by decide +kernel)) ⟨rfl, rfl, rfl, rfl⟩ (Nat.le_of_ble_eq_true rfl) (wfJ4_append_3_0 (Nat.le_refl _) t x1 G h ⟨rfl, rfl⟩)
theorem msX1_302 : zSV RX1 302 RJ4 yJ4_setLength cJ4_setLength 2 none 1 := ⟨lw_V q2594 q2595 q2596 q128 q2597, (by decide +kernel), (by decide)⟩
theorem msX1_306 : zSS RX1 306 yX1_letter cX1_letter 1 (some Jvm.ClassFile.FieldType.char) 1 := ⟨lw_S q2646 q2647 q123 q2648, (by decide +kernel), (by decide)⟩
theorem msX1_310 : zSV RX1 310 RJ4 yJ4_append_3 cJ4_append_3 2 (some (Jvm.ClassFile.FieldType.object "java/lang/StringBuilder")) 1 := ⟨lw_V q2649 q2650 q2651 q128 q2652, (by decide +kernel), (by decide)⟩
abbrev mX1_writeRule : zM := (cX1_writeRule, RX1, 7, (some Jvm.ClassFile.FieldType.int), "writeRule", [], "(I)I")
def fX1_writeRule_78 (t : Nat)  (G : GS) : Option (((Int32) ⊕ String) × GS) :=
  (zgR G 1 t 4).bind fun r1 => r1.bind fun a3 => zk [22] G a3 <| (fJ4_length_0 a3 G).bind fun v7 => some (.inl v7, G)
theorem wfX1_writeRule_78 {F : zF} (hd : 23 ≤ F.2.2.2) (t : Nat)  (G : GS) {a : ((Int32) ⊕ String) × GS} (h : fX1_writeRule_78 t  G = some a) (hk : zKXI F a) : J mX1_writeRule F G 78 [(0, vR (some t))] [] := by
  unfold fX1_writeRule_78 at h
  refine j_aload_n (j := 0) dX1_writeRule_78 rfl rfl ?_
  replace h := zbE h
  obtain ⟨r1, e2, h⟩ := h
  refine j_getR fgX1_23 (fun _ _ _ => rfl) dX1_writeRule_79 e2 ?_
  replace h := zbE h
  obtain ⟨a3, e4, h⟩ := h
  subst e4
  replace h := zkE h
  obtain ⟨e5, h⟩ := h
  replace h := zbE h
  obtain ⟨v7, e6, h⟩ := h
  refine j_cont (zrV (As := []) msX1_314 (yJ4_length_ok e6) (Nat.le_trans (Nat.le_of_ble_eq_true rfl) hd) (zk_22 _ e5) rfl rfl (Nat.le_of_ble_eq_true rfl) dX1_writeRule_82) ?_
  obtain rfl := Option.some.inj h
  exact j_iret hk.1 hk.2 rfl dX1_writeRule_85
def fbX1_writeRule_46 (t : Nat) (x3 : Option Nat) (x4 : Int32) (x5 : Int32)  (G : GS) : Option ((Int32 × GS) ⊕ (((Int32) ⊕ String) × GS)) :=
  if x4 ≤ x5 then (zo (fX1_writeRule_78 t G)) else (x3.bind fun a2 => (zaI G 50 a2 x5).bind fun v4 => (zgR G 1 t 4).bind fun r6 => (fX1_letter_0 v4 G).bind fun v9 => r6.bind fun a10 => zk [22] G a10 <| zb2 (fJ4_append_3_0 a10 v9 G) fun r14 G15 => some (.inl ((x5 + 1), G15)))
def flX1_writeRule_46 (t : Nat) (x3 : Option Nat) (x4 : Int32) (x5 : Int32) (G : GS) : Option (((Int32) ⊕ String) × GS) := zloop (fun s : Int32 × GS => fbX1_writeRule_46 t x3 x4 s.1 s.2) (x5, G)
theorem wfbX1_writeRule_46 {F : zF} (hd : 23 ≤ F.2.2.2) (t : Nat) (x3 : Option Nat) (x4 : Int32) (x5 : Int32) (G : GS) {a : (Int32 × GS) ⊕ (((Int32) ⊕ String) × GS)} (h : fbX1_writeRule_46 t x3 x4 x5 G = some a) (hk : (zcase (fun s : Int32 × GS => J mX1_writeRule F s.2 46 [(0, vR (some t)), (3, vR x3), (4, vI x4), (5, vI s.1)] []) (zKXI F)) a) : J mX1_writeRule F G 46 [(0, vR (some t)), (3, vR x3), (4, vI x4), (5, vI x5)] [] := by
  unfold fbX1_writeRule_46 at h
  refine j_iload (j := 3) dX1_writeRule_46 rfl ?_
  refine j_iload (j := 2) dX1_writeRule_48 rfl ?_
  refine j_icmp_ge (tgt := 78) dX1_writeRule_50 (by decide) (fun c1 => ?_) (fun c1 => ?_)
  · rw [if_pos c1] at h
    replace h := zoE h
    obtain ⟨a, h, rfl⟩ := h
    replace hk := hk
    exact J.sub (zall [0] rfl) (wfX1_writeRule_78 hd t  G h hk)
  · rw [if_neg c1] at h
    refine j_aload_n (j := 1) dX1_writeRule_53 rfl rfl ?_
    refine j_iload (j := 3) dX1_writeRule_54 rfl ?_
    replace h := zbE h
    obtain ⟨a2, e3, h⟩ := h
    subst e3
    replace h := zbE h
    obtain ⟨v4, e5, h⟩ := h
    refine j_iald (Or.inl rfl) e5 dX1_writeRule_56 ?_
    refine j_istore (lv' := [(6, vI v4), (0, vR (some t)), (3, vR (some a2)), (4, vI x4), (5, vI x5)]) dX1_writeRule_57 (Nat.le_of_ble_eq_true rfl) rfl ?_
    refine j_aload_n (j := 1) dX1_writeRule_59 rfl rfl ?_
    replace h := zbE h
    obtain ⟨r6, e7, h⟩ := h
    refine j_getR fgX1_23 (fun _ _ _ => rfl) dX1_writeRule_60 e7 ?_
    refine j_iload (j := 0) dX1_writeRule_63 rfl ?_
    replace h := zbE h
    obtain ⟨v9, e8, h⟩ := h
    refine j_cont (zrS (As := [vI v4]) msX1_306 (yX1_letter_ok e8) (Nat.le_trans (Nat.le_of_ble_eq_true rfl) hd) rfl rfl (Nat.le_of_ble_eq_true rfl) dX1_writeRule_65) ?_
    replace h := zbE h
    obtain ⟨a10, e11, h⟩ := h
    subst e11
    replace h := zkE h
    obtain ⟨e12, h⟩ := h
    replace h := zb2E h
    obtain ⟨r14, G15, e13, h⟩ := h
    refine j_cont (zrV (As := [vI v9]) msX1_310 (yJ4_append_3_ok e13) (Nat.le_trans (Nat.le_of_ble_eq_true rfl) hd) (zk_22 _ e12) rfl rfl (Nat.le_of_ble_eq_true rfl) dX1_writeRule_68) ?_
    refine j_pop dX1_writeRule_71 rfl ?_
    refine j_iinc (j := 4) (v := (x5 + 1)) (lv' := [(5, vI (x5 + 1)), (6, vI v4), (0, vR (some t)), (3, vR (some a2)), (4, vI x4)]) dX1_writeRule_72 rfl rfl (Nat.le_of_ble_eq_true rfl) rfl ?_
    refine j_goto (tgt := 46) dX1_writeRule_75 (by decide) ?_
    obtain rfl := Option.some.inj h
    exact J.sub (zall [2, 3, 4, 0] rfl) hk
theorem wflX1_writeRule_46 {F : zF} (hd : 23 ≤ F.2.2.2) (t : Nat) (x3 : Option Nat) (x4 : Int32) (x5 : Int32) (G : GS) {a : ((Int32) ⊕ String) × GS} (h : flX1_writeRule_46 t x3 x4 x5 G = some a) (hk : zKXI F a) : J mX1_writeRule F G 46 [(0, vR (some t)), (3, vR x3), (4, vI x4), (5, vI x5)] [] := by
  unfold flX1_writeRule_46 at h
  exact zloop_walk (P := (fun s : Int32 × GS => J mX1_writeRule F s.2 46 [(0, vR (some t)), (3, vR x3), (4, vI x4), (5, vI s.1)] [])) (fun s b e hk => wfbX1_writeRule_46 hd t x3 x4 s.1 s.2 e hk) (x5, G) _ h hk
def fX1_writeRule_0 (t : Nat) (x1 : Int32)  (G : GS) : Option (((Int32) ⊕ String) × GS) :=
  zk [1] G t <| zb3 (fX1_rule_0 t x1 G) (fun r3 G4 => (zgR G4 1 t 4).bind fun r7 => r7.bind fun a9 => zk [22] G4 a9 <| (fJ4_setLength_0 a9 0 G4).bind fun G13 => (zgR G13 1 t 4).bind fun r14 => r3.bind fun a16 => (zgI G13 3 a16 0).bind fun v18 => (fX1_letter_0 v18 G13).bind fun v21 => r14.bind fun a22 => zk [22] G13 a22 <| zb2 (fJ4_append_3_0 a22 v21 G13) fun r26 G27 => r26.bind fun a28 => zk [22] G27 a28 <| zb2 (fJ4_append_3_0 a28 61 G27) fun r32 G33 => (zgR G33 3 a16 1).bind fun r34 => r34.bind fun a36 => (zln G33 a36).bind fun v38 => flX1_writeRule_46 t (some a36) v38 0 G33) (fun X5 G6 => some (.inr X5, G6))
theorem wfX1_writeRule_0 {F : zF} (hd : 23 ≤ F.2.2.2) (t : Nat) (x1 : Int32)  (G : GS) {a : ((Int32) ⊕ String) × GS} (h : fX1_writeRule_0 t x1  G = some a) (hk : zKXI F a) : J mX1_writeRule F G 0 [(0, vR (some t)), (1, vI x1)] [] := by
  unfold fX1_writeRule_0 at h
  refine j_aload_n (j := 0) dX1_writeRule_0 rfl rfl ?_
  refine j_iload_n (j := 1) dX1_writeRule_1 rfl rfl ?_
  replace h := zkE h
  obtain ⟨e1, h⟩ := h
  replace h := zb3E h
  rcases h with ⟨r3, G4, e2, h⟩ | ⟨X5, G6, e2, h⟩
  · refine j_cont (zrV (As := [vI x1]) msX1_93 (yX1_rule_ok e2) (Nat.le_trans (Nat.le_of_ble_eq_true rfl) hd) (zk_1 _ e1) rfl rfl (Nat.le_of_ble_eq_true rfl) dX1_writeRule_2) ?_
    refine j_astore_n (lv' := [(2, vR r3), (0, vR (some t)), (1, vI x1)]) dX1_writeRule_5 rfl (Nat.le_of_ble_eq_true rfl) rfl ?_
    refine j_aload_n (j := 1) dX1_writeRule_6 rfl rfl ?_
    replace h := zbE h
    obtain ⟨r7, e8, h⟩ := h
    refine j_getR fgX1_23 (fun _ _ _ => rfl) dX1_writeRule_7 e8 ?_
    refine j_iconst (v := 0) dX1_writeRule_10 (by decide) ?_
    replace h := zbE h
    obtain ⟨a9, e10, h⟩ := h
    subst e10
    replace h := zkE h
    obtain ⟨e11, h⟩ := h
    replace h := zbE h
    obtain ⟨G13, e12, h⟩ := h
    refine j_cont (zrV (As := [vI 0]) msX1_302 (yJ4_setLength_ok e12) (Nat.le_trans (Nat.le_of_ble_eq_true rfl) hd) (zk_22 _ e11) rfl rfl (Nat.le_of_ble_eq_true rfl) dX1_writeRule_11) ?_
    refine j_aload_n (j := 1) dX1_writeRule_14 rfl rfl ?_
    replace h := zbE h
    obtain ⟨r14, e15, h⟩ := h
    refine j_getR fgX1_23 (fun _ _ _ => rfl) dX1_writeRule_15 e15 ?_
    refine j_aload_n (j := 0) dX1_writeRule_18 rfl rfl ?_
    replace h := zbE h
    obtain ⟨a16, e17, h⟩ := h
    subst e17
    replace h := zbE h
    obtain ⟨v18, e19, h⟩ := h
    refine j_getI fgX1_118 (fun _ _ _ => rfl) dX1_writeRule_19 e19 ?_
    replace h := zbE h
    obtain ⟨v21, e20, h⟩ := h
    refine j_cont (zrS (As := [vI v18]) msX1_306 (yX1_letter_ok e20) (Nat.le_trans (Nat.le_of_ble_eq_true rfl) hd) rfl rfl (Nat.le_of_ble_eq_true rfl) dX1_writeRule_22) ?_
    replace h := zbE h
    obtain ⟨a22, e23, h⟩ := h
    subst e23
    replace h := zkE h
    obtain ⟨e24, h⟩ := h
    replace h := zb2E h
    obtain ⟨r26, G27, e25, h⟩ := h
    refine j_cont (zrV (As := [vI v21]) msX1_310 (yJ4_append_3_ok e25) (Nat.le_trans (Nat.le_of_ble_eq_true rfl) hd) (zk_22 _ e24) rfl rfl (Nat.le_of_ble_eq_true rfl) dX1_writeRule_25) ?_
    refine j_bipush (v := 61) dX1_writeRule_28 (by decide) ?_
    replace h := zbE h
    obtain ⟨a28, e29, h⟩ := h
    subst e29
    replace h := zkE h
    obtain ⟨e30, h⟩ := h
    replace h := zb2E h
    obtain ⟨r32, G33, e31, h⟩ := h
    refine j_cont (zrV (As := [vI 61]) msX1_310 (yJ4_append_3_ok e31) (Nat.le_trans (Nat.le_of_ble_eq_true rfl) hd) (zk_22 _ e30) rfl rfl (Nat.le_of_ble_eq_true rfl) dX1_writeRule_30) ?_
    refine j_pop dX1_writeRule_33 rfl ?_
    refine j_aload_n (j := 0) dX1_writeRule_34 rfl rfl ?_
    replace h := zbE h
    obtain ⟨r34, e35, h⟩ := h
    refine j_getR fgX1_104 (fun _ _ _ => rfl) dX1_writeRule_35 e35 ?_
    refine j_astore_n (lv' := [(3, vR r34), (2, vR (some a16)), (0, vR (some t)), (1, vI x1)]) dX1_writeRule_38 rfl (Nat.le_of_ble_eq_true rfl) rfl ?_
    refine j_aload_n (j := 0) dX1_writeRule_39 rfl rfl ?_
    replace h := zbE h
    obtain ⟨a36, e37, h⟩ := h
    subst e37
    replace h := zbE h
    obtain ⟨v38, e39, h⟩ := h
    refine j_alen e39 dX1_writeRule_40 ?_
    refine j_istore (lv' := [(4, vI v38), (3, vR (some a36)), (2, vR (some a16)), (0, vR (some t)), (1, vI x1)]) dX1_writeRule_41 (Nat.le_of_ble_eq_true rfl) rfl ?_
    refine j_iconst (v := 0) dX1_writeRule_43 (by decide) ?_
    refine j_istore (lv' := [(5, vI 0), (4, vI v38), (3, vR (some a36)), (2, vR (some a16)), (0, vR (some t)), (1, vI x1)]) dX1_writeRule_44 (Nat.le_of_ble_eq_true rfl) rfl ?_
    exact J.sub (zall [4, 2, 1, 0] rfl) (wflX1_writeRule_46 hd t (some a36) v38 0  G33 h hk)
  · refine j_thr (zrV (As := [vI x1]) msX1_93 (yX1_rule_ok e2) (Nat.le_trans (Nat.le_of_ble_eq_true rfl) hd) (zk_1 _ e1) rfl rfl (Nat.le_of_ble_eq_true rfl) dX1_writeRule_2) ?_
    obtain rfl := Option.some.inj h
    exact jx_out hk.1 hk.2 (by decide)
theorem yX1_writeRule_ok {t : Nat} {x1 : Int32} {G : GS} {r : (Int32) ⊕ String} {G1 : GS} (h : fX1_writeRule_0 t x1 G = some (r, G1)) : zRuns yX1_writeRule (ws_ yX1_writeRule cX1_writeRule 7 (some Jvm.ClassFile.FieldType.int)) [vR (some t), vI x1] (zout (fun v => some (vI v)) r, G, G1, 23) :=
  zentry (M := mX1_writeRule) (plainFor_of_name (by decide +kernel)) ⟨rfl, rfl, rfl, rfl⟩ (Nat.le_of_ble_eq_true rfl) (wfX1_writeRule_0 (Nat.le_refl _) t x1 G h ⟨rfl, rfl⟩)
theorem msX0_7 : zSV RX0 7 RX1 yX1_addRule cX1_addRule 3 (some Jvm.ClassFile.FieldType.int) 1 := ⟨lw_V q1702 q1703 q1704 q123 q1705, (by decide +kernel), (by decide)⟩
abbrev mX0_addRule : zM := (cX0_addRule, RX0, 4, (some Jvm.ClassFile.FieldType.int), "addRule", [(0, 9, 12, 13), (0, 9, 15, 15)], "(LSelahGenerator;I[J)I")
def fX0_addRule_0 (x0 : Option Nat) (x1 : Int32) (x2 : Option Nat)  (G : GS) : Option ((Int32) × GS) :=
  x0.bind fun a1 => zk [1] G a1 <| zb3 (fX1_addRule_0 a1 x1 G) (fun v5 G6 => x2.bind fun a9 => (zsL G6 51 a9 (0 : Int32) v5.toInt64).bind fun G11 => some (0, G11)) (fun X7 G8 => if X7 = "java/lang/IllegalStateException" then (some (2, G8)) else (if X7 = "java/lang/IndexOutOfBoundsException" then (some (1, G8)) else none))
theorem wfX0_addRule_0 {F : zF} (hd : 10 ≤ F.2.2.2) (x0 : Option Nat) (x1 : Int32) (x2 : Option Nat)  (G : GS) {a : (Int32) × GS} (h : fX0_addRule_0 x0 x1 x2  G = some a) (hk : zKI F a) : J mX0_addRule F G 0 [(0, vR x0), (1, vI x1), (2, vR x2)] [] := by
  unfold fX0_addRule_0 at h
  refine j_aload_n (j := 2) dX0_addRule_0 rfl rfl ?_
  refine j_iconst (v := 0) dX0_addRule_1 (by decide) ?_
  refine j_aload_n (j := 0) dX0_addRule_2 rfl rfl ?_
  refine j_iload_n (j := 1) dX0_addRule_3 rfl rfl ?_
  replace h := zbE h
  obtain ⟨a1, e2, h⟩ := h
  subst e2
  replace h := zkE h
  obtain ⟨e3, h⟩ := h
  replace h := zb3E h
  rcases h with ⟨v5, G6, e4, h⟩ | ⟨X7, G8, e4, h⟩
  · refine j_cont (zrV (As := [vI x1]) msX0_7 (yX1_addRule_ok e4) (Nat.le_trans (Nat.le_of_ble_eq_true rfl) hd) (zk_1 _ e3) rfl rfl (Nat.le_of_ble_eq_true rfl) dX0_addRule_4) ?_
    refine j_i2l dX0_addRule_7 ?_
    replace h := zbE h
    obtain ⟨a9, e10, h⟩ := h
    subst e10
    replace h := zbE h
    obtain ⟨G11, e12, h⟩ := h
    refine j_last e12 dX0_addRule_8 ?_
    refine j_goto (tgt := 18) dX0_addRule_9 (by decide) ?_
    refine j_iconst (v := 0) dX0_addRule_18 (by decide) ?_
    obtain rfl := Option.some.inj h
    exact j_iret hk.1 hk.2 rfl dX0_addRule_19
  · refine j_thr (zrV (As := [vI x1]) msX0_7 (yX1_addRule_ok e4) (Nat.le_trans (Nat.le_of_ble_eq_true rfl) hd) (zk_1 _ e3) rfl rfl (Nat.le_of_ble_eq_true rfl) dX0_addRule_4) ?_
    by_cases c17 : X7 = "java/lang/IllegalStateException"
    · rw [if_pos c17] at h
      subst c17
      refine jx_catch (n := 15) [⟨0, 9, 12, 13⟩] ⟨0, 9, 15, 15⟩ [] rfl (fun z hz => by
    simp only [List.mem_cons, List.not_mem_nil, or_false] at hz
    subst hz
    · exact Or.inr ⟨by decide, _, q1669, by simp [zncs]⟩) rfl (by decide) q1701 (zxw 10 rfl) rfl (fun q16 => ?_)
      refine j_astore_n (lv' := [(3, vR (some q16)), (0, vR (some a1)), (1, vI x1), (2, vR x2)]) dX0_addRule_15 rfl (Nat.le_of_ble_eq_true rfl) rfl ?_
      refine j_iconst (v := 2) dX0_addRule_16 (by decide) ?_
      obtain rfl := Option.some.inj h
      exact j_iret hk.1 hk.2 rfl dX0_addRule_17
    · rw [if_neg c17] at h
      by_cases c15 : X7 = "java/lang/IndexOutOfBoundsException"
      · rw [if_pos c15] at h
        subst c15
        refine jx_catch (n := 12) [] ⟨0, 9, 12, 13⟩ [⟨0, 9, 15, 15⟩] rfl (fun z hz => nomatch hz) rfl (by decide) q1669 (zxw 5 rfl) rfl (fun q14 => ?_)
        refine j_astore_n (lv' := [(3, vR (some q14)), (0, vR (some a1)), (1, vI x1), (2, vR x2)]) dX0_addRule_12 rfl (Nat.le_of_ble_eq_true rfl) rfl ?_
        refine j_iconst (v := 1) dX0_addRule_13 (by decide) ?_
        obtain rfl := Option.some.inj h
        exact j_iret hk.1 hk.2 rfl dX0_addRule_14
      · rw [if_neg c15] at h
        cases h
theorem yX0_addRule_ok {x0 : Option Nat} {x1 : Int32} {x2 : Option Nat} {G : GS} {r : Int32} {G1 : GS} (h : fX0_addRule_0 x0 x1 x2 G = some (r, G1)) : zRuns yX0_addRule (wsW_ yX0_addRule cX0_addRule 4 (some Jvm.ClassFile.FieldType.int) [(0, 9, 12, 13), (0, 9, 15, 15)]) [vR x0, vI x1, vR x2] (.inl (some (vI r)), G, G1, 10) :=
  zentryW (M := mX0_addRule) (by decide +kernel) ⟨rfl, rfl, rfl⟩ (Nat.le_of_ble_eq_true rfl) (wfX0_addRule_0 (Nat.le_refl _) x0 x1 x2 G h ⟨rfl, rfl⟩)
theorem msX0_17 : zSV RX0 17 RX1 yX1_append cX1_append 5 (some Jvm.ClassFile.FieldType.int) 2 := ⟨lw_V q1784 q1785 q1786 q123 q1787, (by decide +kernel), (by decide)⟩
abbrev mX0_append : zM := (cX0_append, RX0, 5, (some Jvm.ClassFile.FieldType.int), "append", [(0, 10, 13, 13), (0, 10, 17, 21), (0, 10, 21, 15)], "(LSelahGenerator;II[J)I")
def fX0_append_0 (x0 : Option Nat) (x1 : Int32) (x2 : Int32) (x3 : Option Nat)  (G : GS) : Option ((Int32) × GS) :=
  x0.bind fun a1 => zk [1] G a1 <| zb3 (fX1_append_0 a1 x1 x2 G) (fun v5 G6 => x3.bind fun a9 => (zsL G6 51 a9 (0 : Int32) v5.toInt64).bind fun G11 => some (0, G11)) (fun X7 G8 => if X7 = "java/lang/IllegalArgumentException" then (some (2, G8)) else (if X7 = "java/lang/IllegalStateException" then (some (3, G8)) else (if X7 = "java/lang/IndexOutOfBoundsException" then (some (1, G8)) else none)))
theorem wfX0_append_0 {F : zF} (hd : 11 ≤ F.2.2.2) (x0 : Option Nat) (x1 : Int32) (x2 : Int32) (x3 : Option Nat)  (G : GS) {a : (Int32) × GS} (h : fX0_append_0 x0 x1 x2 x3  G = some a) (hk : zKI F a) : J mX0_append F G 0 [(0, vR x0), (1, vI x1), (2, vI x2), (3, vR x3)] [] := by
  unfold fX0_append_0 at h
  refine j_aload_n (j := 3) dX0_append_0 rfl rfl ?_
  refine j_iconst (v := 0) dX0_append_1 (by decide) ?_
  refine j_aload_n (j := 0) dX0_append_2 rfl rfl ?_
  refine j_iload_n (j := 1) dX0_append_3 rfl rfl ?_
  refine j_iload_n (j := 2) dX0_append_4 rfl rfl ?_
  replace h := zbE h
  obtain ⟨a1, e2, h⟩ := h
  subst e2
  replace h := zkE h
  obtain ⟨e3, h⟩ := h
  replace h := zb3E h
  rcases h with ⟨v5, G6, e4, h⟩ | ⟨X7, G8, e4, h⟩
  · refine j_cont (zrV (As := [vI x1, vI x2]) msX0_17 (yX1_append_ok e4) (Nat.le_trans (Nat.le_of_ble_eq_true rfl) hd) (zk_1 _ e3) rfl rfl (Nat.le_of_ble_eq_true rfl) dX0_append_5) ?_
    refine j_i2l dX0_append_8 ?_
    replace h := zbE h
    obtain ⟨a9, e10, h⟩ := h
    subst e10
    replace h := zbE h
    obtain ⟨G11, e12, h⟩ := h
    refine j_last e12 dX0_append_9 ?_
    refine j_goto (tgt := 25) dX0_append_10 (by decide) ?_
    refine j_iconst (v := 0) dX0_append_25 (by decide) ?_
    obtain rfl := Option.some.inj h
    exact j_iret hk.1 hk.2 rfl dX0_append_26
  · refine j_thr (zrV (As := [vI x1, vI x2]) msX0_17 (yX1_append_ok e4) (Nat.le_trans (Nat.le_of_ble_eq_true rfl) hd) (zk_1 _ e3) rfl rfl (Nat.le_of_ble_eq_true rfl) dX0_append_5) ?_
    by_cases c19 : X7 = "java/lang/IllegalArgumentException"
    · rw [if_pos c19] at h
      subst c19
      refine jx_catch (n := 17) [⟨0, 10, 13, 13⟩] ⟨0, 10, 17, 21⟩ [⟨0, 10, 21, 15⟩] rfl (fun z hz => by
    simp only [List.mem_cons, List.not_mem_nil, or_false] at hz
    subst hz
    · exact Or.inr ⟨by decide, _, q1669, by simp [zncs]⟩) rfl (by decide) q1783 (zxw 12 rfl) rfl (fun q18 => ?_)
      refine j_astore (lv' := [(4, vR (some q18)), (0, vR (some a1)), (1, vI x1), (2, vI x2), (3, vR x3)]) dX0_append_17 (Nat.le_of_ble_eq_true rfl) rfl ?_
      refine j_iconst (v := 2) dX0_append_19 (by decide) ?_
      obtain rfl := Option.some.inj h
      exact j_iret hk.1 hk.2 rfl dX0_append_20
    · rw [if_neg c19] at h
      by_cases c17 : X7 = "java/lang/IllegalStateException"
      · rw [if_pos c17] at h
        subst c17
        refine jx_catch (n := 21) [⟨0, 10, 13, 13⟩, ⟨0, 10, 17, 21⟩] ⟨0, 10, 21, 15⟩ [] rfl (fun z hz => by
    simp only [List.mem_cons, List.not_mem_nil, or_false] at hz
    rcases hz with rfl | rfl
    · exact Or.inr ⟨by decide, _, q1669, by simp [zncs]⟩
    · exact Or.inr ⟨by decide, _, q1783, by simp [zncs]⟩) rfl (by decide) q1701 (zxw 10 rfl) rfl (fun q16 => ?_)
        refine j_astore (lv' := [(4, vR (some q16)), (0, vR (some a1)), (1, vI x1), (2, vI x2), (3, vR x3)]) dX0_append_21 (Nat.le_of_ble_eq_true rfl) rfl ?_
        refine j_iconst (v := 3) dX0_append_23 (by decide) ?_
        obtain rfl := Option.some.inj h
        exact j_iret hk.1 hk.2 rfl dX0_append_24
      · rw [if_neg c17] at h
        by_cases c15 : X7 = "java/lang/IndexOutOfBoundsException"
        · rw [if_pos c15] at h
          subst c15
          refine jx_catch (n := 13) [] ⟨0, 10, 13, 13⟩ [⟨0, 10, 17, 21⟩, ⟨0, 10, 21, 15⟩] rfl (fun z hz => nomatch hz) rfl (by decide) q1669 (zxw 5 rfl) rfl (fun q14 => ?_)
          refine j_astore (lv' := [(4, vR (some q14)), (0, vR (some a1)), (1, vI x1), (2, vI x2), (3, vR x3)]) dX0_append_13 (Nat.le_of_ble_eq_true rfl) rfl ?_
          refine j_iconst (v := 1) dX0_append_15 (by decide) ?_
          obtain rfl := Option.some.inj h
          exact j_iret hk.1 hk.2 rfl dX0_append_16
        · rw [if_neg c15] at h
          cases h
theorem yX0_append_ok {x0 : Option Nat} {x1 : Int32} {x2 : Int32} {x3 : Option Nat} {G : GS} {r : Int32} {G1 : GS} (h : fX0_append_0 x0 x1 x2 x3 G = some (r, G1)) : zRuns yX0_append (wsW_ yX0_append cX0_append 5 (some Jvm.ClassFile.FieldType.int) [(0, 10, 13, 13), (0, 10, 17, 21), (0, 10, 21, 15)]) [vR x0, vI x1, vI x2, vR x3] (.inl (some (vI r)), G, G1, 11) :=
  zentryW (M := mX0_append) (by decide +kernel) ⟨rfl, rfl, rfl⟩ (Nat.le_of_ble_eq_true rfl) (wfX0_append_0 (Nat.le_refl _) x0 x1 x2 x3 G h ⟨rfl, rfl⟩)
theorem msX0_86 : zSV RX0 86 RX1 yX1_derivations cX1_derivations 1 (some Jvm.ClassFile.FieldType.int) 0 := ⟨lw_V q2586 q1530 q1531 q123 q1532, (by decide +kernel), (by decide)⟩
abbrev mX0_derivations : zM := (cX0_derivations, RX0, 3, (some Jvm.ClassFile.FieldType.int), "derivations", [(0, 8, 11, 15)], "(LSelahGenerator;[J)I")
def fX0_derivations_0 (x0 : Option Nat) (x1 : Option Nat)  (G : GS) : Option ((Int32) × GS) :=
  x0.bind fun a1 => zk [1] G a1 <| zb3 (fX1_derivations_0 a1 G) (fun v5 G6 => x1.bind fun a9 => (zsL G6 51 a9 (0 : Int32) v5.toInt64).bind fun G11 => some (0, G11)) (fun X7 G8 => if X7 = "java/lang/IllegalStateException" then (some (1, G8)) else none)
theorem wfX0_derivations_0 {F : zF} (hd : 903 ≤ F.2.2.2) (x0 : Option Nat) (x1 : Option Nat)  (G : GS) {a : (Int32) × GS} (h : fX0_derivations_0 x0 x1  G = some a) (hk : zKI F a) : J mX0_derivations F G 0 [(0, vR x0), (1, vR x1)] [] := by
  unfold fX0_derivations_0 at h
  refine j_aload_n (j := 1) dX0_derivations_0 rfl rfl ?_
  refine j_iconst (v := 0) dX0_derivations_1 (by decide) ?_
  refine j_aload_n (j := 0) dX0_derivations_2 rfl rfl ?_
  replace h := zbE h
  obtain ⟨a1, e2, h⟩ := h
  subst e2
  replace h := zkE h
  obtain ⟨e3, h⟩ := h
  replace h := zb3E h
  rcases h with ⟨v5, G6, e4, h⟩ | ⟨X7, G8, e4, h⟩
  · refine j_cont (zrV (As := []) msX0_86 (yX1_derivations_ok e4) (Nat.le_trans (Nat.le_of_ble_eq_true rfl) hd) (zk_1 _ e3) rfl rfl (Nat.le_of_ble_eq_true rfl) dX0_derivations_3) ?_
    refine j_i2l dX0_derivations_6 ?_
    replace h := zbE h
    obtain ⟨a9, e10, h⟩ := h
    subst e10
    replace h := zbE h
    obtain ⟨G11, e12, h⟩ := h
    refine j_last e12 dX0_derivations_7 ?_
    refine j_goto (tgt := 14) dX0_derivations_8 (by decide) ?_
    refine j_iconst (v := 0) dX0_derivations_14 (by decide) ?_
    obtain rfl := Option.some.inj h
    exact j_iret hk.1 hk.2 rfl dX0_derivations_15
  · refine j_thr (zrV (As := []) msX0_86 (yX1_derivations_ok e4) (Nat.le_trans (Nat.le_of_ble_eq_true rfl) hd) (zk_1 _ e3) rfl rfl (Nat.le_of_ble_eq_true rfl) dX0_derivations_3) ?_
    by_cases c15 : X7 = "java/lang/IllegalStateException"
    · rw [if_pos c15] at h
      subst c15
      refine jx_catch (n := 11) [] ⟨0, 8, 11, 15⟩ [] rfl (fun z hz => nomatch hz) rfl (by decide) q1701 (zxw 10 rfl) rfl (fun q14 => ?_)
      refine j_astore_n (lv' := [(2, vR (some q14)), (0, vR (some a1)), (1, vR x1)]) dX0_derivations_11 rfl (Nat.le_of_ble_eq_true rfl) rfl ?_
      refine j_iconst (v := 1) dX0_derivations_12 (by decide) ?_
      obtain rfl := Option.some.inj h
      exact j_iret hk.1 hk.2 rfl dX0_derivations_13
    · rw [if_neg c15] at h
      cases h
theorem yX0_derivations_ok {x0 : Option Nat} {x1 : Option Nat} {G : GS} {r : Int32} {G1 : GS} (h : fX0_derivations_0 x0 x1 G = some (r, G1)) : zRuns yX0_derivations (wsW_ yX0_derivations cX0_derivations 3 (some Jvm.ClassFile.FieldType.int) [(0, 8, 11, 15)]) [vR x0, vR x1] (.inl (some (vI r)), G, G1, 903) :=
  zentryW (M := mX0_derivations) (by decide +kernel) ⟨rfl, rfl, rfl⟩ (Nat.le_of_ble_eq_true rfl) (wfX0_derivations_0 (Nat.le_refl _) x0 x1 G h ⟨rfl, rfl⟩)
theorem msX0_80 : zSV RX0 80 RX1 yX1_errorSymbol cX1_errorSymbol 2 (some Jvm.ClassFile.FieldType.int) 1 := ⟨lw_V q2572 q2573 q2574 q123 q2575, (by decide +kernel), (by decide)⟩
abbrev mX0_errorSymbol : zM := (cX0_errorSymbol, RX0, 4, (some Jvm.ClassFile.FieldType.int), "errorSymbol", [(0, 9, 12, 13)], "(LSelahGenerator;I[J)I")
def fX0_errorSymbol_0 (x0 : Option Nat) (x1 : Int32) (x2 : Option Nat)  (G : GS) : Option ((Int32) × GS) :=
  x0.bind fun a1 => zk [1] G a1 <| zb3 (fX1_errorSymbol_0 a1 x1 G) (fun v5 G6 => x2.bind fun a9 => (zsL G6 51 a9 (0 : Int32) v5.toInt64).bind fun G11 => some (0, G11)) (fun X7 G8 => if X7 = "java/lang/IndexOutOfBoundsException" then (some (1, G8)) else none)
theorem wfX0_errorSymbol_0 {F : zF} (hd : 10 ≤ F.2.2.2) (x0 : Option Nat) (x1 : Int32) (x2 : Option Nat)  (G : GS) {a : (Int32) × GS} (h : fX0_errorSymbol_0 x0 x1 x2  G = some a) (hk : zKI F a) : J mX0_errorSymbol F G 0 [(0, vR x0), (1, vI x1), (2, vR x2)] [] := by
  unfold fX0_errorSymbol_0 at h
  refine j_aload_n (j := 2) dX0_errorSymbol_0 rfl rfl ?_
  refine j_iconst (v := 0) dX0_errorSymbol_1 (by decide) ?_
  refine j_aload_n (j := 0) dX0_errorSymbol_2 rfl rfl ?_
  refine j_iload_n (j := 1) dX0_errorSymbol_3 rfl rfl ?_
  replace h := zbE h
  obtain ⟨a1, e2, h⟩ := h
  subst e2
  replace h := zkE h
  obtain ⟨e3, h⟩ := h
  replace h := zb3E h
  rcases h with ⟨v5, G6, e4, h⟩ | ⟨X7, G8, e4, h⟩
  · refine j_cont (zrV (As := [vI x1]) msX0_80 (yX1_errorSymbol_ok e4) (Nat.le_trans (Nat.le_of_ble_eq_true rfl) hd) (zk_1 _ e3) rfl rfl (Nat.le_of_ble_eq_true rfl) dX0_errorSymbol_4) ?_
    refine j_i2l dX0_errorSymbol_7 ?_
    replace h := zbE h
    obtain ⟨a9, e10, h⟩ := h
    subst e10
    replace h := zbE h
    obtain ⟨G11, e12, h⟩ := h
    refine j_last e12 dX0_errorSymbol_8 ?_
    refine j_goto (tgt := 15) dX0_errorSymbol_9 (by decide) ?_
    refine j_iconst (v := 0) dX0_errorSymbol_15 (by decide) ?_
    obtain rfl := Option.some.inj h
    exact j_iret hk.1 hk.2 rfl dX0_errorSymbol_16
  · refine j_thr (zrV (As := [vI x1]) msX0_80 (yX1_errorSymbol_ok e4) (Nat.le_trans (Nat.le_of_ble_eq_true rfl) hd) (zk_1 _ e3) rfl rfl (Nat.le_of_ble_eq_true rfl) dX0_errorSymbol_4) ?_
    by_cases c15 : X7 = "java/lang/IndexOutOfBoundsException"
    · rw [if_pos c15] at h
      subst c15
      refine jx_catch (n := 12) [] ⟨0, 9, 12, 13⟩ [] rfl (fun z hz => nomatch hz) rfl (by decide) q1669 (zxw 5 rfl) rfl (fun q14 => ?_)
      refine j_astore_n (lv' := [(3, vR (some q14)), (0, vR (some a1)), (1, vI x1), (2, vR x2)]) dX0_errorSymbol_12 rfl (Nat.le_of_ble_eq_true rfl) rfl ?_
      refine j_iconst (v := 1) dX0_errorSymbol_13 (by decide) ?_
      obtain rfl := Option.some.inj h
      exact j_iret hk.1 hk.2 rfl dX0_errorSymbol_14
    · rw [if_neg c15] at h
      cases h
theorem yX0_errorSymbol_ok {x0 : Option Nat} {x1 : Int32} {x2 : Option Nat} {G : GS} {r : Int32} {G1 : GS} (h : fX0_errorSymbol_0 x0 x1 x2 G = some (r, G1)) : zRuns yX0_errorSymbol (wsW_ yX0_errorSymbol cX0_errorSymbol 4 (some Jvm.ClassFile.FieldType.int) [(0, 9, 12, 13)]) [vR x0, vI x1, vR x2] (.inl (some (vI r)), G, G1, 10) :=
  zentryW (M := mX0_errorSymbol) (by decide +kernel) ⟨rfl, rfl, rfl⟩ (Nat.le_of_ble_eq_true rfl) (wfX0_errorSymbol_0 (Nat.le_refl _) x0 x1 x2 G h ⟨rfl, rfl⟩)
theorem msX0_77 : zSV RX0 77 RX1 yX1_errorToken cX1_errorToken 2 (some Jvm.ClassFile.FieldType.int) 1 := ⟨lw_V q2560 q2561 q2562 q123 q2563, (by decide +kernel), (by decide)⟩
abbrev mX0_errorToken : zM := (cX0_errorToken, RX0, 4, (some Jvm.ClassFile.FieldType.int), "errorToken", [(0, 9, 12, 13)], "(LSelahGenerator;I[J)I")
def fX0_errorToken_0 (x0 : Option Nat) (x1 : Int32) (x2 : Option Nat)  (G : GS) : Option ((Int32) × GS) :=
  x0.bind fun a1 => zk [1] G a1 <| zb3 (fX1_errorToken_0 a1 x1 G) (fun v5 G6 => x2.bind fun a9 => (zsL G6 51 a9 (0 : Int32) v5.toInt64).bind fun G11 => some (0, G11)) (fun X7 G8 => if X7 = "java/lang/IndexOutOfBoundsException" then (some (1, G8)) else none)
theorem wfX0_errorToken_0 {F : zF} (hd : 10 ≤ F.2.2.2) (x0 : Option Nat) (x1 : Int32) (x2 : Option Nat)  (G : GS) {a : (Int32) × GS} (h : fX0_errorToken_0 x0 x1 x2  G = some a) (hk : zKI F a) : J mX0_errorToken F G 0 [(0, vR x0), (1, vI x1), (2, vR x2)] [] := by
  unfold fX0_errorToken_0 at h
  refine j_aload_n (j := 2) dX0_errorToken_0 rfl rfl ?_
  refine j_iconst (v := 0) dX0_errorToken_1 (by decide) ?_
  refine j_aload_n (j := 0) dX0_errorToken_2 rfl rfl ?_
  refine j_iload_n (j := 1) dX0_errorToken_3 rfl rfl ?_
  replace h := zbE h
  obtain ⟨a1, e2, h⟩ := h
  subst e2
  replace h := zkE h
  obtain ⟨e3, h⟩ := h
  replace h := zb3E h
  rcases h with ⟨v5, G6, e4, h⟩ | ⟨X7, G8, e4, h⟩
  · refine j_cont (zrV (As := [vI x1]) msX0_77 (yX1_errorToken_ok e4) (Nat.le_trans (Nat.le_of_ble_eq_true rfl) hd) (zk_1 _ e3) rfl rfl (Nat.le_of_ble_eq_true rfl) dX0_errorToken_4) ?_
    refine j_i2l dX0_errorToken_7 ?_
    replace h := zbE h
    obtain ⟨a9, e10, h⟩ := h
    subst e10
    replace h := zbE h
    obtain ⟨G11, e12, h⟩ := h
    refine j_last e12 dX0_errorToken_8 ?_
    refine j_goto (tgt := 15) dX0_errorToken_9 (by decide) ?_
    refine j_iconst (v := 0) dX0_errorToken_15 (by decide) ?_
    obtain rfl := Option.some.inj h
    exact j_iret hk.1 hk.2 rfl dX0_errorToken_16
  · refine j_thr (zrV (As := [vI x1]) msX0_77 (yX1_errorToken_ok e4) (Nat.le_trans (Nat.le_of_ble_eq_true rfl) hd) (zk_1 _ e3) rfl rfl (Nat.le_of_ble_eq_true rfl) dX0_errorToken_4) ?_
    by_cases c15 : X7 = "java/lang/IndexOutOfBoundsException"
    · rw [if_pos c15] at h
      subst c15
      refine jx_catch (n := 12) [] ⟨0, 9, 12, 13⟩ [] rfl (fun z hz => nomatch hz) rfl (by decide) q1669 (zxw 5 rfl) rfl (fun q14 => ?_)
      refine j_astore_n (lv' := [(3, vR (some q14)), (0, vR (some a1)), (1, vI x1), (2, vR x2)]) dX0_errorToken_12 rfl (Nat.le_of_ble_eq_true rfl) rfl ?_
      refine j_iconst (v := 1) dX0_errorToken_13 (by decide) ?_
      obtain rfl := Option.some.inj h
      exact j_iret hk.1 hk.2 rfl dX0_errorToken_14
    · rw [if_neg c15] at h
      cases h
theorem yX0_errorToken_ok {x0 : Option Nat} {x1 : Int32} {x2 : Option Nat} {G : GS} {r : Int32} {G1 : GS} (h : fX0_errorToken_0 x0 x1 x2 G = some (r, G1)) : zRuns yX0_errorToken (wsW_ yX0_errorToken cX0_errorToken 4 (some Jvm.ClassFile.FieldType.int) [(0, 9, 12, 13)]) [vR x0, vI x1, vR x2] (.inl (some (vI r)), G, G1, 10) :=
  zentryW (M := mX0_errorToken) (by decide +kernel) ⟨rfl, rfl, rfl⟩ (Nat.le_of_ble_eq_true rfl) (wfX0_errorToken_0 (Nat.le_refl _) x0 x1 x2 G h ⟨rfl, rfl⟩)
theorem msX0_68 : zSVW RX0 68 RX1 yX1_factorOut cX1_factorOut 3 (some Jvm.ClassFile.FieldType.int) [(12, 16, 19, 183)] 0 := ⟨lw_VW q2323 q2324 q2325 q123 q2326, (by decide +kernel), (by decide)⟩
abbrev mX0_factorOut : zM := (cX0_factorOut, RX0, 3, (some Jvm.ClassFile.FieldType.int), "factorOut", [(0, 8, 11, 15)], "(LSelahGenerator;[J)I")
def fX0_factorOut_0 (x0 : Option Nat) (x1 : Option Nat)  (G : GS) : Option ((Int32) × GS) :=
  x0.bind fun a1 => zk [1] G a1 <| zb3 (fX1_factorOut_0 a1 G) (fun v5 G6 => x1.bind fun a9 => (zsL G6 51 a9 (0 : Int32) v5.toInt64).bind fun G11 => some (0, G11)) (fun X7 G8 => if X7 = "java/lang/IllegalStateException" then (some (1, G8)) else none)
theorem wfX0_factorOut_0 {F : zF} (hd : 12 ≤ F.2.2.2) (x0 : Option Nat) (x1 : Option Nat)  (G : GS) {a : (Int32) × GS} (h : fX0_factorOut_0 x0 x1  G = some a) (hk : zKI F a) : J mX0_factorOut F G 0 [(0, vR x0), (1, vR x1)] [] := by
  unfold fX0_factorOut_0 at h
  refine j_aload_n (j := 1) dX0_factorOut_0 rfl rfl ?_
  refine j_iconst (v := 0) dX0_factorOut_1 (by decide) ?_
  refine j_aload_n (j := 0) dX0_factorOut_2 rfl rfl ?_
  replace h := zbE h
  obtain ⟨a1, e2, h⟩ := h
  subst e2
  replace h := zkE h
  obtain ⟨e3, h⟩ := h
  replace h := zb3E h
  rcases h with ⟨v5, G6, e4, h⟩ | ⟨X7, G8, e4, h⟩
  · refine j_cont (zrVW (As := []) msX0_68 (yX1_factorOut_ok e4) (Nat.le_trans (Nat.le_of_ble_eq_true rfl) hd) (zk_1 _ e3) rfl rfl (Nat.le_of_ble_eq_true rfl) dX0_factorOut_3) ?_
    refine j_i2l dX0_factorOut_6 ?_
    replace h := zbE h
    obtain ⟨a9, e10, h⟩ := h
    subst e10
    replace h := zbE h
    obtain ⟨G11, e12, h⟩ := h
    refine j_last e12 dX0_factorOut_7 ?_
    refine j_goto (tgt := 14) dX0_factorOut_8 (by decide) ?_
    refine j_iconst (v := 0) dX0_factorOut_14 (by decide) ?_
    obtain rfl := Option.some.inj h
    exact j_iret hk.1 hk.2 rfl dX0_factorOut_15
  · refine j_thr (zrVW (As := []) msX0_68 (yX1_factorOut_ok e4) (Nat.le_trans (Nat.le_of_ble_eq_true rfl) hd) (zk_1 _ e3) rfl rfl (Nat.le_of_ble_eq_true rfl) dX0_factorOut_3) ?_
    by_cases c15 : X7 = "java/lang/IllegalStateException"
    · rw [if_pos c15] at h
      subst c15
      refine jx_catch (n := 11) [] ⟨0, 8, 11, 15⟩ [] rfl (fun z hz => nomatch hz) rfl (by decide) q1701 (zxw 10 rfl) rfl (fun q14 => ?_)
      refine j_astore_n (lv' := [(2, vR (some q14)), (0, vR (some a1)), (1, vR x1)]) dX0_factorOut_11 rfl (Nat.le_of_ble_eq_true rfl) rfl ?_
      refine j_iconst (v := 1) dX0_factorOut_12 (by decide) ?_
      obtain rfl := Option.some.inj h
      exact j_iret hk.1 hk.2 rfl dX0_factorOut_13
    · rw [if_neg c15] at h
      cases h
theorem yX0_factorOut_ok {x0 : Option Nat} {x1 : Option Nat} {G : GS} {r : Int32} {G1 : GS} (h : fX0_factorOut_0 x0 x1 G = some (r, G1)) : zRuns yX0_factorOut (wsW_ yX0_factorOut cX0_factorOut 3 (some Jvm.ClassFile.FieldType.int) [(0, 8, 11, 15)]) [vR x0, vR x1] (.inl (some (vI r)), G, G1, 12) :=
  zentryW (M := mX0_factorOut) (by decide +kernel) ⟨rfl, rfl, rfl⟩ (Nat.le_of_ble_eq_true rfl) (wfX0_factorOut_0 (Nat.le_refl _) x0 x1 G h ⟨rfl, rfl⟩)
theorem msX0_39 : zSV RX0 39 RX1 yX1_firstOf cX1_firstOf 2 (some Jvm.ClassFile.FieldType.int) 1 := ⟨lw_V q1875 q1876 q1877 q123 q1878, (by decide +kernel), (by decide)⟩
abbrev mX0_firstOf : zM := (cX0_firstOf, RX0, 4, (some Jvm.ClassFile.FieldType.int), "firstOf", [(0, 9, 12, 13)], "(LSelahGenerator;I[J)I")
def fX0_firstOf_0 (x0 : Option Nat) (x1 : Int32) (x2 : Option Nat)  (G : GS) : Option ((Int32) × GS) :=
  x0.bind fun a1 => zk [1] G a1 <| zb3 (fX1_firstOf_0 a1 x1 G) (fun v5 G6 => x2.bind fun a9 => (zsL G6 51 a9 (0 : Int32) v5.toInt64).bind fun G11 => some (0, G11)) (fun X7 G8 => if X7 = "java/lang/IndexOutOfBoundsException" then (some (1, G8)) else none)
theorem wfX0_firstOf_0 {F : zF} (hd : 53 ≤ F.2.2.2) (x0 : Option Nat) (x1 : Int32) (x2 : Option Nat)  (G : GS) {a : (Int32) × GS} (h : fX0_firstOf_0 x0 x1 x2  G = some a) (hk : zKI F a) : J mX0_firstOf F G 0 [(0, vR x0), (1, vI x1), (2, vR x2)] [] := by
  unfold fX0_firstOf_0 at h
  refine j_aload_n (j := 2) dX0_firstOf_0 rfl rfl ?_
  refine j_iconst (v := 0) dX0_firstOf_1 (by decide) ?_
  refine j_aload_n (j := 0) dX0_firstOf_2 rfl rfl ?_
  refine j_iload_n (j := 1) dX0_firstOf_3 rfl rfl ?_
  replace h := zbE h
  obtain ⟨a1, e2, h⟩ := h
  subst e2
  replace h := zkE h
  obtain ⟨e3, h⟩ := h
  replace h := zb3E h
  rcases h with ⟨v5, G6, e4, h⟩ | ⟨X7, G8, e4, h⟩
  · refine j_cont (zrV (As := [vI x1]) msX0_39 (yX1_firstOf_ok e4) (Nat.le_trans (Nat.le_of_ble_eq_true rfl) hd) (zk_1 _ e3) rfl rfl (Nat.le_of_ble_eq_true rfl) dX0_firstOf_4) ?_
    refine j_i2l dX0_firstOf_7 ?_
    replace h := zbE h
    obtain ⟨a9, e10, h⟩ := h
    subst e10
    replace h := zbE h
    obtain ⟨G11, e12, h⟩ := h
    refine j_last e12 dX0_firstOf_8 ?_
    refine j_goto (tgt := 15) dX0_firstOf_9 (by decide) ?_
    refine j_iconst (v := 0) dX0_firstOf_15 (by decide) ?_
    obtain rfl := Option.some.inj h
    exact j_iret hk.1 hk.2 rfl dX0_firstOf_16
  · refine j_thr (zrV (As := [vI x1]) msX0_39 (yX1_firstOf_ok e4) (Nat.le_trans (Nat.le_of_ble_eq_true rfl) hd) (zk_1 _ e3) rfl rfl (Nat.le_of_ble_eq_true rfl) dX0_firstOf_4) ?_
    by_cases c15 : X7 = "java/lang/IndexOutOfBoundsException"
    · rw [if_pos c15] at h
      subst c15
      refine jx_catch (n := 12) [] ⟨0, 9, 12, 13⟩ [] rfl (fun z hz => nomatch hz) rfl (by decide) q1669 (zxw 5 rfl) rfl (fun q14 => ?_)
      refine j_astore_n (lv' := [(3, vR (some q14)), (0, vR (some a1)), (1, vI x1), (2, vR x2)]) dX0_firstOf_12 rfl (Nat.le_of_ble_eq_true rfl) rfl ?_
      refine j_iconst (v := 1) dX0_firstOf_13 (by decide) ?_
      obtain rfl := Option.some.inj h
      exact j_iret hk.1 hk.2 rfl dX0_firstOf_14
    · rw [if_neg c15] at h
      cases h
theorem yX0_firstOf_ok {x0 : Option Nat} {x1 : Int32} {x2 : Option Nat} {G : GS} {r : Int32} {G1 : GS} (h : fX0_firstOf_0 x0 x1 x2 G = some (r, G1)) : zRuns yX0_firstOf (wsW_ yX0_firstOf cX0_firstOf 4 (some Jvm.ClassFile.FieldType.int) [(0, 9, 12, 13)]) [vR x0, vI x1, vR x2] (.inl (some (vI r)), G, G1, 53) :=
  zentryW (M := mX0_firstOf) (by decide +kernel) ⟨rfl, rfl, rfl⟩ (Nat.le_of_ble_eq_true rfl) (wfX0_firstOf_0 (Nat.le_refl _) x0 x1 x2 G h ⟨rfl, rfl⟩)
end
