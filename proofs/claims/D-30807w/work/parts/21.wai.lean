/-! printed: functions and walks -/
set_option maxRecDepth 100000
noncomputable section
theorem msX4_46 : zSN RX4 46 yX1_isNonterminal "SelahGenerator" cX1_isNonterminal 1 (some Jvm.ClassFile.FieldType.boolean) 1 := ⟨q402, q123, zxw 94 rfl, (by decide +kernel), (by decide)⟩
abbrev mX4_used : zM := (cX4_used, RX4, 8, (some Jvm.ClassFile.FieldType.int), "used", [], "(Ljava/util/List;)I")
def fX4_used_92 (x1 : Int32) (x2 : Option Nat)  (G : GS) : Option ((Int32 × GS) ⊕ ((Int32) × GS)) :=
  some (.inl (x1, G))
theorem wfX4_used_92 {F : zF} (hd : 4 ≤ F.2.2.2) (x1 : Int32) (x2 : Option Nat)  (G : GS) {a : (Int32 × GS) ⊕ ((Int32) × GS)} (h : fX4_used_92 x1 x2  G = some a) (hk : (zcase (fun s : Int32 × GS => J mX4_used F s.2 9 [(1, vI s.1), (2, vR x2)] []) (zKI F)) a) : J mX4_used F G 92 [(1, vI x1), (2, vR x2)] [] := by
  unfold fX4_used_92 at h
  refine j_goto (tgt := 9) dX4_used_92 (by decide) ?_
  obtain rfl := Option.some.inj h
  exact J.sub (zall [0, 1] rfl) hk
def fX4_used_86 (x1 : Int32) (x2 : Option Nat) (x4 : Option Nat) (x5 : Int32) (x6 : Int32)  (G : GS) : Option ((Int32 × Int32) ⊕ ((Int32 × GS) ⊕ ((Int32) × GS))) :=
  some (.inl (x1, (x6 + 1)))
theorem wfX4_used_86 {F : zF} (hd : 4 ≤ F.2.2.2) (x1 : Int32) (x2 : Option Nat) (x4 : Option Nat) (x5 : Int32) (x6 : Int32)  (G : GS) {a : (Int32 × Int32) ⊕ ((Int32 × GS) ⊕ ((Int32) × GS))} (h : fX4_used_86 x1 x2 x4 x5 x6  G = some a) (hk : (zcase (fun s : Int32 × Int32 => J mX4_used F G 54 [(1, vI s.1), (2, vR x2), (4, vR x4), (5, vI x5), (6, vI s.2)] []) ((zcase (fun s : Int32 × GS => J mX4_used F s.2 9 [(1, vI s.1), (2, vR x2)] []) (zKI F)))) a) : J mX4_used F G 86 [(1, vI x1), (2, vR x2), (4, vR x4), (5, vI x5), (6, vI x6)] [] := by
  unfold fX4_used_86 at h
  refine j_iinc (j := 4) (v := (x6 + 1)) (lv' := [(6, vI (x6 + 1)), (1, vI x1), (2, vR x2), (4, vR x4), (5, vI x5)]) dX4_used_86 rfl rfl (Nat.le_of_ble_eq_true rfl) rfl ?_
  refine j_goto (tgt := 54) dX4_used_89 (by decide) ?_
  obtain rfl := Option.some.inj h
  exact J.sub (zall [1, 2, 3, 4, 0] rfl) hk
def fbX4_used_54 (x1 : Int32) (x2 : Option Nat) (x4 : Option Nat) (x5 : Int32) (x6 : Int32)  (G : GS) : Option ((Int32 × Int32) ⊕ ((Int32 × GS) ⊕ ((Int32) × GS))) :=
  if x5 ≤ x6 then (zo (fX4_used_92 x1 x2 G)) else (x4.bind fun a2 => (zaI G 50 a2 x6).bind fun v4 => (fX1_isNonterminal_0 v4 G).bind fun v7 => if v7 = 0 then (fX4_used_86 x1 x2 (some a2) x5 x6 G) else (fX4_used_86 (x1 ||| ((1 : Int32) <<< ((v4 - 20) &&& 31))) x2 (some a2) x5 x6 G))
def flX4_used_54 (x1 : Int32) (x2 : Option Nat) (x4 : Option Nat) (x5 : Int32) (x6 : Int32) (G : GS) : Option ((Int32 × GS) ⊕ ((Int32) × GS)) := zloop (fun s : Int32 × Int32 => fbX4_used_54 s.1 x2 x4 x5 s.2 G) (x1, x6)
theorem wfbX4_used_54 {F : zF} (hd : 4 ≤ F.2.2.2) (x1 : Int32) (x2 : Option Nat) (x4 : Option Nat) (x5 : Int32) (x6 : Int32) (G : GS) {a : (Int32 × Int32) ⊕ ((Int32 × GS) ⊕ ((Int32) × GS))} (h : fbX4_used_54 x1 x2 x4 x5 x6 G = some a) (hk : (zcase (fun s : Int32 × Int32 => J mX4_used F G 54 [(1, vI s.1), (2, vR x2), (4, vR x4), (5, vI x5), (6, vI s.2)] []) ((zcase (fun s : Int32 × GS => J mX4_used F s.2 9 [(1, vI s.1), (2, vR x2)] []) (zKI F)))) a) : J mX4_used F G 54 [(1, vI x1), (2, vR x2), (4, vR x4), (5, vI x5), (6, vI x6)] [] := by
  unfold fbX4_used_54 at h
  refine j_iload (j := 4) dX4_used_54 rfl ?_
  refine j_iload (j := 3) dX4_used_56 rfl ?_
  refine j_icmp_ge (tgt := 92) dX4_used_58 (by decide) (fun c1 => ?_) (fun c1 => ?_)
  · rw [if_pos c1] at h
    replace h := zoE h
    obtain ⟨a, h, rfl⟩ := h
    replace hk := hk
    exact J.sub (zall [0, 1] rfl) (wfX4_used_92 hd x1 x2  G h hk)
  · rw [if_neg c1] at h
    refine j_aload (j := 2) dX4_used_61 rfl ?_
    refine j_iload (j := 4) dX4_used_63 rfl ?_
    replace h := zbE h
    obtain ⟨a2, e3, h⟩ := h
    subst e3
    replace h := zbE h
    obtain ⟨v4, e5, h⟩ := h
    refine j_iald (Or.inl rfl) e5 dX4_used_65 ?_
    refine j_istore (lv' := [(7, vI v4), (1, vI x1), (2, vR x2), (4, vR (some a2)), (5, vI x5), (6, vI x6)]) dX4_used_66 (Nat.le_of_ble_eq_true rfl) rfl ?_
    refine j_iload (j := 0) dX4_used_68 rfl ?_
    replace h := zbE h
    obtain ⟨v7, e6, h⟩ := h
    refine j_cont (zrSN (As := [vI v4]) msX4_46 q401 (yX1_isNonterminal_ok e6) (Nat.le_trans (Nat.le_of_ble_eq_true rfl) hd) rfl rfl (Nat.le_of_ble_eq_true rfl) dX4_used_70) ?_
    refine j_if_eq (tgt := 86) dX4_used_73 (by decide) (fun c8 => ?_) (fun c8 => ?_)
    · rw [if_pos c8] at h
      exact J.sub (zall [1, 2, 3, 4, 5] rfl) (wfX4_used_86 hd x1 x2 (some a2) x5 x6  G h hk)
    · rw [if_neg c8] at h
      refine j_iload_n (j := 1) dX4_used_76 rfl rfl ?_
      refine j_iconst (v := 1) dX4_used_77 (by decide) ?_
      refine j_iload (j := 0) dX4_used_78 rfl ?_
      refine j_bipush (v := 20) dX4_used_80 (by decide) ?_
      refine j_isub dX4_used_82 ?_
      refine j_ishl dX4_used_83 ?_
      refine j_ior dX4_used_84 ?_
      refine j_istore_n (lv' := [(1, vI (x1 ||| ((1 : Int32) <<< ((v4 - 20) &&& 31)))), (7, vI v4), (2, vR x2), (4, vR (some a2)), (5, vI x5), (6, vI x6)]) dX4_used_85 rfl (Nat.le_of_ble_eq_true rfl) rfl ?_
      exact J.sub (zall [0, 2, 3, 4, 5] rfl) (wfX4_used_86 hd (x1 ||| ((1 : Int32) <<< ((v4 - 20) &&& 31))) x2 (some a2) x5 x6  G h hk)
theorem wflX4_used_54 {F : zF} (hd : 4 ≤ F.2.2.2) (x1 : Int32) (x2 : Option Nat) (x4 : Option Nat) (x5 : Int32) (x6 : Int32) (G : GS) {a : (Int32 × GS) ⊕ ((Int32) × GS)} (h : flX4_used_54 x1 x2 x4 x5 x6 G = some a) (hk : (zcase (fun s : Int32 × GS => J mX4_used F s.2 9 [(1, vI s.1), (2, vR x2)] []) (zKI F)) a) : J mX4_used F G 54 [(1, vI x1), (2, vR x2), (4, vR x4), (5, vI x5), (6, vI x6)] [] := by
  unfold flX4_used_54 at h
  exact zloop_walk (P := (fun s : Int32 × Int32 => J mX4_used F G 54 [(1, vI s.1), (2, vR x2), (4, vR x4), (5, vI x5), (6, vI s.2)] [])) (fun s b e hk => wfbX4_used_54 hd s.1 x2 x4 x5 s.2 G e hk) (x1, x6) _ h hk
def fbX4_used_9 (x1 : Int32) (x2 : Option Nat)  (G : GS) : Option ((Int32 × GS) ⊕ ((Int32) × GS)) :=
  x2.bind fun a1 => zk [13] G a1 <| (fJ19_hasNext_0 a1 G).bind fun v5 => if v5 = 0 then (zo (some (x1, G))) else (zk [13] G a1 <| zb2 (fJ19_next_0 a1 G) fun r9 G10 => zkq [3] G10 r9 (r9.bind fun a12 => (zgI G10 3 a12 0).bind fun v14 => (zgR G10 3 a12 1).bind fun r16 => r16.bind fun a18 => (zln G10 a18).bind fun v20 => flX4_used_54 (x1 ||| ((1 : Int32) <<< ((v14 - 20) &&& 31))) (some a1) (some a18) v20 0 G10))
def flX4_used_9 (x1 : Int32) (x2 : Option Nat) (G : GS) : Option ((Int32) × GS) := zloop (fun s : Int32 × GS => fbX4_used_9 s.1 x2 s.2) (x1, G)
theorem wfbX4_used_9 {F : zF} (hd : 4 ≤ F.2.2.2) (x1 : Int32) (x2 : Option Nat) (G : GS) {a : (Int32 × GS) ⊕ ((Int32) × GS)} (h : fbX4_used_9 x1 x2 G = some a) (hk : (zcase (fun s : Int32 × GS => J mX4_used F s.2 9 [(1, vI s.1), (2, vR x2)] []) (zKI F)) a) : J mX4_used F G 9 [(1, vI x1), (2, vR x2)] [] := by
  unfold fbX4_used_9 at h
  refine j_aload_n (j := 1) dX4_used_9 rfl rfl ?_
  replace h := zbE h
  obtain ⟨a1, e2, h⟩ := h
  subst e2
  replace h := zkE h
  obtain ⟨e3, h⟩ := h
  replace h := zbE h
  obtain ⟨v5, e4, h⟩ := h
  refine j_cont (zrF (As := []) msX4_26_J19 (yJ19_hasNext_ok e4) (Nat.le_trans (Nat.le_of_ble_eq_true rfl) hd) (zk_13 _ e3) rfl rfl (Nat.le_of_ble_eq_true rfl) dX4_used_10) ?_
  refine j_if_eq (tgt := 95) dX4_used_15 (by decide) (fun c6 => ?_) (fun c6 => ?_)
  · rw [if_pos c6] at h
    replace h := zoE h
    obtain ⟨a, h, rfl⟩ := h
    replace hk := hk
    refine j_iload_n (j := 0) dX4_used_95 rfl rfl ?_
    obtain rfl := Option.some.inj h
    exact j_iret hk.1 hk.2 rfl dX4_used_96
  · rw [if_neg c6] at h
    refine j_aload_n (j := 1) dX4_used_18 rfl rfl ?_
    replace h := zkE h
    obtain ⟨e7, h⟩ := h
    replace h := zb2E h
    obtain ⟨r9, G10, e8, h⟩ := h
    refine j_cont (zrF (As := []) msX4_32_J19 (yJ19_next_ok e8) (Nat.le_trans (Nat.le_of_ble_eq_true rfl) hd) (zk_13 _ e7) rfl rfl (Nat.le_of_ble_eq_true rfl) dX4_used_19) ?_
    replace h := zkqE h
    obtain ⟨e11, h⟩ := h
    refine j_castq (fun k => j_castN dX4_used_24 k) (fun b q22 k => j_castS (zk_3 _ (e11 b q22)) ⟨2, _, rfl, rfl⟩ q399 dX4_used_24 k) ?_
    refine j_astore_n (lv' := [(3, vR r9), (1, vI x1), (2, vR (some a1))]) dX4_used_27 rfl (Nat.le_of_ble_eq_true rfl) rfl ?_
    refine j_iload_n (j := 1) dX4_used_28 rfl rfl ?_
    refine j_iconst (v := 1) dX4_used_29 (by decide) ?_
    refine j_aload_n (j := 0) dX4_used_30 rfl rfl ?_
    replace h := zbE h
    obtain ⟨a12, e13, h⟩ := h
    subst e13
    replace h := zbE h
    obtain ⟨v14, e15, h⟩ := h
    refine j_getI fgX4_38 (fun _ _ _ => rfl) dX4_used_31 e15 ?_
    refine j_bipush (v := 20) dX4_used_34 (by decide) ?_
    refine j_isub dX4_used_36 ?_
    refine j_ishl dX4_used_37 ?_
    refine j_ior dX4_used_38 ?_
    refine j_istore_n (lv' := [(1, vI (x1 ||| ((1 : Int32) <<< ((v14 - 20) &&& 31)))), (3, vR (some a12)), (2, vR (some a1))]) dX4_used_39 rfl (Nat.le_of_ble_eq_true rfl) rfl ?_
    refine j_aload_n (j := 1) dX4_used_40 rfl rfl ?_
    replace h := zbE h
    obtain ⟨r16, e17, h⟩ := h
    refine j_getR fgX4_42 (fun _ _ _ => rfl) dX4_used_41 e17 ?_
    refine j_astore (lv' := [(4, vR r16), (1, vI (x1 ||| ((1 : Int32) <<< ((v14 - 20) &&& 31)))), (3, vR (some a12)), (2, vR (some a1))]) dX4_used_44 (Nat.le_of_ble_eq_true rfl) rfl ?_
    refine j_aload (j := 0) dX4_used_46 rfl ?_
    replace h := zbE h
    obtain ⟨a18, e19, h⟩ := h
    subst e19
    replace h := zbE h
    obtain ⟨v20, e21, h⟩ := h
    refine j_alen e21 dX4_used_48 ?_
    refine j_istore (lv' := [(5, vI v20), (4, vR (some a18)), (1, vI (x1 ||| ((1 : Int32) <<< ((v14 - 20) &&& 31)))), (3, vR (some a12)), (2, vR (some a1))]) dX4_used_49 (Nat.le_of_ble_eq_true rfl) rfl ?_
    refine j_iconst (v := 0) dX4_used_51 (by decide) ?_
    refine j_istore (lv' := [(6, vI 0), (5, vI v20), (4, vR (some a18)), (1, vI (x1 ||| ((1 : Int32) <<< ((v14 - 20) &&& 31)))), (3, vR (some a12)), (2, vR (some a1))]) dX4_used_52 (Nat.le_of_ble_eq_true rfl) rfl ?_
    exact J.sub (zall [3, 5, 2, 1, 0] rfl) (wflX4_used_54 hd (x1 ||| ((1 : Int32) <<< ((v14 - 20) &&& 31))) (some a1) (some a18) v20 0  G10 h hk)
theorem wflX4_used_9 {F : zF} (hd : 4 ≤ F.2.2.2) (x1 : Int32) (x2 : Option Nat) (G : GS) {a : (Int32) × GS} (h : flX4_used_9 x1 x2 G = some a) (hk : zKI F a) : J mX4_used F G 9 [(1, vI x1), (2, vR x2)] [] := by
  unfold flX4_used_9 at h
  exact zloop_walk (P := (fun s : Int32 × GS => J mX4_used F s.2 9 [(1, vI s.1), (2, vR x2)] [])) (fun s b e hk => wfbX4_used_9 hd s.1 x2 s.2 e hk) (x1, G) _ h hk
def fX4_used_0 (x0 : Option Nat)  (G : GS) : Option ((Int32) × GS) :=
  x0.bind fun a1 => zk [12] G a1 <| zb2 (fJ2_iterator_0 a1 G) fun r5 G6 => flX4_used_9 1 r5 G6
theorem wfX4_used_0 {F : zF} (hd : 4 ≤ F.2.2.2) (x0 : Option Nat)  (G : GS) {a : (Int32) × GS} (h : fX4_used_0 x0  G = some a) (hk : zKI F a) : J mX4_used F G 0 [(0, vR x0)] [] := by
  unfold fX4_used_0 at h
  refine j_iconst (v := 1) dX4_used_0 (by decide) ?_
  refine j_istore_n (lv' := [(1, vI 1), (0, vR x0)]) dX4_used_1 rfl (Nat.le_of_ble_eq_true rfl) rfl ?_
  refine j_aload_n (j := 1) dX4_used_2 rfl rfl ?_
  replace h := zbE h
  obtain ⟨a1, e2, h⟩ := h
  subst e2
  replace h := zkE h
  obtain ⟨e3, h⟩ := h
  replace h := zb2E h
  obtain ⟨r5, G6, e4, h⟩ := h
  refine j_cont (zrF (As := []) msX4_20_J2 (yJ2_iterator_ok e4) (Nat.le_trans (Nat.le_of_ble_eq_true rfl) hd) (zk_12 _ e3) rfl rfl (Nat.le_of_ble_eq_true rfl) dX4_used_3) ?_
  refine j_astore_n (lv' := [(2, vR r5), (1, vI 1), (0, vR (some a1))]) dX4_used_8 rfl (Nat.le_of_ble_eq_true rfl) rfl ?_
  exact J.sub (zall [1, 0] rfl) (wflX4_used_9 hd 1 r5  G6 h hk)
theorem yX4_used_ok {x0 : Option Nat} {G : GS} {r : Int32} {G1 : GS} (h : fX4_used_0 x0 G = some (r, G1)) : zRuns yX4_used (ws_ yX4_used cX4_used 8 (some Jvm.ClassFile.FieldType.int)) [vR x0] (.inl (some (vI r)), G, G1, 4) :=
  zentry (M := mX4_used) (plainFor_of_name (by decide +kernel)) ⟨rfl, rfl, rfl, rfl⟩ (Nat.le_of_ble_eq_true rfl) (wfX4_used_0 (Nat.le_refl _) x0 G h ⟨rfl, rfl⟩)
theorem exX4_54_56 : zEXN RX4 54 56 "SelahGenerator" "SelahGenerator$Failed" ["java/lang/Exception"] := zEXN.of q2225 q170 (by decide +kernel) (by decide +kernel) (by decide +kernel) (by decide +kernel) (by decide) (zxw 97 rfl) (by decide +kernel)
theorem fgX4_57 : zFG RX4 57 3 1 (.int) := ⟨(RX4, TX4, 3, tyX4), rfl, by decide, in_X4, rfl, "SelahGenerator$Workshop", Or.inl rfl, Or.inl q2203⟩
theorem fpX4_57_X4 : zFP RX4 57 3 1 (.int) false := ⟨(RX4, TX4, 3, tyX4), rfl, by decide, in_X4, tyX4_ok, nmX4, rfl, rfl, (by decide), "SelahGenerator$Workshop", Or.inl rfl, q2203⟩
theorem msX4_50 : zSS RX4 50 yX4_used cX4_used 8 (some Jvm.ClassFile.FieldType.int) 1 := ⟨lw_S q2296 q282 q146 q283, (by decide +kernel), (by decide)⟩
abbrev mX4_unused : zM := (cX4_unused, RX4, 3, (some Jvm.ClassFile.FieldType.int), "unused", [], "()I")
def fX4_unused_31 (t : Nat) (x2 : Int32)  (G : GS) : Option (((Int32) ⊕ String) × GS) :=
  if x2 = 12 then (zl (al G 0 0 6) fun G2 => some (.inr "SelahGenerator$Failed", G2)) else ((zgI G 4 t 1).bind fun v4 => (zpI G 4 t 1 (v4 + 1)).bind fun G6 => some (.inl (20 + x2), G6))
theorem wfX4_unused_31 {F : zF} (hd : 7 ≤ F.2.2.2) (t : Nat) (x2 : Int32)  (G : GS) {a : ((Int32) ⊕ String) × GS} (h : fX4_unused_31 t x2  G = some a) (hk : zKXI F a) : J mX4_unused F G 31 [(0, vR (some t)), (2, vI x2)] [] := by
  unfold fX4_unused_31 at h
  refine j_iload_n (j := 1) dX4_unused_31 rfl rfl ?_
  refine j_bipush (v := 12) dX4_unused_32 (by decide) ?_
  refine j_icmp_ne (tgt := 45) dX4_unused_34 (by decide) (fun c1 => ?_) (fun c1 => ?_)
  · rw [if_pos c1] at h
    replace h := zlE h
    obtain ⟨G2, e3, h⟩ := h
    refine j_throwN exX4_54_56 dX4_unused_37 dX4_unused_40 dX4_unused_41 dX4_unused_44 (Nat.le_trans (Nat.le_of_ble_eq_true rfl) hd) (Nat.le_of_ble_eq_true rfl) ?_
    rw [show al G 0 0 6 = G2 from e3.symm]
    obtain rfl := Option.some.inj h
    exact jx_out hk.1 hk.2 (by decide)
  · rw [if_neg c1] at h
    refine j_aload_n (j := 0) dX4_unused_45 rfl rfl ?_
    refine j_dup dX4_unused_46 rfl ?_
    replace h := zbE h
    obtain ⟨v4, e5, h⟩ := h
    refine j_getI fgX4_57 (fun _ _ _ => rfl) dX4_unused_47 e5 ?_
    refine j_iconst (v := 1) dX4_unused_50 (by decide) ?_
    refine j_iadd dX4_unused_51 ?_
    replace h := zbE h
    obtain ⟨G6, e7, h⟩ := h
    refine j_putI fpX4_57_X4 (Or.inl rfl) rfl dX4_unused_52 e7 ?_
    refine j_bipush (v := 20) dX4_unused_55 (by decide) ?_
    refine j_iload_n (j := 1) dX4_unused_57 rfl rfl ?_
    refine j_iadd dX4_unused_58 ?_
    obtain rfl := Option.some.inj h
    exact j_iret hk.1 hk.2 rfl dX4_unused_59
def fbX4_unused_10 (t : Nat) (x1 : Int32) (x2 : Int32)  (G : GS) : Option ((Int32) ⊕ (((Int32) ⊕ String) × GS)) :=
  if 12 ≤ x2 then (zo (fX4_unused_31 t x2 G)) else (if ((x1 >>> (x2 &&& 31)) &&& 1) = 1 then (some (.inl ((x2 + 1)))) else (zo (fX4_unused_31 t x2 G)))
def flX4_unused_10 (t : Nat) (x1 : Int32) (x2 : Int32) (G : GS) : Option (((Int32) ⊕ String) × GS) := zloop (fun s : Int32 => fbX4_unused_10 t x1 s G) (x2)
theorem wfbX4_unused_10 {F : zF} (hd : 7 ≤ F.2.2.2) (t : Nat) (x1 : Int32) (x2 : Int32) (G : GS) {a : (Int32) ⊕ (((Int32) ⊕ String) × GS)} (h : fbX4_unused_10 t x1 x2 G = some a) (hk : (zcase (fun s : Int32 => J mX4_unused F G 10 [(0, vR (some t)), (1, vI x1), (2, vI s)] []) (zKXI F)) a) : J mX4_unused F G 10 [(0, vR (some t)), (1, vI x1), (2, vI x2)] [] := by
  unfold fbX4_unused_10 at h
  refine j_iload_n (j := 2) dX4_unused_10 rfl rfl ?_
  refine j_bipush (v := 12) dX4_unused_11 (by decide) ?_
  refine j_icmp_ge (tgt := 31) dX4_unused_13 (by decide) (fun c1 => ?_) (fun c1 => ?_)
  · rw [if_pos c1] at h
    replace h := zoE h
    obtain ⟨a, h, rfl⟩ := h
    replace hk := hk
    exact J.sub (zall [0, 2] rfl) (wfX4_unused_31 hd t x2  G h hk)
  · rw [if_neg c1] at h
    refine j_iload_n (j := 1) dX4_unused_16 rfl rfl ?_
    refine j_iload_n (j := 2) dX4_unused_17 rfl rfl ?_
    refine j_ishr dX4_unused_18 ?_
    refine j_iconst (v := 1) dX4_unused_19 (by decide) ?_
    refine j_iand dX4_unused_20 ?_
    refine j_iconst (v := 1) dX4_unused_21 (by decide) ?_
    refine j_icmp_ne (tgt := 31) dX4_unused_22 (by decide) (fun c2 => ?_) (fun c2 => ?_)
    · rw [if_pos c2] at h
      refine j_iinc (j := 2) (v := (x2 + 1)) (lv' := [(2, vI (x2 + 1)), (0, vR (some t)), (1, vI x1)]) dX4_unused_25 rfl rfl (Nat.le_of_ble_eq_true rfl) rfl ?_
      refine j_goto (tgt := 10) dX4_unused_28 (by decide) ?_
      obtain rfl := Option.some.inj h
      exact J.sub (zall [1, 2, 0] rfl) hk
    · rw [if_neg c2] at h
      replace h := zoE h
      obtain ⟨a, h, rfl⟩ := h
      replace hk := hk
      exact J.sub (zall [0, 2] rfl) (wfX4_unused_31 hd t x2  G h hk)
theorem wflX4_unused_10 {F : zF} (hd : 7 ≤ F.2.2.2) (t : Nat) (x1 : Int32) (x2 : Int32) (G : GS) {a : ((Int32) ⊕ String) × GS} (h : flX4_unused_10 t x1 x2 G = some a) (hk : zKXI F a) : J mX4_unused F G 10 [(0, vR (some t)), (1, vI x1), (2, vI x2)] [] := by
  unfold flX4_unused_10 at h
  exact zloop_walk (P := (fun s : Int32 => J mX4_unused F G 10 [(0, vR (some t)), (1, vI x1), (2, vI s)] [])) (fun s b e hk => wfbX4_unused_10 hd t x1 s G e hk) (x2) _ h hk
def fX4_unused_0 (t : Nat)  (G : GS) : Option (((Int32) ⊕ String) × GS) :=
  (zgR G 4 t 0).bind fun r1 => zb2 (fX4_used_0 r1 G) fun v4 G5 => flX4_unused_10 t v4 0 G5
theorem wfX4_unused_0 {F : zF} (hd : 7 ≤ F.2.2.2) (t : Nat)  (G : GS) {a : ((Int32) ⊕ String) × GS} (h : fX4_unused_0 t  G = some a) (hk : zKXI F a) : J mX4_unused F G 0 [(0, vR (some t))] [] := by
  unfold fX4_unused_0 at h
  refine j_aload_n (j := 0) dX4_unused_0 rfl rfl ?_
  replace h := zbE h
  obtain ⟨r1, e2, h⟩ := h
  refine j_getR fgX4_14 (fun _ _ _ => rfl) dX4_unused_1 e2 ?_
  replace h := zb2E h
  obtain ⟨v4, G5, e3, h⟩ := h
  refine j_cont (zrS (As := [vR r1]) msX4_50 (yX4_used_ok e3) (Nat.le_trans (Nat.le_of_ble_eq_true rfl) hd) rfl rfl (Nat.le_of_ble_eq_true rfl) dX4_unused_4) ?_
  refine j_istore_n (lv' := [(1, vI v4), (0, vR (some t))]) dX4_unused_7 rfl (Nat.le_of_ble_eq_true rfl) rfl ?_
  refine j_iconst (v := 0) dX4_unused_8 (by decide) ?_
  refine j_istore_n (lv' := [(2, vI 0), (1, vI v4), (0, vR (some t))]) dX4_unused_9 rfl (Nat.le_of_ble_eq_true rfl) rfl ?_
  exact J.sub (zall [2, 1, 0] rfl) (wflX4_unused_10 hd t v4 0  G5 h hk)
theorem yX4_unused_ok {t : Nat} {G : GS} {r : (Int32) ⊕ String} {G1 : GS} (h : fX4_unused_0 t G = some (r, G1)) : zRuns yX4_unused (ws_ yX4_unused cX4_unused 3 (some Jvm.ClassFile.FieldType.int)) [vR (some t)] (zout (fun v => some (vI v)) r, G, G1, 7) :=
  zentry (M := mX4_unused) (plainFor_of_name (by decide +kernel)) ⟨rfl, rfl, rfl, rfl⟩ (Nat.le_of_ble_eq_true rfl) (wfX4_unused_0 (Nat.le_refl _) t G h ⟨rfl, rfl⟩)
abbrev mJ37_equals : zM := (cJ37_equals, RJ37, 2, (some Jvm.ClassFile.FieldType.boolean), "equals", [], "(Ljava/lang/Object;)Z")
def fJ37_equals_0 (t : Nat) (x1 : Option Nat)  (G : GS) : Option (Int32) :=
  if (some t) = x1 then (zcond (zbb 1) (some 1)) else (zcond (zbb 0) (some 0))
theorem wfJ37_equals_0 {F : zF} (hd : 1 ≤ F.2.2.2) (t : Nat) (x1 : Option Nat)  (G : GS) {a : Int32} (h : fJ37_equals_0 t x1  G = some a) (hk : zKPI F G a) : J mJ37_equals F G 0 [(0, vR (some t)), (1, vR x1)] [] := by
  unfold fJ37_equals_0 at h
  refine j_aload_n (j := 0) dJ37_equals_0 rfl rfl ?_
  refine j_aload_n (j := 1) dJ37_equals_1 rfl rfl ?_
  refine j_acmp_ne (tgt := 9) dJ37_equals_2 (by decide) (fun c1 => ?_) (fun c1 => ?_)
  · rw [if_pos c1] at h
    refine j_iconst (v := 1) dJ37_equals_5 (by decide) ?_
    refine j_goto (tgt := 10) dJ37_equals_6 (by decide) ?_
    replace h := zcondE h
    obtain ⟨e2, h⟩ := h
    obtain rfl := Option.some.inj h
    exact j_zret hk.1 hk.2 rfl (zbb_n e2) dJ37_equals_10
  · rw [if_neg c1] at h
    refine j_iconst (v := 0) dJ37_equals_9 (by decide) ?_
    replace h := zcondE h
    obtain ⟨e3, h⟩ := h
    obtain rfl := Option.some.inj h
    exact j_zret hk.1 hk.2 rfl (zbb_n e3) dJ37_equals_10
theorem yJ37_equals_ok {t : Nat} {x1 : Option Nat} {G : GS} {r : Int32} (h : fJ37_equals_0 t x1 G = some r) : zRuns yJ37_equals (ws_ yJ37_equals cJ37_equals 2 (some Jvm.ClassFile.FieldType.boolean)) [vR (some t), vR x1] (.inl (some (vI r)), G, G, 1) :=
  zentry (M := mJ37_equals) (by decide +kernel) ⟨rfl, rfl, rfl, rfl⟩ (Nat.le_of_ble_eq_true rfl) (wfJ37_equals_0 (Nat.le_refl _) t x1 G h ⟨rfl, rfl⟩)
theorem msJ2_93_X3 : zSU RJ2 93 "SelahGenerator$Rule" "java/lang/Object" ⟨"java/lang/Object", "equals", "(Ljava/lang/Object;)Z"⟩ yJ37_equals cJ37_equals 2 (some Jvm.ClassFile.FieldType.boolean) 1 := ⟨lw_U q2356 q2358 q2366 q2357 q3290 q2388, rfl, (by decide +kernel), (by decide)⟩
abbrev mJ2_indexOfRange : zM := (cJ2_indexOfRange, RJ2, 6, (some Jvm.ClassFile.FieldType.int), "indexOfRange", [], "(Ljava/lang/Object;II)I")
def fJ2_indexOfRange_36   (G : GS) : Option (Int32) :=
  some (-1)
theorem wfJ2_indexOfRange_36 {F : zF} (hd : 2 ≤ F.2.2.2)   (G : GS) {a : Int32} (h : fJ2_indexOfRange_36   G = some a) (hk : zKPI F G a) : J mJ2_indexOfRange F G 36 [] [] := by
  unfold fJ2_indexOfRange_36 at h
  refine j_goto (tgt := 69) dJ2_indexOfRange_36 (by decide) ?_
  refine j_iconst (v := (-1)) dJ2_indexOfRange_69 (by decide) ?_
  obtain rfl := Option.some.inj h
  exact j_iret hk.1 hk.2 rfl dJ2_indexOfRange_70
def fbJ2_indexOfRange_13 (x3 : Int32) (x4 : Option Nat) (x5 : Int32)  (G : GS) : Option ((Int32) ⊕ (Int32)) :=
  if x3 ≤ x5 then (zo (fJ2_indexOfRange_36 G)) else (x4.bind fun a2 => (zaR G 54 a2 x5).bind fun r4 => zopt r4 (zo (some x5)) (fun a6 => some (.inl ((x5 + 1)))))
def flJ2_indexOfRange_13 (x3 : Int32) (x4 : Option Nat) (x5 : Int32) (G : GS) : Option (Int32) := zloop (fun s : Int32 => fbJ2_indexOfRange_13 x3 x4 s G) (x5)
theorem wfbJ2_indexOfRange_13 {F : zF} (hd : 2 ≤ F.2.2.2) (x3 : Int32) (x4 : Option Nat) (x5 : Int32) (G : GS) {a : (Int32) ⊕ (Int32)} (h : fbJ2_indexOfRange_13 x3 x4 x5 G = some a) (hk : (zcase (fun s : Int32 => J mJ2_indexOfRange F G 13 [(3, vI x3), (4, vR x4), (5, vI s)] []) (zKPI F G)) a) : J mJ2_indexOfRange F G 13 [(3, vI x3), (4, vR x4), (5, vI x5)] [] := by
  unfold fbJ2_indexOfRange_13 at h
  refine j_iload (j := 2) dJ2_indexOfRange_13 rfl ?_
  refine j_iload_n (j := 0) dJ2_indexOfRange_15 rfl rfl ?_
  refine j_icmp_ge (tgt := 36) dJ2_indexOfRange_16 (by decide) (fun c1 => ?_) (fun c1 => ?_)
  · rw [if_pos c1] at h
    replace h := zoE h
    obtain ⟨a, h, rfl⟩ := h
    replace hk := hk
    exact J.sub (zall [] rfl) (wfJ2_indexOfRange_36 hd   G h hk)
  · rw [if_neg c1] at h
    refine j_aload (j := 1) dJ2_indexOfRange_19 rfl ?_
    refine j_iload (j := 2) dJ2_indexOfRange_21 rfl ?_
    replace h := zbE h
    obtain ⟨a2, e3, h⟩ := h
    subst e3
    replace h := zbE h
    obtain ⟨r4, e5, h⟩ := h
    refine j_aald (Or.inl rfl) e5 dJ2_indexOfRange_23 ?_
    rcases r4 with _ | a6
    · replace h := zopt_n h
      refine j_ifnonnull0 dJ2_indexOfRange_24 ?_
      replace h := zoE h
      obtain ⟨a, h, rfl⟩ := h
      replace hk := hk
      refine j_iload (j := 2) dJ2_indexOfRange_27 rfl ?_
      obtain rfl := Option.some.inj h
      exact j_iret hk.1 hk.2 rfl dJ2_indexOfRange_29
    · replace h := zopt_s h
      refine j_ifnonnull1 (tgt := 30) dJ2_indexOfRange_24 (by decide) ?_
      refine j_iinc (j := 2) (v := (x5 + 1)) (lv' := [(5, vI (x5 + 1)), (3, vI x3), (4, vR (some a2))]) dJ2_indexOfRange_30 rfl rfl (Nat.le_of_ble_eq_true rfl) rfl ?_
      refine j_goto (tgt := 13) dJ2_indexOfRange_33 (by decide) ?_
      obtain rfl := Option.some.inj h
      exact J.sub (zall [1, 2, 0] rfl) hk
theorem wflJ2_indexOfRange_13 {F : zF} (hd : 2 ≤ F.2.2.2) (x3 : Int32) (x4 : Option Nat) (x5 : Int32) (G : GS) {a : Int32} (h : flJ2_indexOfRange_13 x3 x4 x5 G = some a) (hk : zKPI F G a) : J mJ2_indexOfRange F G 13 [(3, vI x3), (4, vR x4), (5, vI x5)] [] := by
  unfold flJ2_indexOfRange_13 at h
  exact zloop_walk (P := (fun s : Int32 => J mJ2_indexOfRange F G 13 [(3, vI x3), (4, vR x4), (5, vI s)] [])) (fun s b e hk => wfbJ2_indexOfRange_13 hd x3 x4 s G e hk) (x5) _ h hk
def fbJ2_indexOfRange_42 (x1 : Option Nat) (x3 : Int32) (x4 : Option Nat) (x5 : Int32)  (G : GS) : Option ((Int32) ⊕ (Int32)) :=
  if x3 ≤ x5 then (zo (some (-1))) else (x4.bind fun a2 => (zaR G 54 a2 x5).bind fun r4 => x1.bind fun a6 => zk [3] G a6 <| (fJ37_equals_0 a6 r4 G).bind fun v10 => if v10 = 0 then (some (.inl ((x5 + 1)))) else (zo (some x5)))
def flJ2_indexOfRange_42 (x1 : Option Nat) (x3 : Int32) (x4 : Option Nat) (x5 : Int32) (G : GS) : Option (Int32) := zloop (fun s : Int32 => fbJ2_indexOfRange_42 x1 x3 x4 s G) (x5)
theorem wfbJ2_indexOfRange_42 {F : zF} (hd : 2 ≤ F.2.2.2) (x1 : Option Nat) (x3 : Int32) (x4 : Option Nat) (x5 : Int32) (G : GS) {a : (Int32) ⊕ (Int32)} (h : fbJ2_indexOfRange_42 x1 x3 x4 x5 G = some a) (hk : (zcase (fun s : Int32 => J mJ2_indexOfRange F G 42 [(1, vR x1), (3, vI x3), (4, vR x4), (5, vI s)] []) (zKPI F G)) a) : J mJ2_indexOfRange F G 42 [(1, vR x1), (3, vI x3), (4, vR x4), (5, vI x5)] [] := by
  unfold fbJ2_indexOfRange_42 at h
  refine j_iload (j := 3) dJ2_indexOfRange_42 rfl ?_
  refine j_iload_n (j := 1) dJ2_indexOfRange_44 rfl rfl ?_
  refine j_icmp_ge (tgt := 69) dJ2_indexOfRange_45 (by decide) (fun c1 => ?_) (fun c1 => ?_)
  · rw [if_pos c1] at h
    replace h := zoE h
    obtain ⟨a, h, rfl⟩ := h
    replace hk := hk
    refine j_iconst (v := (-1)) dJ2_indexOfRange_69 (by decide) ?_
    obtain rfl := Option.some.inj h
    exact j_iret hk.1 hk.2 rfl dJ2_indexOfRange_70
  · rw [if_neg c1] at h
    refine j_aload_n (j := 0) dJ2_indexOfRange_48 rfl rfl ?_
    refine j_aload (j := 2) dJ2_indexOfRange_49 rfl ?_
    refine j_iload (j := 3) dJ2_indexOfRange_51 rfl ?_
    replace h := zbE h
    obtain ⟨a2, e3, h⟩ := h
    subst e3
    replace h := zbE h
    obtain ⟨r4, e5, h⟩ := h
    refine j_aald (Or.inl rfl) e5 dJ2_indexOfRange_53 ?_
    replace h := zbE h
    obtain ⟨a6, e7, h⟩ := h
    subst e7
    replace h := zkE h
    obtain ⟨e8, h⟩ := h
    replace h := zbE h
    obtain ⟨v10, e9, h⟩ := h
    refine j_cont (zrU (As := [vR r4]) msJ2_93_X3 (yJ37_equals_ok e9) (Nat.le_trans (Nat.le_of_ble_eq_true rfl) hd) (zk_3 _ e8) rfl rfl (Nat.le_of_ble_eq_true rfl) dJ2_indexOfRange_54) ?_
    refine j_if_eq (tgt := 63) dJ2_indexOfRange_57 (by decide) (fun c11 => ?_) (fun c11 => ?_)
    · rw [if_pos c11] at h
      refine j_iinc (j := 3) (v := (x5 + 1)) (lv' := [(5, vI (x5 + 1)), (1, vR (some a6)), (3, vI x3), (4, vR (some a2))]) dJ2_indexOfRange_63 rfl rfl (Nat.le_of_ble_eq_true rfl) rfl ?_
      refine j_goto (tgt := 42) dJ2_indexOfRange_66 (by decide) ?_
      obtain rfl := Option.some.inj h
      exact J.sub (zall [1, 2, 3, 0] rfl) hk
    · rw [if_neg c11] at h
      replace h := zoE h
      obtain ⟨a, h, rfl⟩ := h
      replace hk := hk
      refine j_iload (j := 3) dJ2_indexOfRange_60 rfl ?_
      obtain rfl := Option.some.inj h
      exact j_iret hk.1 hk.2 rfl dJ2_indexOfRange_62
theorem wflJ2_indexOfRange_42 {F : zF} (hd : 2 ≤ F.2.2.2) (x1 : Option Nat) (x3 : Int32) (x4 : Option Nat) (x5 : Int32) (G : GS) {a : Int32} (h : flJ2_indexOfRange_42 x1 x3 x4 x5 G = some a) (hk : zKPI F G a) : J mJ2_indexOfRange F G 42 [(1, vR x1), (3, vI x3), (4, vR x4), (5, vI x5)] [] := by
  unfold flJ2_indexOfRange_42 at h
  exact zloop_walk (P := (fun s : Int32 => J mJ2_indexOfRange F G 42 [(1, vR x1), (3, vI x3), (4, vR x4), (5, vI s)] [])) (fun s b e hk => wfbJ2_indexOfRange_42 hd x1 x3 x4 s G e hk) (x5) _ h hk
def fJ2_indexOfRange_0 (t : Nat) (x1 : Option Nat) (x2 : Int32) (x3 : Int32)  (G : GS) : Option (Int32) :=
  (zgR G 12 t 1).bind fun r1 => zopt x1 (flJ2_indexOfRange_13 x3 r1 x2 G) (fun a3 => flJ2_indexOfRange_42 (some a3) x3 r1 x2 G)
theorem wfJ2_indexOfRange_0 {F : zF} (hd : 2 ≤ F.2.2.2) (t : Nat) (x1 : Option Nat) (x2 : Int32) (x3 : Int32)  (G : GS) {a : Int32} (h : fJ2_indexOfRange_0 t x1 x2 x3  G = some a) (hk : zKPI F G a) : J mJ2_indexOfRange F G 0 [(0, vR (some t)), (1, vR x1), (2, vI x2), (3, vI x3)] [] := by
  unfold fJ2_indexOfRange_0 at h
  refine j_aload_n (j := 0) dJ2_indexOfRange_0 rfl rfl ?_
  replace h := zbE h
  obtain ⟨r1, e2, h⟩ := h
  refine j_getR fgJ2_9 (fun _ _ _ => rfl) dJ2_indexOfRange_1 e2 ?_
  refine j_astore (lv' := [(4, vR r1), (0, vR (some t)), (1, vR x1), (2, vI x2), (3, vI x3)]) dJ2_indexOfRange_4 (Nat.le_of_ble_eq_true rfl) rfl ?_
  refine j_aload_n (j := 2) dJ2_indexOfRange_6 rfl rfl ?_
  rcases x1 with _ | a3
  · replace h := zopt_n h
    refine j_ifnonnull0 dJ2_indexOfRange_7 ?_
    refine j_iload_n (j := 3) dJ2_indexOfRange_10 rfl rfl ?_
    refine j_istore (lv' := [(5, vI x2), (4, vR r1), (0, vR (some t)), (1, vR none), (2, vI x2), (3, vI x3)]) dJ2_indexOfRange_11 (Nat.le_of_ble_eq_true rfl) rfl ?_
    exact J.sub (zall [5, 1, 0] rfl) (wflJ2_indexOfRange_13 hd x3 r1 x2  G h hk)
  · replace h := zopt_s h
    refine j_ifnonnull1 (tgt := 39) dJ2_indexOfRange_7 (by decide) ?_
    refine j_iload_n (j := 3) dJ2_indexOfRange_39 rfl rfl ?_
    refine j_istore (lv' := [(5, vI x2), (4, vR r1), (0, vR (some t)), (1, vR (some a3)), (2, vI x2), (3, vI x3)]) dJ2_indexOfRange_40 (Nat.le_of_ble_eq_true rfl) rfl ?_
    exact J.sub (zall [3, 5, 1, 0] rfl) (wflJ2_indexOfRange_42 hd (some a3) x3 r1 x2  G h hk)
theorem yJ2_indexOfRange_ok {t : Nat} {x1 : Option Nat} {x2 : Int32} {x3 : Int32} {G : GS} {r : Int32} (h : fJ2_indexOfRange_0 t x1 x2 x3 G = some r) : zRuns yJ2_indexOfRange (ws_ yJ2_indexOfRange cJ2_indexOfRange 6 (some Jvm.ClassFile.FieldType.int)) [vR (some t), vR x1, vI x2, vI x3] (.inl (some (vI r)), G, G, 2) :=
  zentry (M := mJ2_indexOfRange) (plainFor_of_name (by decide +kernel)) ⟨rfl, rfl, rfl, rfl⟩ (Nat.le_of_ble_eq_true rfl) (wfJ2_indexOfRange_0 (Nat.le_refl _) t x1 x2 x3 G h ⟨rfl, rfl⟩)
theorem msJ2_89 : zSV RJ2 89 RJ2 yJ2_indexOfRange cJ2_indexOfRange 6 (some Jvm.ClassFile.FieldType.int) 3 := ⟨lw_V q2351 q2352 q2353 q126 q2354, (by decide +kernel), (by decide)⟩
abbrev mJ2_indexOf : zM := (cJ2_indexOf, RJ2, 2, (some Jvm.ClassFile.FieldType.int), "indexOf", [], "(Ljava/lang/Object;)I")
def fJ2_indexOf_0 (t : Nat) (x1 : Option Nat)  (G : GS) : Option (Int32) :=
  (zgI G 12 t 2).bind fun v1 => zk [12] G t <| (fJ2_indexOfRange_0 t x1 0 v1 G).bind fun v5 => some v5
theorem wfJ2_indexOf_0 {F : zF} (hd : 3 ≤ F.2.2.2) (t : Nat) (x1 : Option Nat)  (G : GS) {a : Int32} (h : fJ2_indexOf_0 t x1  G = some a) (hk : zKPI F G a) : J mJ2_indexOf F G 0 [(0, vR (some t)), (1, vR x1)] [] := by
  unfold fJ2_indexOf_0 at h
  refine j_aload_n (j := 0) dJ2_indexOf_0 rfl rfl ?_
  refine j_aload_n (j := 1) dJ2_indexOf_1 rfl rfl ?_
  refine j_iconst (v := 0) dJ2_indexOf_2 (by decide) ?_
  refine j_aload_n (j := 0) dJ2_indexOf_3 rfl rfl ?_
  replace h := zbE h
  obtain ⟨v1, e2, h⟩ := h
  refine j_getI fgJ2_48 (fun _ _ _ => rfl) dJ2_indexOf_4 e2 ?_
  replace h := zkE h
  obtain ⟨e3, h⟩ := h
  replace h := zbE h
  obtain ⟨v5, e4, h⟩ := h
  refine j_cont (zrV (As := [vR x1, vI 0, vI v1]) msJ2_89 (yJ2_indexOfRange_ok e4) (Nat.le_trans (Nat.le_of_ble_eq_true rfl) hd) (zk_12 _ e3) rfl rfl (Nat.le_of_ble_eq_true rfl) dJ2_indexOf_7) ?_
  obtain rfl := Option.some.inj h
  exact j_iret hk.1 hk.2 rfl dJ2_indexOf_10
theorem yJ2_indexOf_ok {t : Nat} {x1 : Option Nat} {G : GS} {r : Int32} (h : fJ2_indexOf_0 t x1 G = some r) : zRuns yJ2_indexOf (ws_ yJ2_indexOf cJ2_indexOf 2 (some Jvm.ClassFile.FieldType.int)) [vR (some t), vR x1] (.inl (some (vI r)), G, G, 3) :=
  zentry (M := mJ2_indexOf) (plainFor_of_name (by decide +kernel)) ⟨rfl, rfl, rfl, rfl⟩ (Nat.le_of_ble_eq_true rfl) (wfJ2_indexOf_0 (Nat.le_refl _) t x1 G h ⟨rfl, rfl⟩)
abbrev mJ2_fastRemove : zM := (cJ2_fastRemove, RJ2, 4, none, "fastRemove", [], "([Ljava/lang/Object;I)V")
def fJ2_fastRemove_34 (t : Nat) (x1 : Option Nat) (x3 : Int32)  (G : GS) : Option (GS) :=
  (zpI G 12 t 2 x3).bind fun G1 => x1.bind fun a3 => (zsR G1 54 a3 x3 (none : Option Nat) [3]).bind fun G5 => some G5
theorem wfJ2_fastRemove_34 {F : zF} (hd : 1 ≤ F.2.2.2) (t : Nat) (x1 : Option Nat) (x3 : Int32)  (G : GS) {a : GS} (h : fJ2_fastRemove_34 t x1 x3  G = some a) (hk : zKV F a) : J mJ2_fastRemove F G 34 [(0, vR (some t)), (1, vR x1), (3, vI x3)] [] := by
  unfold fJ2_fastRemove_34 at h
  refine j_aload_n (j := 1) dJ2_fastRemove_34 rfl rfl ?_
  refine j_aload_n (j := 0) dJ2_fastRemove_35 rfl rfl ?_
  refine j_iload_n (j := 2) dJ2_fastRemove_36 rfl rfl ?_
  refine j_dup_x1 dJ2_fastRemove_37 rfl rfl ?_
  replace h := zbE h
  obtain ⟨G1, e2, h⟩ := h
  refine j_putI fpJ2_48_J2 (Or.inl rfl) rfl dJ2_fastRemove_38 e2 ?_
  refine j_null dJ2_fastRemove_41 ?_
  replace h := zbE h
  obtain ⟨a3, e4, h⟩ := h
  subst e4
  replace h := zbE h
  obtain ⟨G5, e6, h⟩ := h
  refine j_aast (t := 4) rfl e6 (fun k hk => ⟨_, zk_3 k hk, (Or.inl (zxw 93 rfl))⟩) dJ2_fastRemove_42 ?_
  obtain rfl := Option.some.inj h
  exact j_vret hk.1 hk.2 rfl dJ2_fastRemove_43
def fJ2_fastRemove_0 (t : Nat) (x1 : Option Nat) (x2 : Int32)  (G : GS) : Option (GS) :=
  (zgI G 12 t 0).bind fun v1 => (zpI G 12 t 0 (v1 + 1)).bind fun G3 => (zgI G3 12 t 2).bind fun v5 => if (v5 - 1) ≤ x2 then (fJ2_fastRemove_34 t x1 (v5 - 1) G3) else (x1.bind fun a8 => (zcpR G3 a8 (x2 + 1) a8 x2 ((v5 - 1) - x2)).bind fun G10 => fJ2_fastRemove_34 t (some a8) (v5 - 1) G10)
theorem wfJ2_fastRemove_0 {F : zF} (hd : 1 ≤ F.2.2.2) (t : Nat) (x1 : Option Nat) (x2 : Int32)  (G : GS) {a : GS} (h : fJ2_fastRemove_0 t x1 x2  G = some a) (hk : zKV F a) : J mJ2_fastRemove F G 0 [(0, vR (some t)), (1, vR x1), (2, vI x2)] [] := by
  unfold fJ2_fastRemove_0 at h
  refine j_aload_n (j := 0) dJ2_fastRemove_0 rfl rfl ?_
  refine j_dup dJ2_fastRemove_1 rfl ?_
  replace h := zbE h
  obtain ⟨v1, e2, h⟩ := h
  refine j_getI fgJ2_63 (fun _ _ _ => rfl) dJ2_fastRemove_2 e2 ?_
  refine j_iconst (v := 1) dJ2_fastRemove_5 (by decide) ?_
  refine j_iadd dJ2_fastRemove_6 ?_
  replace h := zbE h
  obtain ⟨G3, e4, h⟩ := h
  refine j_putI fpJ2_63_J2 (Or.inl rfl) rfl dJ2_fastRemove_7 e4 ?_
  refine j_aload_n (j := 0) dJ2_fastRemove_10 rfl rfl ?_
  replace h := zbE h
  obtain ⟨v5, e6, h⟩ := h
  refine j_getI fgJ2_48 (fun _ _ _ => rfl) dJ2_fastRemove_11 e6 ?_
  refine j_iconst (v := 1) dJ2_fastRemove_14 (by decide) ?_
  refine j_isub dJ2_fastRemove_15 ?_
  refine j_dup dJ2_fastRemove_16 rfl ?_
  refine j_istore_n (lv' := [(3, vI (v5 - 1)), (0, vR (some t)), (1, vR x1), (2, vI x2)]) dJ2_fastRemove_17 rfl (Nat.le_of_ble_eq_true rfl) rfl ?_
  refine j_iload_n (j := 3) dJ2_fastRemove_18 rfl rfl ?_
  refine j_icmp_le (tgt := 34) dJ2_fastRemove_19 (by decide) (fun c7 => ?_) (fun c7 => ?_)
  · rw [if_pos c7] at h
    exact J.sub (zall [1, 2, 0] rfl) (wfJ2_fastRemove_34 hd t x1 (v5 - 1)  G3 h hk)
  · rw [if_neg c7] at h
    refine j_aload_n (j := 2) dJ2_fastRemove_22 rfl rfl ?_
    refine j_iload_n (j := 3) dJ2_fastRemove_23 rfl rfl ?_
    refine j_iconst (v := 1) dJ2_fastRemove_24 (by decide) ?_
    refine j_iadd dJ2_fastRemove_25 ?_
    refine j_aload_n (j := 2) dJ2_fastRemove_26 rfl rfl ?_
    refine j_iload_n (j := 3) dJ2_fastRemove_27 rfl rfl ?_
    refine j_iload_n (j := 0) dJ2_fastRemove_28 rfl rfl ?_
    refine j_iload_n (j := 3) dJ2_fastRemove_29 rfl rfl ?_
    refine j_isub dJ2_fastRemove_30 ?_
    replace h := zbE h
    obtain ⟨a8, e9, h⟩ := h
    subst e9
    replace h := zbE h
    obtain ⟨G10, e11, h⟩ := h
    refine j_cpR e11 q1842 q816 q815 q142 (Nat.le_trans (Nat.le_of_ble_eq_true rfl) hd) (Nat.le_of_ble_eq_true rfl) dJ2_fastRemove_31 ?_
    exact J.sub (zall [1, 2, 0] rfl) (wfJ2_fastRemove_34 hd t (some a8) (v5 - 1)  G10 h hk)
theorem yJ2_fastRemove_ok {t : Nat} {x1 : Option Nat} {x2 : Int32} {G : GS} {G1 : GS} (h : fJ2_fastRemove_0 t x1 x2 G = some G1) : zRuns yJ2_fastRemove (ws_ yJ2_fastRemove cJ2_fastRemove 4 none) [vR (some t), vR x1, vI x2] (.inl none, G, G1, 1) :=
  zentry (M := mJ2_fastRemove) (plainFor_of_name (by decide +kernel)) ⟨rfl, rfl, rfl, rfl⟩ (Nat.le_of_ble_eq_true rfl) (wfJ2_fastRemove_0 (Nat.le_refl _) t x1 x2 G h ⟨rfl, rfl⟩)
theorem msJ2_144 : zSV RJ2 144 RJ2 yJ2_fastRemove cJ2_fastRemove 4 none 2 := ⟨lw_V q1838 q1840 qs38 q126 q1841, (by decide +kernel), (by decide)⟩
abbrev mJ2_remove_2 : zM := (cJ2_remove_2, RJ2, 5, (some Jvm.ClassFile.FieldType.boolean), "remove", [], "(Ljava/lang/Object;)Z")
def fJ2_remove_2_67 (t : Nat) (x2 : Option Nat) (x4 : Int32)  (G : GS) : Option ((Int32) × GS) :=
  zk [12] G t <| (fJ2_fastRemove_0 t x2 x4 G).bind fun G3 => zcond (zbb 1) (some (1, G3))
theorem wfJ2_remove_2_67 {F : zF} (hd : 2 ≤ F.2.2.2) (t : Nat) (x2 : Option Nat) (x4 : Int32)  (G : GS) {a : (Int32) × GS} (h : fJ2_remove_2_67 t x2 x4  G = some a) (hk : zKI F a) : J mJ2_remove_2 F G 67 [(0, vR (some t)), (2, vR x2), (4, vI x4)] [] := by
  unfold fJ2_remove_2_67 at h
  refine j_aload_n (j := 0) dJ2_remove_2_67 rfl rfl ?_
  refine j_aload_n (j := 1) dJ2_remove_2_68 rfl rfl ?_
  refine j_iload (j := 2) dJ2_remove_2_69 rfl ?_
  replace h := zkE h
  obtain ⟨e1, h⟩ := h
  replace h := zbE h
  obtain ⟨G3, e2, h⟩ := h
  refine j_cont (zrV (As := [vR x2, vI x4]) msJ2_144 (yJ2_fastRemove_ok e2) (Nat.le_trans (Nat.le_of_ble_eq_true rfl) hd) (zk_12 _ e1) rfl rfl (Nat.le_of_ble_eq_true rfl) dJ2_remove_2_71) ?_
  refine j_iconst (v := 1) dJ2_remove_2_74 (by decide) ?_
  replace h := zcondE h
  obtain ⟨e4, h⟩ := h
  obtain rfl := Option.some.inj h
  exact j_zret hk.1 hk.2 rfl (zbb_n e4) dJ2_remove_2_75
def fJ2_remove_2_30 (t : Nat) (x2 : Option Nat) (x4 : Int32)  (G : GS) : Option ((Int32) × GS) :=
  fJ2_remove_2_67 t x2 x4 G
theorem wfJ2_remove_2_30 {F : zF} (hd : 2 ≤ F.2.2.2) (t : Nat) (x2 : Option Nat) (x4 : Int32)  (G : GS) {a : (Int32) × GS} (h : fJ2_remove_2_30 t x2 x4  G = some a) (hk : zKI F a) : J mJ2_remove_2 F G 30 [(0, vR (some t)), (2, vR x2), (4, vI x4)] [] := by
  unfold fJ2_remove_2_30 at h
  refine j_goto (tgt := 67) dJ2_remove_2_30 (by decide) ?_
  exact J.sub (zall [0, 1, 2] rfl) (wfJ2_remove_2_67 hd t x2 x4  G h hk)
def fbJ2_remove_2_17 (t : Nat) (x2 : Option Nat) (x3 : Int32) (x4 : Int32)  (G : GS) : Option ((Int32) ⊕ ((Int32) × GS)) :=
  if x3 ≤ x4 then (zo (zcond (zbb 0) (some (0, G)))) else (x2.bind fun a3 => (zaR G 54 a3 x4).bind fun r5 => zopt r5 (zo (fJ2_remove_2_30 t (some a3) x4 G)) (fun a7 => some (.inl ((x4 + 1)))))
def flJ2_remove_2_17 (t : Nat) (x2 : Option Nat) (x3 : Int32) (x4 : Int32) (G : GS) : Option ((Int32) × GS) := zloop (fun s : Int32 => fbJ2_remove_2_17 t x2 x3 s G) (x4)
theorem wfbJ2_remove_2_17 {F : zF} (hd : 2 ≤ F.2.2.2) (t : Nat) (x2 : Option Nat) (x3 : Int32) (x4 : Int32) (G : GS) {a : (Int32) ⊕ ((Int32) × GS)} (h : fbJ2_remove_2_17 t x2 x3 x4 G = some a) (hk : (zcase (fun s : Int32 => J mJ2_remove_2 F G 17 [(0, vR (some t)), (2, vR x2), (3, vI x3), (4, vI s)] []) (zKI F)) a) : J mJ2_remove_2 F G 17 [(0, vR (some t)), (2, vR x2), (3, vI x3), (4, vI x4)] [] := by
  unfold fbJ2_remove_2_17 at h
  refine j_iload (j := 3) dJ2_remove_2_17 rfl ?_
  refine j_iload_n (j := 2) dJ2_remove_2_19 rfl rfl ?_
  refine j_icmp_ge (tgt := 65) dJ2_remove_2_20 (by decide) (fun c1 => ?_) (fun c1 => ?_)
  · rw [if_pos c1] at h
    replace h := zoE h
    obtain ⟨a, h, rfl⟩ := h
    replace hk := hk
    refine j_iconst (v := 0) dJ2_remove_2_65 (by decide) ?_
    replace h := zcondE h
    obtain ⟨e2, h⟩ := h
    obtain rfl := Option.some.inj h
    exact j_zret hk.1 hk.2 rfl (zbb_n e2) dJ2_remove_2_66
  · rw [if_neg c1] at h
    refine j_aload_n (j := 1) dJ2_remove_2_23 rfl rfl ?_
    refine j_iload (j := 3) dJ2_remove_2_24 rfl ?_
    replace h := zbE h
    obtain ⟨a3, e4, h⟩ := h
    subst e4
    replace h := zbE h
    obtain ⟨r5, e6, h⟩ := h
    refine j_aald (Or.inl rfl) e6 dJ2_remove_2_26 ?_
    rcases r5 with _ | a7
    · replace h := zopt_n h
      refine j_ifnonnull0 dJ2_remove_2_27 ?_
      replace h := zoE h
      obtain ⟨a, h, rfl⟩ := h
      replace hk := hk
      exact J.sub (zall [0, 1, 3] rfl) (wfJ2_remove_2_30 hd t (some a3) x4  G h hk)
    · replace h := zopt_s h
      refine j_ifnonnull1 (tgt := 33) dJ2_remove_2_27 (by decide) ?_
      refine j_iinc (j := 3) (v := (x4 + 1)) (lv' := [(4, vI (x4 + 1)), (0, vR (some t)), (2, vR (some a3)), (3, vI x3)]) dJ2_remove_2_33 rfl rfl (Nat.le_of_ble_eq_true rfl) rfl ?_
      refine j_goto (tgt := 17) dJ2_remove_2_36 (by decide) ?_
      obtain rfl := Option.some.inj h
      exact J.sub (zall [1, 2, 3, 0] rfl) hk
theorem wflJ2_remove_2_17 {F : zF} (hd : 2 ≤ F.2.2.2) (t : Nat) (x2 : Option Nat) (x3 : Int32) (x4 : Int32) (G : GS) {a : (Int32) × GS} (h : flJ2_remove_2_17 t x2 x3 x4 G = some a) (hk : zKI F a) : J mJ2_remove_2 F G 17 [(0, vR (some t)), (2, vR x2), (3, vI x3), (4, vI x4)] [] := by
  unfold flJ2_remove_2_17 at h
  exact zloop_walk (P := (fun s : Int32 => J mJ2_remove_2 F G 17 [(0, vR (some t)), (2, vR x2), (3, vI x3), (4, vI s)] [])) (fun s b e hk => wfbJ2_remove_2_17 hd t x2 x3 s G e hk) (x4) _ h hk
def fJ2_remove_2_56 (t : Nat) (x2 : Option Nat) (x4 : Int32)  (G : GS) : Option ((Int32) × GS) :=
  fJ2_remove_2_67 t x2 x4 G
theorem wfJ2_remove_2_56 {F : zF} (hd : 2 ≤ F.2.2.2) (t : Nat) (x2 : Option Nat) (x4 : Int32)  (G : GS) {a : (Int32) × GS} (h : fJ2_remove_2_56 t x2 x4  G = some a) (hk : zKI F a) : J mJ2_remove_2 F G 56 [(0, vR (some t)), (2, vR x2), (4, vI x4)] [] := by
  unfold fJ2_remove_2_56 at h
  refine j_goto (tgt := 67) dJ2_remove_2_56 (by decide) ?_
  exact J.sub (zall [0, 1, 2] rfl) (wfJ2_remove_2_67 hd t x2 x4  G h hk)
def fbJ2_remove_2_39 (t : Nat) (x1 : Option Nat) (x2 : Option Nat) (x3 : Int32) (x4 : Int32)  (G : GS) : Option ((Int32) ⊕ ((Int32) × GS)) :=
  if x3 ≤ x4 then (zo (zcond (zbb 0) (some (0, G)))) else (x2.bind fun a3 => (zaR G 54 a3 x4).bind fun r5 => x1.bind fun a7 => zk [3] G a7 <| (fJ37_equals_0 a7 r5 G).bind fun v11 => if v11 = 0 then (some (.inl ((x4 + 1)))) else (zo (fJ2_remove_2_56 t (some a3) x4 G)))
def flJ2_remove_2_39 (t : Nat) (x1 : Option Nat) (x2 : Option Nat) (x3 : Int32) (x4 : Int32) (G : GS) : Option ((Int32) × GS) := zloop (fun s : Int32 => fbJ2_remove_2_39 t x1 x2 x3 s G) (x4)
theorem wfbJ2_remove_2_39 {F : zF} (hd : 2 ≤ F.2.2.2) (t : Nat) (x1 : Option Nat) (x2 : Option Nat) (x3 : Int32) (x4 : Int32) (G : GS) {a : (Int32) ⊕ ((Int32) × GS)} (h : fbJ2_remove_2_39 t x1 x2 x3 x4 G = some a) (hk : (zcase (fun s : Int32 => J mJ2_remove_2 F G 39 [(0, vR (some t)), (1, vR x1), (2, vR x2), (3, vI x3), (4, vI s)] []) (zKI F)) a) : J mJ2_remove_2 F G 39 [(0, vR (some t)), (1, vR x1), (2, vR x2), (3, vI x3), (4, vI x4)] [] := by
  unfold fbJ2_remove_2_39 at h
  refine j_iload (j := 4) dJ2_remove_2_39 rfl ?_
  refine j_iload_n (j := 3) dJ2_remove_2_41 rfl rfl ?_
  refine j_icmp_ge (tgt := 65) dJ2_remove_2_42 (by decide) (fun c1 => ?_) (fun c1 => ?_)
  · rw [if_pos c1] at h
    replace h := zoE h
    obtain ⟨a, h, rfl⟩ := h
    replace hk := hk
    refine j_iconst (v := 0) dJ2_remove_2_65 (by decide) ?_
    replace h := zcondE h
    obtain ⟨e2, h⟩ := h
    obtain rfl := Option.some.inj h
    exact j_zret hk.1 hk.2 rfl (zbb_n e2) dJ2_remove_2_66
  · rw [if_neg c1] at h
    refine j_aload_n (j := 1) dJ2_remove_2_45 rfl rfl ?_
    refine j_aload_n (j := 2) dJ2_remove_2_46 rfl rfl ?_
    refine j_iload (j := 4) dJ2_remove_2_47 rfl ?_
    replace h := zbE h
    obtain ⟨a3, e4, h⟩ := h
    subst e4
    replace h := zbE h
    obtain ⟨r5, e6, h⟩ := h
    refine j_aald (Or.inl rfl) e6 dJ2_remove_2_49 ?_
    replace h := zbE h
    obtain ⟨a7, e8, h⟩ := h
    subst e8
    replace h := zkE h
    obtain ⟨e9, h⟩ := h
    replace h := zbE h
    obtain ⟨v11, e10, h⟩ := h
    refine j_cont (zrU (As := [vR r5]) msJ2_93_X3 (yJ37_equals_ok e10) (Nat.le_trans (Nat.le_of_ble_eq_true rfl) hd) (zk_3 _ e9) rfl rfl (Nat.le_of_ble_eq_true rfl) dJ2_remove_2_50) ?_
    refine j_if_eq (tgt := 59) dJ2_remove_2_53 (by decide) (fun c12 => ?_) (fun c12 => ?_)
    · rw [if_pos c12] at h
      refine j_iinc (j := 4) (v := (x4 + 1)) (lv' := [(4, vI (x4 + 1)), (0, vR (some t)), (1, vR (some a7)), (2, vR (some a3)), (3, vI x3)]) dJ2_remove_2_59 rfl rfl (Nat.le_of_ble_eq_true rfl) rfl ?_
      refine j_goto (tgt := 39) dJ2_remove_2_62 (by decide) ?_
      obtain rfl := Option.some.inj h
      exact J.sub (zall [1, 2, 3, 4, 0] rfl) hk
    · rw [if_neg c12] at h
      replace h := zoE h
      obtain ⟨a, h, rfl⟩ := h
      replace hk := hk
      exact J.sub (zall [0, 2, 4] rfl) (wfJ2_remove_2_56 hd t (some a3) x4  G h hk)
theorem wflJ2_remove_2_39 {F : zF} (hd : 2 ≤ F.2.2.2) (t : Nat) (x1 : Option Nat) (x2 : Option Nat) (x3 : Int32) (x4 : Int32) (G : GS) {a : (Int32) × GS} (h : flJ2_remove_2_39 t x1 x2 x3 x4 G = some a) (hk : zKI F a) : J mJ2_remove_2 F G 39 [(0, vR (some t)), (1, vR x1), (2, vR x2), (3, vI x3), (4, vI x4)] [] := by
  unfold flJ2_remove_2_39 at h
  exact zloop_walk (P := (fun s : Int32 => J mJ2_remove_2 F G 39 [(0, vR (some t)), (1, vR x1), (2, vR x2), (3, vI x3), (4, vI s)] [])) (fun s b e hk => wfbJ2_remove_2_39 hd t x1 x2 x3 s G e hk) (x4) _ h hk
def fJ2_remove_2_0 (t : Nat) (x1 : Option Nat)  (G : GS) : Option ((Int32) × GS) :=
  (zgR G 12 t 1).bind fun r1 => (zgI G 12 t 2).bind fun v3 => zopt x1 (flJ2_remove_2_17 t r1 v3 0 G) (fun a5 => flJ2_remove_2_39 t (some a5) r1 v3 0 G)
theorem wfJ2_remove_2_0 {F : zF} (hd : 2 ≤ F.2.2.2) (t : Nat) (x1 : Option Nat)  (G : GS) {a : (Int32) × GS} (h : fJ2_remove_2_0 t x1  G = some a) (hk : zKI F a) : J mJ2_remove_2 F G 0 [(0, vR (some t)), (1, vR x1)] [] := by
  unfold fJ2_remove_2_0 at h
  refine j_aload_n (j := 0) dJ2_remove_2_0 rfl rfl ?_
  replace h := zbE h
  obtain ⟨r1, e2, h⟩ := h
  refine j_getR fgJ2_9 (fun _ _ _ => rfl) dJ2_remove_2_1 e2 ?_
  refine j_astore_n (lv' := [(2, vR r1), (0, vR (some t)), (1, vR x1)]) dJ2_remove_2_4 rfl (Nat.le_of_ble_eq_true rfl) rfl ?_
  refine j_aload_n (j := 1) dJ2_remove_2_5 rfl rfl ?_
  replace h := zbE h
  obtain ⟨v3, e4, h⟩ := h
  refine j_getI fgJ2_48 (fun _ _ _ => rfl) dJ2_remove_2_6 e4 ?_
  refine j_istore_n (lv' := [(3, vI v3), (2, vR r1), (0, vR (some t)), (1, vR x1)]) dJ2_remove_2_9 rfl (Nat.le_of_ble_eq_true rfl) rfl ?_
  refine j_iconst (v := 0) dJ2_remove_2_10 (by decide) ?_
  refine j_istore (lv' := [(4, vI 0), (3, vI v3), (2, vR r1), (0, vR (some t)), (1, vR x1)]) dJ2_remove_2_11 (Nat.le_of_ble_eq_true rfl) rfl ?_
  refine j_aload_n (j := 4) dJ2_remove_2_13 rfl rfl ?_
  rcases x1 with _ | a5
  · replace h := zopt_n h
    refine j_ifnonnull0 dJ2_remove_2_14 ?_
    exact J.sub (zall [3, 2, 1, 0] rfl) (wflJ2_remove_2_17 hd t r1 v3 0  G h hk)
  · replace h := zopt_s h
    refine j_ifnonnull1 (tgt := 39) dJ2_remove_2_14 (by decide) ?_
    exact J.sub (zall [3, 4, 2, 1, 0] rfl) (wflJ2_remove_2_39 hd t (some a5) r1 v3 0  G h hk)
theorem yJ2_remove_2_ok {t : Nat} {x1 : Option Nat} {G : GS} {r : Int32} {G1 : GS} (h : fJ2_remove_2_0 t x1 G = some (r, G1)) : zRuns yJ2_remove_2 (ws_ yJ2_remove_2 cJ2_remove_2 5 (some Jvm.ClassFile.FieldType.boolean)) [vR (some t), vR x1] (.inl (some (vI r)), G, G1, 2) :=
  zentry (M := mJ2_remove_2) (plainFor_of_name (by decide +kernel)) ⟨rfl, rfl, rfl, rfl⟩ (Nat.le_of_ble_eq_true rfl) (wfJ2_remove_2_0 (Nat.le_refl _) t x1 G h ⟨rfl, rfl⟩)
abbrev mX3_rest : zM := (cX3_rest, RX3, 5, (some (Jvm.ClassFile.FieldType.array Jvm.ClassFile.FieldType.int)), "rest", [], "(I[I)[I")
def fbX3_rest_18 (t : Nat) (x1 : Int32) (x2 : Option Nat) (x3 : Option Nat) (x4 : Int32)  (G : GS) : Option ((Int32 × GS) ⊕ ((Option Nat) × GS)) :=
  (zgR G 3 t 1).bind fun r1 => r1.bind fun a3 => (zln G a3).bind fun v5 => if v5 ≤ x4 then (zo (some (x3, G))) else (x2.bind fun a8 => (zln G a8).bind fun v10 => (zgR G 3 t 1).bind fun r12 => r12.bind fun a14 => (zaI G 50 a14 x4).bind fun v16 => x3.bind fun a18 => (zsI G 50 a18 ((v10 + x4) - x1) v16).bind fun G20 => some (.inl ((x4 + 1), G20)))
def flX3_rest_18 (t : Nat) (x1 : Int32) (x2 : Option Nat) (x3 : Option Nat) (x4 : Int32) (G : GS) : Option ((Option Nat) × GS) := zloop (fun s : Int32 × GS => fbX3_rest_18 t x1 x2 x3 s.1 s.2) (x4, G)
theorem wfbX3_rest_18 {F : zF} (hd : 3 ≤ F.2.2.2) (t : Nat) (x1 : Int32) (x2 : Option Nat) (x3 : Option Nat) (x4 : Int32) (G : GS) {a : (Int32 × GS) ⊕ ((Option Nat) × GS)} (h : fbX3_rest_18 t x1 x2 x3 x4 G = some a) (hk : (zcase (fun s : Int32 × GS => J mX3_rest F s.2 18 [(0, vR (some t)), (1, vI x1), (2, vR x2), (3, vR x3), (4, vI s.1)] []) (zKR F)) a) : J mX3_rest F G 18 [(0, vR (some t)), (1, vI x1), (2, vR x2), (3, vR x3), (4, vI x4)] [] := by
  unfold fbX3_rest_18 at h
  refine j_iload (j := 4) dX3_rest_18 rfl ?_
  refine j_aload_n (j := 0) dX3_rest_20 rfl rfl ?_
  replace h := zbE h
  obtain ⟨r1, e2, h⟩ := h
  refine j_getR fgX3_13 (fun _ _ _ => rfl) dX3_rest_21 e2 ?_
  replace h := zbE h
  obtain ⟨a3, e4, h⟩ := h
  subst e4
  replace h := zbE h
  obtain ⟨v5, e6, h⟩ := h
  refine j_alen e6 dX3_rest_24 ?_
  refine j_icmp_ge (tgt := 50) dX3_rest_25 (by decide) (fun c7 => ?_) (fun c7 => ?_)
  · rw [if_pos c7] at h
    replace h := zoE h
    obtain ⟨a, h, rfl⟩ := h
    replace hk := hk
    refine j_aload_n (j := 3) dX3_rest_50 rfl rfl ?_
    obtain rfl := Option.some.inj h
    exact j_aret hk.1 hk.2 rfl (Or.inr ⟨_, rfl⟩) dX3_rest_51
  · rw [if_neg c7] at h
    refine j_aload_n (j := 3) dX3_rest_28 rfl rfl ?_
    refine j_aload_n (j := 2) dX3_rest_29 rfl rfl ?_
    replace h := zbE h
    obtain ⟨a8, e9, h⟩ := h
    subst e9
    replace h := zbE h
    obtain ⟨v10, e11, h⟩ := h
    refine j_alen e11 dX3_rest_30 ?_
    refine j_iload (j := 4) dX3_rest_31 rfl ?_
    refine j_iadd dX3_rest_33 ?_
    refine j_iload_n (j := 1) dX3_rest_34 rfl rfl ?_
    refine j_isub dX3_rest_35 ?_
    refine j_aload_n (j := 0) dX3_rest_36 rfl rfl ?_
    replace h := zbE h
    obtain ⟨r12, e13, h⟩ := h
    refine j_getR fgX3_13 (fun _ _ _ => rfl) dX3_rest_37 e13 ?_
    refine j_iload (j := 4) dX3_rest_40 rfl ?_
    replace h := zbE h
    obtain ⟨a14, e15, h⟩ := h
    subst e15
    replace h := zbE h
    obtain ⟨v16, e17, h⟩ := h
    refine j_iald (Or.inl rfl) e17 dX3_rest_42 ?_
    replace h := zbE h
    obtain ⟨a18, e19, h⟩ := h
    subst e19
    replace h := zbE h
    obtain ⟨G20, e21, h⟩ := h
    refine j_iast e21 dX3_rest_43 ?_
    refine j_iinc (j := 4) (v := (x4 + 1)) (lv' := [(4, vI (x4 + 1)), (0, vR (some t)), (1, vI x1), (2, vR (some a8)), (3, vR (some a18))]) dX3_rest_44 rfl rfl (Nat.le_of_ble_eq_true rfl) rfl ?_
    refine j_goto (tgt := 18) dX3_rest_47 (by decide) ?_
    obtain rfl := Option.some.inj h
    exact J.sub (zall [1, 2, 3, 4, 0] rfl) hk
theorem wflX3_rest_18 {F : zF} (hd : 3 ≤ F.2.2.2) (t : Nat) (x1 : Int32) (x2 : Option Nat) (x3 : Option Nat) (x4 : Int32) (G : GS) {a : (Option Nat) × GS} (h : flX3_rest_18 t x1 x2 x3 x4 G = some a) (hk : zKR F a) : J mX3_rest F G 18 [(0, vR (some t)), (1, vI x1), (2, vR x2), (3, vR x3), (4, vI x4)] [] := by
  unfold flX3_rest_18 at h
  exact zloop_walk (P := (fun s : Int32 × GS => J mX3_rest F s.2 18 [(0, vR (some t)), (1, vI x1), (2, vR x2), (3, vR x3), (4, vI s.1)] [])) (fun s b e hk => wfbX3_rest_18 hd t x1 x2 x3 s.1 s.2 e hk) (x4, G) _ h hk
def fX3_rest_0 (t : Nat) (x1 : Int32) (x2 : Option Nat)  (G : GS) : Option ((Option Nat) × GS) :=
  x2.bind fun a1 => (zln G a1).bind fun v3 => (zgR G 3 t 1).bind fun r5 => r5.bind fun a7 => (zln G a7).bind fun v9 => zb2 (fJ15_copyOf_3_0 (some a1) ((v3 + v9) - x1) G) fun r12 G13 => flX3_rest_18 t x1 (some a1) r12 x1 G13
theorem wfX3_rest_0 {F : zF} (hd : 3 ≤ F.2.2.2) (t : Nat) (x1 : Int32) (x2 : Option Nat)  (G : GS) {a : (Option Nat) × GS} (h : fX3_rest_0 t x1 x2  G = some a) (hk : zKR F a) : J mX3_rest F G 0 [(0, vR (some t)), (1, vI x1), (2, vR x2)] [] := by
  unfold fX3_rest_0 at h
  refine j_aload_n (j := 2) dX3_rest_0 rfl rfl ?_
  refine j_aload_n (j := 2) dX3_rest_1 rfl rfl ?_
  replace h := zbE h
  obtain ⟨a1, e2, h⟩ := h
  subst e2
  replace h := zbE h
  obtain ⟨v3, e4, h⟩ := h
  refine j_alen e4 dX3_rest_2 ?_
  refine j_aload_n (j := 0) dX3_rest_3 rfl rfl ?_
  replace h := zbE h
  obtain ⟨r5, e6, h⟩ := h
  refine j_getR fgX3_13 (fun _ _ _ => rfl) dX3_rest_4 e6 ?_
  replace h := zbE h
  obtain ⟨a7, e8, h⟩ := h
  subst e8
  replace h := zbE h
  obtain ⟨v9, e10, h⟩ := h
  refine j_alen e10 dX3_rest_7 ?_
  refine j_iadd dX3_rest_8 ?_
  refine j_iload_n (j := 1) dX3_rest_9 rfl rfl ?_
  refine j_isub dX3_rest_10 ?_
  replace h := zb2E h
  obtain ⟨r12, G13, e11, h⟩ := h
  refine j_cont (zrS (As := [vR (some a1), vI ((v3 + v9) - x1)]) msX3_23 (yJ15_copyOf_3_ok e11) (Nat.le_trans (Nat.le_of_ble_eq_true rfl) hd) rfl rfl (Nat.le_of_ble_eq_true rfl) dX3_rest_11) ?_
  refine j_astore_n (lv' := [(3, vR r12), (0, vR (some t)), (1, vI x1), (2, vR (some a1))]) dX3_rest_14 rfl (Nat.le_of_ble_eq_true rfl) rfl ?_
  refine j_iload_n (j := 2) dX3_rest_15 rfl rfl ?_
  refine j_istore (lv' := [(4, vI x1), (3, vR r12), (0, vR (some t)), (1, vI x1), (2, vR (some a1))]) dX3_rest_16 (Nat.le_of_ble_eq_true rfl) rfl ?_
  exact J.sub (zall [2, 3, 4, 1, 0] rfl) (wflX3_rest_18 hd t x1 (some a1) r12 x1  G13 h hk)
theorem yX3_rest_ok {t : Nat} {x1 : Int32} {x2 : Option Nat} {G : GS} {r : Option Nat} {G1 : GS} (h : fX3_rest_0 t x1 x2 G = some (r, G1)) : zRuns yX3_rest (ws_ yX3_rest cX3_rest 5 (some (Jvm.ClassFile.FieldType.array Jvm.ClassFile.FieldType.int))) [vR (some t), vI x1, vR x2] (.inl (some (vR r)), G, G1, 3) :=
  zentry (M := mX3_rest) (plainFor_of_name (by decide +kernel)) ⟨rfl, rfl, rfl, rfl⟩ (Nat.le_of_ble_eq_true rfl) (wfX3_rest_0 (Nat.le_refl _) t x1 x2 G h ⟨rfl, rfl⟩)
theorem msX4_107 : zSV RX4 107 RX4 yX4_unused cX4_unused 3 (some Jvm.ClassFile.FieldType.int) 0 := ⟨lw_V q2292 q2294 qs46 q146 q2295, (by decide +kernel), (by decide)⟩
theorem msX4_110 : zSV RX4 110 RX3 yX3_with cX3_with 3 (some (Jvm.ClassFile.FieldType.object "SelahGenerator$Rule")) 1 := ⟨lw_V q2297 q1803 q1804 q138 q1805, (by decide +kernel), (by decide)⟩
theorem msX4_128 : zSS RX4 128 yX4_isCommon cX4_isCommon 4 (some Jvm.ClassFile.FieldType.boolean) 2 := ⟨lw_S q2339 q2340 q146 q2341, (by decide +kernel), (by decide)⟩
theorem msX4_132_J2 : zSF RX4 132 RJ2 ⟨"java/util/List", "indexOf", "(Ljava/lang/Object;)I"⟩ yJ2_indexOf cJ2_indexOf 2 (some Jvm.ClassFile.FieldType.int) 1 := ⟨lw_F q2343 q2346 q2348 q126 q2350, zfw 10 rfl, ⟨11, _, rfl, rfl⟩, (by decide +kernel), (by decide)⟩
theorem msX4_136 : zSS RX4 136 yJ15_copyOf_3 cJ15_copyOf_3 3 (some (Jvm.ClassFile.FieldType.array Jvm.ClassFile.FieldType.int)) 2 := ⟨lw_S q2389 q1807 q141 q1808, (by decide +kernel), (by decide)⟩
theorem msX4_142_J2 : zSF RX4 142 RJ2 ⟨"java/util/List", "set", "(ILjava/lang/Object;)Ljava/lang/Object;"⟩ yJ2_set cJ2_set 4 (some (Jvm.ClassFile.FieldType.object "java/lang/Object")) 2 := ⟨lw_F q2391 q1817 q1819 q126 q1821, zfw 15 rfl, ⟨11, _, rfl, rfl⟩, (by decide +kernel), (by decide)⟩
theorem msX4_146_J2 : zSF RX4 146 RJ2 ⟨"java/util/List", "remove", "(Ljava/lang/Object;)Z"⟩ yJ2_remove_2 cJ2_remove_2 5 (some Jvm.ClassFile.FieldType.boolean) 1 := ⟨lw_F q2393 q2396 q2398 q126 q2400, zfw 14 rfl, ⟨11, _, rfl, rfl⟩, (by decide +kernel), (by decide)⟩
theorem msX4_94 : zSV RX4 94 RX3 yX3_rest cX3_rest 5 (some (Jvm.ClassFile.FieldType.array Jvm.ClassFile.FieldType.int)) 2 := ⟨lw_V q2249 q2250 q2251 q138 q2252, (by decide +kernel), (by decide)⟩
theorem msX4_98 : zSI RX4 98 yX3_init cX3_init 3 2 := ⟨q1730, q138, q2253, q1729, rfl, (by decide +kernel), (by decide)⟩
abbrev mX4_factor : zM := (cX4_factor, RX4, 8, none, "factor", [], "(LSelahGenerator$Rule;)V")
def fbX4_factor_184 (t : Nat) (x3 : Int32) (x4 : Int32) (x6 : Option Nat)  (G : GS) : Option ((GS) ⊕ (((Unit) ⊕ String) × GS)) :=
  x6.bind fun a1 => zk [13] G a1 <| (fJ19_hasNext_0 a1 G).bind fun v5 => if v5 = 0 then (zo (some (.inl (), G))) else (zk [13] G a1 <| zb2 (fJ19_next_0 a1 G) fun r9 G10 => zkq [3] G10 r9 ((zgR G10 4 t 0).bind fun r12 => zl (al G10 3 0 2) fun G14 => (zna G14 50 (0 : Int32)).bind fun G16 => r9.bind fun a18 => zk [3] G16 a18 <| zb2 (fX3_rest_0 a18 x3 (some (gz G14)) G16) fun r22 G23 => (fX3_init_0 (gz G10) x4 r22 G23).bind fun G25 => r12.bind fun a26 => zk [12] G25 a26 <| zb2 (fJ2_add_0 a26 (some (gz G10)) G25) fun v30 G31 => some (.inl (G31))))
def flX4_factor_184 (t : Nat) (x3 : Int32) (x4 : Int32) (x6 : Option Nat) (G : GS) : Option (((Unit) ⊕ String) × GS) := zloop (fun s : GS => fbX4_factor_184 t x3 x4 x6 s) (G)
theorem wfbX4_factor_184 {F : zF} (hd : 9 ≤ F.2.2.2) (t : Nat) (x3 : Int32) (x4 : Int32) (x6 : Option Nat) (G : GS) {a : (GS) ⊕ (((Unit) ⊕ String) × GS)} (h : fbX4_factor_184 t x3 x4 x6 G = some a) (hk : (zcase (fun s : GS => J mX4_factor F s 184 [(0, vR (some t)), (3, vI x3), (4, vI x4), (6, vR x6)] []) (zKXV F)) a) : J mX4_factor F G 184 [(0, vR (some t)), (3, vI x3), (4, vI x4), (6, vR x6)] [] := by
  unfold fbX4_factor_184 at h
  refine j_aload (j := 3) dX4_factor_184 rfl ?_
  replace h := zbE h
  obtain ⟨a1, e2, h⟩ := h
  subst e2
  replace h := zkE h
  obtain ⟨e3, h⟩ := h
  replace h := zbE h
  obtain ⟨v5, e4, h⟩ := h
  refine j_cont (zrF (As := []) msX4_26_J19 (yJ19_hasNext_ok e4) (Nat.le_trans (Nat.le_of_ble_eq_true rfl) hd) (zk_13 _ e3) rfl rfl (Nat.le_of_ble_eq_true rfl) dX4_factor_186) ?_
  refine j_if_eq (tgt := 237) dX4_factor_191 (by decide) (fun c6 => ?_) (fun c6 => ?_)
  · rw [if_pos c6] at h
    replace h := zoE h
    obtain ⟨a, h, rfl⟩ := h
    replace hk := hk
    obtain rfl := Option.some.inj h
    exact j_vret hk.1 hk.2 rfl dX4_factor_237
  · rw [if_neg c6] at h
    refine j_aload (j := 3) dX4_factor_194 rfl ?_
    replace h := zkE h
    obtain ⟨e7, h⟩ := h
    replace h := zb2E h
    obtain ⟨r9, G10, e8, h⟩ := h
    refine j_cont (zrF (As := []) msX4_32_J19 (yJ19_next_ok e8) (Nat.le_trans (Nat.le_of_ble_eq_true rfl) hd) (zk_13 _ e7) rfl rfl (Nat.le_of_ble_eq_true rfl) dX4_factor_196) ?_
    replace h := zkqE h
    obtain ⟨e11, h⟩ := h
    refine j_castq (fun k => j_castN dX4_factor_201 k) (fun b q32 k => j_castS (zk_3 _ (e11 b q32)) ⟨2, _, rfl, rfl⟩ q399 dX4_factor_201 k) ?_
    refine j_astore (lv' := [(7, vR r9), (0, vR (some t)), (3, vI x3), (4, vI x4), (6, vR (some a1))]) dX4_factor_204 (Nat.le_of_ble_eq_true rfl) rfl ?_
    refine j_aload_n (j := 1) dX4_factor_206 rfl rfl ?_
    replace h := zbE h
    obtain ⟨r12, e13, h⟩ := h
    refine j_getR fgX4_14 (fun _ _ _ => rfl) dX4_factor_207 e13 ?_
    replace h := zlE h
    obtain ⟨G14, e15, h⟩ := h
    refine j_new (c := 2) (n := 2) (r := (RX3, TX3, 2, tyX3)) rfl rfl in_X3 tyX3_ok nwX3 q399 q1727 q138 dX4_factor_210 ?_
    rw [show al G10 (2 + 1) 0 2 = G14 from e15.symm]
    refine j_dup dX4_factor_213 rfl ?_
    refine j_iload (j := 3) dX4_factor_214 rfl ?_
    refine j_aload (j := 0) dX4_factor_216 rfl ?_
    refine j_iload_n (j := 2) dX4_factor_218 rfl rfl ?_
    refine j_iconst (v := 0) dX4_factor_219 (by decide) ?_
    replace h := zbE h
    obtain ⟨G16, e17, h⟩ := h
    refine j_newa (t := 0) (ty := .int) rfl rfl q455 (fun _ _ _ e1 e2 e3 => by simp only [zfv, e1, e2, e3] <;> rfl) (by decide) (fun _ _ h => h) e17 dX4_factor_220 ?_
    replace h := zbE h
    obtain ⟨a18, e19, h⟩ := h
    subst e19
    replace h := zkE h
    obtain ⟨e20, h⟩ := h
    replace h := zb2E h
    obtain ⟨r22, G23, e21, h⟩ := h
    refine j_cont (zrV (As := [vI x3, vR (some (gz G14))]) msX4_94 (yX3_rest_ok e21) (Nat.le_trans (Nat.le_of_ble_eq_true rfl) hd) (zk_3 _ e20) rfl rfl (Nat.le_of_ble_eq_true rfl) dX4_factor_222) ?_
    replace h := zbE h
    obtain ⟨G25, e24, h⟩ := h
    refine j_cont (zrI (As := [vI x4, vR r22]) msX4_98 (yX3_init_ok e24) (Nat.le_trans (Nat.le_of_ble_eq_true rfl) hd) rfl rfl (Nat.le_of_ble_eq_true rfl) dX4_factor_225) ?_
    replace h := zbE h
    obtain ⟨a26, e27, h⟩ := h
    subst e27
    replace h := zkE h
    obtain ⟨e28, h⟩ := h
    replace h := zb2E h
    obtain ⟨v30, G31, e29, h⟩ := h
    refine j_cont (zrF (As := [vR (some (gz G10))]) msX4_65_J2 (yJ2_add_ok e29) (Nat.le_trans (Nat.le_of_ble_eq_true rfl) hd) (zk_12 _ e28) rfl rfl (Nat.le_of_ble_eq_true rfl) dX4_factor_228) ?_
    refine j_pop dX4_factor_233 rfl ?_
    refine j_goto (tgt := 184) dX4_factor_234 (by decide) ?_
    obtain rfl := Option.some.inj h
    exact J.sub (zall [1, 2, 3, 4] rfl) hk
theorem wflX4_factor_184 {F : zF} (hd : 9 ≤ F.2.2.2) (t : Nat) (x3 : Int32) (x4 : Int32) (x6 : Option Nat) (G : GS) {a : ((Unit) ⊕ String) × GS} (h : flX4_factor_184 t x3 x4 x6 G = some a) (hk : zKXV F a) : J mX4_factor F G 184 [(0, vR (some t)), (3, vI x3), (4, vI x4), (6, vR x6)] [] := by
  unfold flX4_factor_184 at h
  exact zloop_walk (P := (fun s : GS => J mX4_factor F s 184 [(0, vR (some t)), (3, vI x3), (4, vI x4), (6, vR x6)] [])) (fun s b e hk => wfbX4_factor_184 hd t x3 x4 x6 s e hk) (G) _ h hk
def fX4_factor_176 (t : Nat) (x2 : Option Nat) (x3 : Int32) (x4 : Int32)  (G : GS) : Option (((Unit) ⊕ String) × GS) :=
  x2.bind fun a1 => zk [12] G a1 <| zb2 (fJ2_iterator_0 a1 G) fun r5 G6 => flX4_factor_184 t x3 x4 r5 G6
theorem wfX4_factor_176 {F : zF} (hd : 9 ≤ F.2.2.2) (t : Nat) (x2 : Option Nat) (x3 : Int32) (x4 : Int32)  (G : GS) {a : ((Unit) ⊕ String) × GS} (h : fX4_factor_176 t x2 x3 x4  G = some a) (hk : zKXV F a) : J mX4_factor F G 176 [(0, vR (some t)), (2, vR x2), (3, vI x3), (4, vI x4)] [] := by
  unfold fX4_factor_176 at h
  refine j_aload_n (j := 1) dX4_factor_176 rfl rfl ?_
  replace h := zbE h
  obtain ⟨a1, e2, h⟩ := h
  subst e2
  replace h := zkE h
  obtain ⟨e3, h⟩ := h
  replace h := zb2E h
  obtain ⟨r5, G6, e4, h⟩ := h
  refine j_cont (zrF (As := []) msX4_20_J2 (yJ2_iterator_ok e4) (Nat.le_trans (Nat.le_of_ble_eq_true rfl) hd) (zk_12 _ e3) rfl rfl (Nat.le_of_ble_eq_true rfl) dX4_factor_177) ?_
  refine j_astore (lv' := [(6, vR r5), (0, vR (some t)), (2, vR (some a1)), (3, vI x3), (4, vI x4)]) dX4_factor_182 (Nat.le_of_ble_eq_true rfl) rfl ?_
  exact J.sub (zall [1, 3, 4, 0] rfl) (wflX4_factor_184 hd t x3 x4 r5  G6 h hk)
def fbX4_factor_141 (t : Nat) (x2 : Option Nat) (x3 : Int32) (x4 : Int32) (x6 : Int32)  (G : GS) : Option ((Int32 × GS) ⊕ (((Unit) ⊕ String) × GS)) :=
  x2.bind fun a1 => zk [12] G a1 <| (fJ2_size_0 a1 G).bind fun v5 => if v5 ≤ x6 then (zo (fX4_factor_176 t (some a1) x3 x4 G)) else ((zgR G 4 t 0).bind fun r7 => zk [12] G a1 <| (fJ2_get_0 a1 x6 G).bind fun r11 => r7.bind fun a12 => zk [12] G a12 <| zb2 (fJ2_remove_2_0 a12 r11 G) fun v16 G17 => some (.inl ((x6 + 1), G17)))
def flX4_factor_141 (t : Nat) (x2 : Option Nat) (x3 : Int32) (x4 : Int32) (x6 : Int32) (G : GS) : Option (((Unit) ⊕ String) × GS) := zloop (fun s : Int32 × GS => fbX4_factor_141 t x2 x3 x4 s.1 s.2) (x6, G)
theorem wfbX4_factor_141 {F : zF} (hd : 9 ≤ F.2.2.2) (t : Nat) (x2 : Option Nat) (x3 : Int32) (x4 : Int32) (x6 : Int32) (G : GS) {a : (Int32 × GS) ⊕ (((Unit) ⊕ String) × GS)} (h : fbX4_factor_141 t x2 x3 x4 x6 G = some a) (hk : (zcase (fun s : Int32 × GS => J mX4_factor F s.2 141 [(0, vR (some t)), (2, vR x2), (3, vI x3), (4, vI x4), (6, vI s.1)] []) (zKXV F)) a) : J mX4_factor F G 141 [(0, vR (some t)), (2, vR x2), (3, vI x3), (4, vI x4), (6, vI x6)] [] := by
  unfold fbX4_factor_141 at h
  refine j_iload (j := 4) dX4_factor_141 rfl ?_
  refine j_aload_n (j := 1) dX4_factor_143 rfl rfl ?_
  replace h := zbE h
  obtain ⟨a1, e2, h⟩ := h
  subst e2
  replace h := zkE h
  obtain ⟨e3, h⟩ := h
  replace h := zbE h
  obtain ⟨v5, e4, h⟩ := h
  refine j_cont (zrF (As := []) msX4_60_J2 (yJ2_size_ok e4) (Nat.le_trans (Nat.le_of_ble_eq_true rfl) hd) (zk_12 _ e3) rfl rfl (Nat.le_of_ble_eq_true rfl) dX4_factor_144) ?_
  refine j_icmp_ge (tgt := 176) dX4_factor_149 (by decide) (fun c6 => ?_) (fun c6 => ?_)
  · rw [if_pos c6] at h
    replace h := zoE h
    obtain ⟨a, h, rfl⟩ := h
    replace hk := hk
    exact J.sub (zall [0, 1, 2, 3] rfl) (wfX4_factor_176 hd t (some a1) x3 x4  G h hk)
  · rw [if_neg c6] at h
    refine j_aload_n (j := 0) dX4_factor_152 rfl rfl ?_
    replace h := zbE h
    obtain ⟨r7, e8, h⟩ := h
    refine j_getR fgX4_14 (fun _ _ _ => rfl) dX4_factor_153 e8 ?_
    refine j_aload_n (j := 1) dX4_factor_156 rfl rfl ?_
    refine j_iload (j := 4) dX4_factor_157 rfl ?_
    replace h := zkE h
    obtain ⟨e9, h⟩ := h
    replace h := zbE h
    obtain ⟨r11, e10, h⟩ := h
    refine j_cont (zrF (As := [vI x6]) msX4_80_J2 (yJ2_get_ok e10) (Nat.le_trans (Nat.le_of_ble_eq_true rfl) hd) (zk_12 _ e9) rfl rfl (Nat.le_of_ble_eq_true rfl) dX4_factor_159) ?_
    replace h := zbE h
    obtain ⟨a12, e13, h⟩ := h
    subst e13
    replace h := zkE h
    obtain ⟨e14, h⟩ := h
    replace h := zb2E h
    obtain ⟨v16, G17, e15, h⟩ := h
    refine j_cont (zrF (As := [vR r11]) msX4_146_J2 (yJ2_remove_2_ok e15) (Nat.le_trans (Nat.le_of_ble_eq_true rfl) hd) (zk_12 _ e14) rfl rfl (Nat.le_of_ble_eq_true rfl) dX4_factor_164) ?_
    refine j_pop dX4_factor_169 rfl ?_
    refine j_iinc (j := 4) (v := (x6 + 1)) (lv' := [(6, vI (x6 + 1)), (0, vR (some t)), (2, vR (some a1)), (3, vI x3), (4, vI x4)]) dX4_factor_170 rfl rfl (Nat.le_of_ble_eq_true rfl) rfl ?_
    refine j_goto (tgt := 141) dX4_factor_173 (by decide) ?_
    obtain rfl := Option.some.inj h
    exact J.sub (zall [1, 2, 3, 4, 0] rfl) hk
theorem wflX4_factor_141 {F : zF} (hd : 9 ≤ F.2.2.2) (t : Nat) (x2 : Option Nat) (x3 : Int32) (x4 : Int32) (x6 : Int32) (G : GS) {a : ((Unit) ⊕ String) × GS} (h : flX4_factor_141 t x2 x3 x4 x6 G = some a) (hk : zKXV F a) : J mX4_factor F G 141 [(0, vR (some t)), (2, vR x2), (3, vI x3), (4, vI x4), (6, vI x6)] [] := by
  unfold flX4_factor_141 at h
  exact zloop_walk (P := (fun s : Int32 × GS => J mX4_factor F s.2 141 [(0, vR (some t)), (2, vR x2), (3, vI x3), (4, vI x4), (6, vI s.1)] [])) (fun s b e hk => wfbX4_factor_141 hd t x2 x3 x4 s.1 s.2 e hk) (x6, G) _ h hk
def fX4_factor_84 (t : Nat) (x1 : Option Nat) (x2 : Option Nat) (x3 : Int32)  (G : GS) : Option (((Unit) ⊕ String) × GS) :=
  zk [4] G t <| zb3 (fX4_unused_0 t G) (fun v3 G4 => (zgR G4 4 t 0).bind fun r7 => r7.bind fun a9 => zk [12] G4 a9 <| (fJ2_indexOf_0 a9 x1 G4).bind fun v13 => (zgR G4 4 t 0).bind fun r14 => zl (al G4 3 0 2) fun G16 => x1.bind fun a18 => (zgI G16 3 a18 0).bind fun v20 => (zgR G16 3 a18 1).bind fun r22 => zb2 (fJ15_copyOf_3_0 r22 x3 G16) fun r25 G26 => (fX3_init_0 (gz G4) v20 r25 G26).bind fun G28 => zk [3] G28 (gz G4) <| zb2 (fX3_with_0 (gz G4) v3 G28) fun r31 G32 => r14.bind fun a33 => zk [12] G32 a33 <| zb2 (fJ2_set_0 a33 v13 r31 G32) fun r37 G38 => flX4_factor_141 t x2 x3 v3 1 G38) (fun X5 G6 => some (.inr X5, G6))
theorem wfX4_factor_84 {F : zF} (hd : 9 ≤ F.2.2.2) (t : Nat) (x1 : Option Nat) (x2 : Option Nat) (x3 : Int32)  (G : GS) {a : ((Unit) ⊕ String) × GS} (h : fX4_factor_84 t x1 x2 x3  G = some a) (hk : zKXV F a) : J mX4_factor F G 84 [(0, vR (some t)), (1, vR x1), (2, vR x2), (3, vI x3)] [] := by
  unfold fX4_factor_84 at h
  refine j_aload_n (j := 0) dX4_factor_84 rfl rfl ?_
  replace h := zkE h
  obtain ⟨e1, h⟩ := h
  replace h := zb3E h
  rcases h with ⟨v3, G4, e2, h⟩ | ⟨X5, G6, e2, h⟩
  · refine j_cont (zrV (As := []) msX4_107 (yX4_unused_ok e2) (Nat.le_trans (Nat.le_of_ble_eq_true rfl) hd) (zk_4 _ e1) rfl rfl (Nat.le_of_ble_eq_true rfl) dX4_factor_85) ?_
    refine j_istore (lv' := [(4, vI v3), (0, vR (some t)), (1, vR x1), (2, vR x2), (3, vI x3)]) dX4_factor_88 (Nat.le_of_ble_eq_true rfl) rfl ?_
    refine j_aload_n (j := 1) dX4_factor_90 rfl rfl ?_
    replace h := zbE h
    obtain ⟨r7, e8, h⟩ := h
    refine j_getR fgX4_14 (fun _ _ _ => rfl) dX4_factor_91 e8 ?_
    refine j_aload_n (j := 2) dX4_factor_94 rfl rfl ?_
    replace h := zbE h
    obtain ⟨a9, e10, h⟩ := h
    subst e10
    replace h := zkE h
    obtain ⟨e11, h⟩ := h
    replace h := zbE h
    obtain ⟨v13, e12, h⟩ := h
    refine j_cont (zrF (As := [vR x1]) msX4_132_J2 (yJ2_indexOf_ok e12) (Nat.le_trans (Nat.le_of_ble_eq_true rfl) hd) (zk_12 _ e11) rfl rfl (Nat.le_of_ble_eq_true rfl) dX4_factor_95) ?_
    refine j_istore (lv' := [(5, vI v13), (4, vI v3), (0, vR (some t)), (1, vR x1), (2, vR x2), (3, vI x3)]) dX4_factor_100 (Nat.le_of_ble_eq_true rfl) rfl ?_
    refine j_aload_n (j := 2) dX4_factor_102 rfl rfl ?_
    replace h := zbE h
    obtain ⟨r14, e15, h⟩ := h
    refine j_getR fgX4_14 (fun _ _ _ => rfl) dX4_factor_103 e15 ?_
    refine j_iload (j := 0) dX4_factor_106 rfl ?_
    replace h := zlE h
    obtain ⟨G16, e17, h⟩ := h
    refine j_new (c := 2) (n := 2) (r := (RX3, TX3, 2, tyX3)) rfl rfl in_X3 tyX3_ok nwX3 q399 q1727 q138 dX4_factor_108 ?_
    rw [show al G4 (2 + 1) 0 2 = G16 from e17.symm]
    refine j_dup dX4_factor_111 rfl ?_
    refine j_aload_n (j := 3) dX4_factor_112 rfl rfl ?_
    replace h := zbE h
    obtain ⟨a18, e19, h⟩ := h
    subst e19
    replace h := zbE h
    obtain ⟨v20, e21, h⟩ := h
    refine j_getI fgX4_38 (fun _ _ _ => rfl) dX4_factor_113 e21 ?_
    refine j_aload_n (j := 3) dX4_factor_116 rfl rfl ?_
    replace h := zbE h
    obtain ⟨r22, e23, h⟩ := h
    refine j_getR fgX4_42 (fun _ _ _ => rfl) dX4_factor_117 e23 ?_
    refine j_iload_n (j := 5) dX4_factor_120 rfl rfl ?_
    replace h := zb2E h
    obtain ⟨r25, G26, e24, h⟩ := h
    refine j_cont (zrS (As := [vR r22, vI x3]) msX4_136 (yJ15_copyOf_3_ok e24) (Nat.le_trans (Nat.le_of_ble_eq_true rfl) hd) rfl rfl (Nat.le_of_ble_eq_true rfl) dX4_factor_121) ?_
    replace h := zbE h
    obtain ⟨G28, e27, h⟩ := h
    refine j_cont (zrI (As := [vI v20, vR r25]) msX4_98 (yX3_init_ok e27) (Nat.le_trans (Nat.le_of_ble_eq_true rfl) hd) rfl rfl (Nat.le_of_ble_eq_true rfl) dX4_factor_124) ?_
    refine j_iload (j := 1) dX4_factor_127 rfl ?_
    replace h := zkE h
    obtain ⟨e29, h⟩ := h
    replace h := zb2E h
    obtain ⟨r31, G32, e30, h⟩ := h
    refine j_cont (zrV (As := [vI v3]) msX4_110 (yX3_with_ok e30) (Nat.le_trans (Nat.le_of_ble_eq_true rfl) hd) (zk_3 _ e29) rfl rfl (Nat.le_of_ble_eq_true rfl) dX4_factor_129) ?_
    replace h := zbE h
    obtain ⟨a33, e34, h⟩ := h
    subst e34
    replace h := zkE h
    obtain ⟨e35, h⟩ := h
    replace h := zb2E h
    obtain ⟨r37, G38, e36, h⟩ := h
    refine j_cont (zrF (As := [vI v13, vR r31]) msX4_142_J2 (yJ2_set_ok e36) (Nat.le_trans (Nat.le_of_ble_eq_true rfl) hd) (zk_12 _ e35) rfl rfl (Nat.le_of_ble_eq_true rfl) dX4_factor_132) ?_
    refine j_pop dX4_factor_137 rfl ?_
    refine j_iconst (v := 1) dX4_factor_138 (by decide) ?_
    refine j_istore (lv' := [(6, vI 1), (5, vI v13), (4, vI v3), (0, vR (some t)), (1, vR (some a18)), (2, vR x2), (3, vI x3)]) dX4_factor_139 (Nat.le_of_ble_eq_true rfl) rfl ?_
    exact J.sub (zall [3, 5, 6, 2, 0] rfl) (wflX4_factor_141 hd t x2 x3 v3 1  G38 h hk)
  · refine j_thr (zrV (As := []) msX4_107 (yX4_unused_ok e2) (Nat.le_trans (Nat.le_of_ble_eq_true rfl) hd) (zk_4 _ e1) rfl rfl (Nat.le_of_ble_eq_true rfl) dX4_factor_85) ?_
    obtain rfl := Option.some.inj h
    exact jx_out hk.1 hk.2 (by decide)
def fbX4_factor_70 (t : Nat) (x1 : Option Nat) (x2 : Option Nat) (x3 : Int32)  (G : GS) : Option ((Int32 × GS) ⊕ (((Unit) ⊕ String) × GS)) :=
  zb2 (fX4_isCommon_0 x2 x3 G) fun v2 G3 => if v2 = 0 then (zo (fX4_factor_84 t x1 x2 x3 G3)) else (some (.inl ((x3 + 1), G3)))
def flX4_factor_70 (t : Nat) (x1 : Option Nat) (x2 : Option Nat) (x3 : Int32) (G : GS) : Option (((Unit) ⊕ String) × GS) := zloop (fun s : Int32 × GS => fbX4_factor_70 t x1 x2 s.1 s.2) (x3, G)
theorem wfbX4_factor_70 {F : zF} (hd : 9 ≤ F.2.2.2) (t : Nat) (x1 : Option Nat) (x2 : Option Nat) (x3 : Int32) (G : GS) {a : (Int32 × GS) ⊕ (((Unit) ⊕ String) × GS)} (h : fbX4_factor_70 t x1 x2 x3 G = some a) (hk : (zcase (fun s : Int32 × GS => J mX4_factor F s.2 70 [(0, vR (some t)), (1, vR x1), (2, vR x2), (3, vI s.1)] []) (zKXV F)) a) : J mX4_factor F G 70 [(0, vR (some t)), (1, vR x1), (2, vR x2), (3, vI x3)] [] := by
  unfold fbX4_factor_70 at h
  refine j_aload_n (j := 2) dX4_factor_70 rfl rfl ?_
  refine j_iload_n (j := 3) dX4_factor_71 rfl rfl ?_
  replace h := zb2E h
  obtain ⟨v2, G3, e1, h⟩ := h
  refine j_cont (zrS (As := [vR x2, vI x3]) msX4_128 (yX4_isCommon_ok e1) (Nat.le_trans (Nat.le_of_ble_eq_true rfl) hd) rfl rfl (Nat.le_of_ble_eq_true rfl) dX4_factor_72) ?_
  refine j_if_eq (tgt := 84) dX4_factor_75 (by decide) (fun c4 => ?_) (fun c4 => ?_)
  · rw [if_pos c4] at h
    replace h := zoE h
    obtain ⟨a, h, rfl⟩ := h
    replace hk := hk
    exact J.sub (zall [0, 1, 2, 3] rfl) (wfX4_factor_84 hd t x1 x2 x3  G3 h hk)
  · rw [if_neg c4] at h
    refine j_iinc (j := 3) (v := (x3 + 1)) (lv' := [(3, vI (x3 + 1)), (0, vR (some t)), (1, vR x1), (2, vR x2)]) dX4_factor_78 rfl rfl (Nat.le_of_ble_eq_true rfl) rfl ?_
    refine j_goto (tgt := 70) dX4_factor_81 (by decide) ?_
    obtain rfl := Option.some.inj h
    exact J.sub (zall [1, 2, 3, 0] rfl) hk
theorem wflX4_factor_70 {F : zF} (hd : 9 ≤ F.2.2.2) (t : Nat) (x1 : Option Nat) (x2 : Option Nat) (x3 : Int32) (G : GS) {a : ((Unit) ⊕ String) × GS} (h : flX4_factor_70 t x1 x2 x3 G = some a) (hk : zKXV F a) : J mX4_factor F G 70 [(0, vR (some t)), (1, vR x1), (2, vR x2), (3, vI x3)] [] := by
  unfold flX4_factor_70 at h
  exact zloop_walk (P := (fun s : Int32 × GS => J mX4_factor F s.2 70 [(0, vR (some t)), (1, vR x1), (2, vR x2), (3, vI s.1)] [])) (fun s b e hk => wfbX4_factor_70 hd t x1 x2 s.1 s.2 e hk) (x3, G) _ h hk
def fX4_factor_68 (t : Nat) (x1 : Option Nat) (x2 : Option Nat)  (G : GS) : Option (((Unit) ⊕ String) × GS) :=
  flX4_factor_70 t x1 x2 1 G
theorem wfX4_factor_68 {F : zF} (hd : 9 ≤ F.2.2.2) (t : Nat) (x1 : Option Nat) (x2 : Option Nat)  (G : GS) {a : ((Unit) ⊕ String) × GS} (h : fX4_factor_68 t x1 x2  G = some a) (hk : zKXV F a) : J mX4_factor F G 68 [(0, vR (some t)), (1, vR x1), (2, vR x2)] [] := by
  unfold fX4_factor_68 at h
  refine j_iconst (v := 1) dX4_factor_68 (by decide) ?_
  refine j_istore_n (lv' := [(3, vI 1), (0, vR (some t)), (1, vR x1), (2, vR x2)]) dX4_factor_69 rfl (Nat.le_of_ble_eq_true rfl) rfl ?_
  exact J.sub (zall [1, 2, 3, 0] rfl) (wflX4_factor_70 hd t x1 x2 1  G h hk)
def fX4_factor_65 (t : Nat) (x1 : Option Nat) (x2 : Option Nat) (x3 : Option Nat)  (G : GS) : Option ((GS) ⊕ (((Unit) ⊕ String) × GS)) :=
  some (.inl (G))
theorem wfX4_factor_65 {F : zF} (hd : 9 ≤ F.2.2.2) (t : Nat) (x1 : Option Nat) (x2 : Option Nat) (x3 : Option Nat)  (G : GS) {a : (GS) ⊕ (((Unit) ⊕ String) × GS)} (h : fX4_factor_65 t x1 x2 x3  G = some a) (hk : (zcase (fun s : GS => J mX4_factor F s 22 [(0, vR (some t)), (1, vR x1), (2, vR x2), (3, vR x3)] []) (zKXV F)) a) : J mX4_factor F G 65 [(0, vR (some t)), (1, vR x1), (2, vR x2), (3, vR x3)] [] := by
  unfold fX4_factor_65 at h
  refine j_goto (tgt := 22) dX4_factor_65 (by decide) ?_
  obtain rfl := Option.some.inj h
  exact J.sub (zall [0, 1, 2, 3] rfl) hk
def fbX4_factor_22 (t : Nat) (x1 : Option Nat) (x2 : Option Nat) (x3 : Option Nat)  (G : GS) : Option ((GS) ⊕ (((Unit) ⊕ String) × GS)) :=
  x3.bind fun a1 => zk [13] G a1 <| (fJ19_hasNext_0 a1 G).bind fun v5 => if v5 = 0 then (zo (fX4_factor_68 t x1 x2 G)) else (zk [13] G a1 <| zb2 (fJ19_next_0 a1 G) fun r9 G10 => zkq [3] G10 r9 (x1.bind fun a12 => (zgR G10 3 a12 1).bind fun r14 => r14.bind fun a16 => (zaI G10 50 a16 (0 : Int32)).bind fun v18 => r9.bind fun a20 => zk [3] G10 a20 <| (fX3_beginsWith_0 a20 v18 G10).bind fun v24 => if v24 = 0 then (fX4_factor_65 t (some a12) x2 (some a1) G10) else (x2.bind fun a26 => zk [12] G10 a26 <| zb2 (fJ2_add_0 a26 (some a20) G10) fun v30 G31 => fX4_factor_65 t (some a12) (some a26) (some a1) G31)))
def flX4_factor_22 (t : Nat) (x1 : Option Nat) (x2 : Option Nat) (x3 : Option Nat) (G : GS) : Option (((Unit) ⊕ String) × GS) := zloop (fun s : GS => fbX4_factor_22 t x1 x2 x3 s) (G)
theorem wfbX4_factor_22 {F : zF} (hd : 9 ≤ F.2.2.2) (t : Nat) (x1 : Option Nat) (x2 : Option Nat) (x3 : Option Nat) (G : GS) {a : (GS) ⊕ (((Unit) ⊕ String) × GS)} (h : fbX4_factor_22 t x1 x2 x3 G = some a) (hk : (zcase (fun s : GS => J mX4_factor F s 22 [(0, vR (some t)), (1, vR x1), (2, vR x2), (3, vR x3)] []) (zKXV F)) a) : J mX4_factor F G 22 [(0, vR (some t)), (1, vR x1), (2, vR x2), (3, vR x3)] [] := by
  unfold fbX4_factor_22 at h
  refine j_aload_n (j := 3) dX4_factor_22 rfl rfl ?_
  replace h := zbE h
  obtain ⟨a1, e2, h⟩ := h
  subst e2
  replace h := zkE h
  obtain ⟨e3, h⟩ := h
  replace h := zbE h
  obtain ⟨v5, e4, h⟩ := h
  refine j_cont (zrF (As := []) msX4_26_J19 (yJ19_hasNext_ok e4) (Nat.le_trans (Nat.le_of_ble_eq_true rfl) hd) (zk_13 _ e3) rfl rfl (Nat.le_of_ble_eq_true rfl) dX4_factor_23) ?_
  refine j_if_eq (tgt := 68) dX4_factor_28 (by decide) (fun c6 => ?_) (fun c6 => ?_)
  · rw [if_pos c6] at h
    replace h := zoE h
    obtain ⟨a, h, rfl⟩ := h
    replace hk := hk
    exact J.sub (zall [0, 1, 2] rfl) (wfX4_factor_68 hd t x1 x2  G h hk)
  · rw [if_neg c6] at h
    refine j_aload_n (j := 3) dX4_factor_31 rfl rfl ?_
    replace h := zkE h
    obtain ⟨e7, h⟩ := h
    replace h := zb2E h
    obtain ⟨r9, G10, e8, h⟩ := h
    refine j_cont (zrF (As := []) msX4_32_J19 (yJ19_next_ok e8) (Nat.le_trans (Nat.le_of_ble_eq_true rfl) hd) (zk_13 _ e7) rfl rfl (Nat.le_of_ble_eq_true rfl) dX4_factor_32) ?_
    replace h := zkqE h
    obtain ⟨e11, h⟩ := h
    refine j_castq (fun k => j_castN dX4_factor_37 k) (fun b q32 k => j_castS (zk_3 _ (e11 b q32)) ⟨2, _, rfl, rfl⟩ q399 dX4_factor_37 k) ?_
    refine j_astore (lv' := [(4, vR r9), (0, vR (some t)), (1, vR x1), (2, vR x2), (3, vR (some a1))]) dX4_factor_40 (Nat.le_of_ble_eq_true rfl) rfl ?_
    refine j_aload (j := 0) dX4_factor_42 rfl ?_
    refine j_aload_n (j := 2) dX4_factor_44 rfl rfl ?_
    replace h := zbE h
    obtain ⟨a12, e13, h⟩ := h
    subst e13
    replace h := zbE h
    obtain ⟨r14, e15, h⟩ := h
    refine j_getR fgX4_42 (fun _ _ _ => rfl) dX4_factor_45 e15 ?_
    refine j_iconst (v := 0) dX4_factor_48 (by decide) ?_
    replace h := zbE h
    obtain ⟨a16, e17, h⟩ := h
    subst e17
    replace h := zbE h
    obtain ⟨v18, e19, h⟩ := h
    refine j_iald (Or.inl rfl) e19 dX4_factor_49 ?_
    replace h := zbE h
    obtain ⟨a20, e21, h⟩ := h
    subst e21
    replace h := zkE h
    obtain ⟨e22, h⟩ := h
    replace h := zbE h
    obtain ⟨v24, e23, h⟩ := h
    refine j_cont (zrV (As := [vI v18]) msX4_104 (yX3_beginsWith_ok e23) (Nat.le_trans (Nat.le_of_ble_eq_true rfl) hd) (zk_3 _ e22) rfl rfl (Nat.le_of_ble_eq_true rfl) dX4_factor_50) ?_
    refine j_if_eq (tgt := 65) dX4_factor_53 (by decide) (fun c25 => ?_) (fun c25 => ?_)
    · rw [if_pos c25] at h
      exact J.sub (zall [1, 2, 3, 4] rfl) (wfX4_factor_65 hd t (some a12) x2 (some a1)  G10 h hk)
    · rw [if_neg c25] at h
      refine j_aload_n (j := 3) dX4_factor_56 rfl rfl ?_
      refine j_aload (j := 0) dX4_factor_57 rfl ?_
      replace h := zbE h
      obtain ⟨a26, e27, h⟩ := h
      subst e27
      replace h := zkE h
      obtain ⟨e28, h⟩ := h
      replace h := zb2E h
      obtain ⟨v30, G31, e29, h⟩ := h
      refine j_cont (zrF (As := [vR (some a20)]) msX4_65_J2 (yJ2_add_ok e29) (Nat.le_trans (Nat.le_of_ble_eq_true rfl) hd) (zk_12 _ e28) rfl rfl (Nat.le_of_ble_eq_true rfl) dX4_factor_59) ?_
      refine j_pop dX4_factor_64 rfl ?_
      exact J.sub (zall [1, 2, 3, 4] rfl) (wfX4_factor_65 hd t (some a12) (some a26) (some a1)  G31 h hk)
theorem wflX4_factor_22 {F : zF} (hd : 9 ≤ F.2.2.2) (t : Nat) (x1 : Option Nat) (x2 : Option Nat) (x3 : Option Nat) (G : GS) {a : ((Unit) ⊕ String) × GS} (h : flX4_factor_22 t x1 x2 x3 G = some a) (hk : zKXV F a) : J mX4_factor F G 22 [(0, vR (some t)), (1, vR x1), (2, vR x2), (3, vR x3)] [] := by
  unfold flX4_factor_22 at h
  exact zloop_walk (P := (fun s : GS => J mX4_factor F s 22 [(0, vR (some t)), (1, vR x1), (2, vR x2), (3, vR x3)] [])) (fun s b e hk => wfbX4_factor_22 hd t x1 x2 x3 s e hk) (G) _ h hk
def fX4_factor_0 (t : Nat) (x1 : Option Nat)  (G : GS) : Option (((Unit) ⊕ String) × GS) :=
  zl (al G 12 0 3) fun G1 => (fJ2_init_0 (gz G) G1).bind fun G4 => x1.bind fun a5 => (zgI G4 3 a5 0).bind fun v7 => zk [4] G4 t <| zb2 (fX4_of_0 t v7 G4) fun r11 G12 => r11.bind fun a13 => zk [12] G12 a13 <| zb2 (fJ2_iterator_0 a13 G12) fun r17 G18 => flX4_factor_22 t (some a5) (some (gz G)) r17 G18
theorem wfX4_factor_0 {F : zF} (hd : 9 ≤ F.2.2.2) (t : Nat) (x1 : Option Nat)  (G : GS) {a : ((Unit) ⊕ String) × GS} (h : fX4_factor_0 t x1  G = some a) (hk : zKXV F a) : J mX4_factor F G 0 [(0, vR (some t)), (1, vR x1)] [] := by
  unfold fX4_factor_0 at h
  replace h := zlE h
  obtain ⟨G1, e2, h⟩ := h
  refine j_new (c := 11) (n := 3) (r := (RJ2, TJ2, 3, tyJ2)) rfl rfl in_J2 tyJ2_ok nwJ2 q1975 q184 q126 dX4_factor_0 ?_
  rw [show al G (11 + 1) 0 3 = G1 from e2.symm]
  refine j_dup dX4_factor_3 rfl ?_
  replace h := zbE h
  obtain ⟨G4, e3, h⟩ := h
  refine j_cont (zrI (As := []) msX4_64 (yJ2_init_ok e3) (Nat.le_trans (Nat.le_of_ble_eq_true rfl) hd) rfl rfl (Nat.le_of_ble_eq_true rfl) dX4_factor_4) ?_
  refine j_astore_n (lv' := [(2, vR (some (gz G))), (0, vR (some t)), (1, vR x1)]) dX4_factor_7 rfl (Nat.le_of_ble_eq_true rfl) rfl ?_
  refine j_aload_n (j := 1) dX4_factor_8 rfl rfl ?_
  refine j_aload_n (j := 2) dX4_factor_9 rfl rfl ?_
  replace h := zbE h
  obtain ⟨a5, e6, h⟩ := h
  subst e6
  replace h := zbE h
  obtain ⟨v7, e8, h⟩ := h
  refine j_getI fgX4_38 (fun _ _ _ => rfl) dX4_factor_10 e8 ?_
  replace h := zkE h
  obtain ⟨e9, h⟩ := h
  replace h := zb2E h
  obtain ⟨r11, G12, e10, h⟩ := h
  refine j_cont (zrV (As := [vI v7]) msX4_87 (yX4_of_ok e10) (Nat.le_trans (Nat.le_of_ble_eq_true rfl) hd) (zk_4 _ e9) rfl rfl (Nat.le_of_ble_eq_true rfl) dX4_factor_13) ?_
  replace h := zbE h
  obtain ⟨a13, e14, h⟩ := h
  subst e14
  replace h := zkE h
  obtain ⟨e15, h⟩ := h
  replace h := zb2E h
  obtain ⟨r17, G18, e16, h⟩ := h
  refine j_cont (zrF (As := []) msX4_20_J2 (yJ2_iterator_ok e16) (Nat.le_trans (Nat.le_of_ble_eq_true rfl) hd) (zk_12 _ e15) rfl rfl (Nat.le_of_ble_eq_true rfl) dX4_factor_16) ?_
  refine j_astore_n (lv' := [(3, vR r17), (2, vR (some (gz G))), (0, vR (some t)), (1, vR (some a5))]) dX4_factor_21 rfl (Nat.le_of_ble_eq_true rfl) rfl ?_
  exact J.sub (zall [2, 3, 1, 0] rfl) (wflX4_factor_22 hd t (some a5) (some (gz G)) r17  G18 h hk)
theorem yX4_factor_ok {t : Nat} {x1 : Option Nat} {G : GS} {r : (Unit) ⊕ String} {G1 : GS} (h : fX4_factor_0 t x1 G = some (r, G1)) : zRuns yX4_factor (ws_ yX4_factor cX4_factor 8 none) [vR (some t), vR x1] (zout (fun _ => none) r, G, G1, 9) :=
  zentry (M := mX4_factor) (plainFor_of_name (by decide +kernel)) ⟨rfl, rfl, rfl, rfl⟩ (Nat.le_of_ble_eq_true rfl) (wfX4_factor_0 (Nat.le_refl _) t x1 G h ⟨rfl, rfl⟩)
abbrev mX4_check : zM := (cX4_check, RX4, 3, none, "check", [], "()V")
def fX4_check_61   (G : GS) : Option (((Unit) ⊕ String) × GS) :=
  zl (al G 0 0 6) fun G1 => some (.inr "SelahGenerator$Failed", G1)
theorem wfX4_check_61 {F : zF} (hd : 7 ≤ F.2.2.2)   (G : GS) {a : ((Unit) ⊕ String) × GS} (h : fX4_check_61   G = some a) (hk : zKXV F a) : J mX4_check F G 61 [] [] := by
  unfold fX4_check_61 at h
  replace h := zlE h
  obtain ⟨G1, e2, h⟩ := h
  refine j_throwN exX4_54_56 dX4_check_61 dX4_check_64 dX4_check_65 dX4_check_68 (Nat.le_trans (Nat.le_of_ble_eq_true rfl) hd) (Nat.le_of_ble_eq_true rfl) ?_
  rw [show al G 0 0 6 = G1 from e2.symm]
  obtain rfl := Option.some.inj h
  exact jx_out hk.1 hk.2 (by decide)
def fbX4_check_32 (x1 : Option Nat)  (G : GS) : Option ((GS) ⊕ (((Unit) ⊕ String) × GS)) :=
  x1.bind fun a1 => zk [13] G a1 <| (fJ19_hasNext_0 a1 G).bind fun v5 => if v5 = 0 then (zo (some (.inl (), G))) else (zk [13] G a1 <| zb2 (fJ19_next_0 a1 G) fun r9 G10 => zkq [3] G10 r9 (r9.bind fun a12 => (zgR G10 3 a12 1).bind fun r14 => r14.bind fun a16 => (zln G10 a16).bind fun v18 => if v18 ≤ 10 then (some (.inl (G10))) else (zo (fX4_check_61 G10))))
def flX4_check_32 (x1 : Option Nat) (G : GS) : Option (((Unit) ⊕ String) × GS) := zloop (fun s : GS => fbX4_check_32 x1 s) (G)
theorem wfbX4_check_32 {F : zF} (hd : 7 ≤ F.2.2.2) (x1 : Option Nat) (G : GS) {a : (GS) ⊕ (((Unit) ⊕ String) × GS)} (h : fbX4_check_32 x1 G = some a) (hk : (zcase (fun s : GS => J mX4_check F s 32 [(1, vR x1)] []) (zKXV F)) a) : J mX4_check F G 32 [(1, vR x1)] [] := by
  unfold fbX4_check_32 at h
  refine j_aload_n (j := 0) dX4_check_32 rfl rfl ?_
  replace h := zbE h
  obtain ⟨a1, e2, h⟩ := h
  subst e2
  replace h := zkE h
  obtain ⟨e3, h⟩ := h
  replace h := zbE h
  obtain ⟨v5, e4, h⟩ := h
  refine j_cont (zrF (As := []) msX4_26_J19 (yJ19_hasNext_ok e4) (Nat.le_trans (Nat.le_of_ble_eq_true rfl) hd) (zk_13 _ e3) rfl rfl (Nat.le_of_ble_eq_true rfl) dX4_check_33) ?_
  refine j_if_eq (tgt := 72) dX4_check_38 (by decide) (fun c6 => ?_) (fun c6 => ?_)
  · rw [if_pos c6] at h
    replace h := zoE h
    obtain ⟨a, h, rfl⟩ := h
    replace hk := hk
    obtain rfl := Option.some.inj h
    exact j_vret hk.1 hk.2 rfl dX4_check_72
  · rw [if_neg c6] at h
    refine j_aload_n (j := 0) dX4_check_41 rfl rfl ?_
    replace h := zkE h
    obtain ⟨e7, h⟩ := h
    replace h := zb2E h
    obtain ⟨r9, G10, e8, h⟩ := h
    refine j_cont (zrF (As := []) msX4_32_J19 (yJ19_next_ok e8) (Nat.le_trans (Nat.le_of_ble_eq_true rfl) hd) (zk_13 _ e7) rfl rfl (Nat.le_of_ble_eq_true rfl) dX4_check_42) ?_
    replace h := zkqE h
    obtain ⟨e11, h⟩ := h
    refine j_castq (fun k => j_castN dX4_check_47 k) (fun b q21 k => j_castS (zk_3 _ (e11 b q21)) ⟨2, _, rfl, rfl⟩ q399 dX4_check_47 k) ?_
    refine j_astore_n (lv' := [(2, vR r9), (1, vR (some a1))]) dX4_check_50 rfl (Nat.le_of_ble_eq_true rfl) rfl ?_
    refine j_aload_n (j := 0) dX4_check_51 rfl rfl ?_
    replace h := zbE h
    obtain ⟨a12, e13, h⟩ := h
    subst e13
    replace h := zbE h
    obtain ⟨r14, e15, h⟩ := h
    refine j_getR fgX4_42 (fun _ _ _ => rfl) dX4_check_52 e15 ?_
    replace h := zbE h
    obtain ⟨a16, e17, h⟩ := h
    subst e17
    replace h := zbE h
    obtain ⟨v18, e19, h⟩ := h
    refine j_alen e19 dX4_check_55 ?_
    refine j_bipush (v := 10) dX4_check_56 (by decide) ?_
    refine j_icmp_le (tgt := 69) dX4_check_58 (by decide) (fun c20 => ?_) (fun c20 => ?_)
    · rw [if_pos c20] at h
      refine j_goto (tgt := 32) dX4_check_69 (by decide) ?_
      obtain rfl := Option.some.inj h
      exact J.sub (zall [1] rfl) hk
    · rw [if_neg c20] at h
      replace h := zoE h
      obtain ⟨a, h, rfl⟩ := h
      replace hk := hk
      exact J.sub (zall [] rfl) (wfX4_check_61 hd   G10 h hk)
theorem wflX4_check_32 {F : zF} (hd : 7 ≤ F.2.2.2) (x1 : Option Nat) (G : GS) {a : ((Unit) ⊕ String) × GS} (h : flX4_check_32 x1 G = some a) (hk : zKXV F a) : J mX4_check F G 32 [(1, vR x1)] [] := by
  unfold flX4_check_32 at h
  exact zloop_walk (P := (fun s : GS => J mX4_check F s 32 [(1, vR x1)] [])) (fun s b e hk => wfbX4_check_32 hd x1 s e hk) (G) _ h hk
def fX4_check_0 (t : Nat)  (G : GS) : Option (((Unit) ⊕ String) × GS) :=
  (zgR G 4 t 0).bind fun r1 => r1.bind fun a3 => zk [12] G a3 <| (fJ2_size_0 a3 G).bind fun v7 => if v7 ≤ 48 then ((zgR G 4 t 0).bind fun r9 => r9.bind fun a11 => zk [12] G a11 <| zb2 (fJ2_iterator_0 a11 G) fun r15 G16 => flX4_check_32 r15 G16) else (zl (al G 0 0 6) fun G17 => some (.inr "SelahGenerator$Failed", G17))
theorem wfX4_check_0 {F : zF} (hd : 7 ≤ F.2.2.2) (t : Nat)  (G : GS) {a : ((Unit) ⊕ String) × GS} (h : fX4_check_0 t  G = some a) (hk : zKXV F a) : J mX4_check F G 0 [(0, vR (some t))] [] := by
  unfold fX4_check_0 at h
  refine j_aload_n (j := 0) dX4_check_0 rfl rfl ?_
  replace h := zbE h
  obtain ⟨r1, e2, h⟩ := h
  refine j_getR fgX4_14 (fun _ _ _ => rfl) dX4_check_1 e2 ?_
  replace h := zbE h
  obtain ⟨a3, e4, h⟩ := h
  subst e4
  replace h := zkE h
  obtain ⟨e5, h⟩ := h
  replace h := zbE h
  obtain ⟨v7, e6, h⟩ := h
  refine j_cont (zrF (As := []) msX4_60_J2 (yJ2_size_ok e6) (Nat.le_trans (Nat.le_of_ble_eq_true rfl) hd) (zk_12 _ e5) rfl rfl (Nat.le_of_ble_eq_true rfl) dX4_check_4) ?_
  refine j_bipush (v := 48) dX4_check_9 (by decide) ?_
  refine j_icmp_le (tgt := 22) dX4_check_11 (by decide) (fun c8 => ?_) (fun c8 => ?_)
  · rw [if_pos c8] at h
    refine j_aload_n (j := 0) dX4_check_22 rfl rfl ?_
    replace h := zbE h
    obtain ⟨r9, e10, h⟩ := h
    refine j_getR fgX4_14 (fun _ _ _ => rfl) dX4_check_23 e10 ?_
    replace h := zbE h
    obtain ⟨a11, e12, h⟩ := h
    subst e12
    replace h := zkE h
    obtain ⟨e13, h⟩ := h
    replace h := zb2E h
    obtain ⟨r15, G16, e14, h⟩ := h
    refine j_cont (zrF (As := []) msX4_20_J2 (yJ2_iterator_ok e14) (Nat.le_trans (Nat.le_of_ble_eq_true rfl) hd) (zk_12 _ e13) rfl rfl (Nat.le_of_ble_eq_true rfl) dX4_check_26) ?_
    refine j_astore_n (lv' := [(1, vR r15), (0, vR (some t))]) dX4_check_31 rfl (Nat.le_of_ble_eq_true rfl) rfl ?_
    exact J.sub (zall [0] rfl) (wflX4_check_32 hd r15  G16 h hk)
  · rw [if_neg c8] at h
    replace h := zlE h
    obtain ⟨G17, e18, h⟩ := h
    refine j_throwN exX4_54_56 dX4_check_14 dX4_check_17 dX4_check_18 dX4_check_21 (Nat.le_trans (Nat.le_of_ble_eq_true rfl) hd) (Nat.le_of_ble_eq_true rfl) ?_
    rw [show al G 0 0 6 = G17 from e18.symm]
    obtain rfl := Option.some.inj h
    exact jx_out hk.1 hk.2 (by decide)
theorem yX4_check_ok {t : Nat} {G : GS} {r : (Unit) ⊕ String} {G1 : GS} (h : fX4_check_0 t G = some (r, G1)) : zRuns yX4_check (ws_ yX4_check cX4_check 3 none) [vR (some t)] (zout (fun _ => none) r, G, G1, 7) :=
  zentry (M := mX4_check) (plainFor_of_name (by decide +kernel)) ⟨rfl, rfl, rfl, rfl⟩ (Nat.le_of_ble_eq_true rfl) (wfX4_check_0 (Nat.le_refl _) t G h ⟨rfl, rfl⟩)
theorem msX4_121 : zSV RX4 121 RX4 yX4_sharing cX4_sharing 6 (some (Jvm.ClassFile.FieldType.object "SelahGenerator$Rule")) 1 := ⟨lw_V q2331 q2333 qs48 q146 q2334, (by decide +kernel), (by decide)⟩
theorem msX4_124 : zSV RX4 124 RX4 yX4_factor cX4_factor 8 none 1 := ⟨lw_V q2335 q2337 qs49 q146 q2338, (by decide +kernel), (by decide)⟩
theorem msX4_73 : zSV RX4 73 RX4 yX4_check cX4_check 3 none 0 := ⟨lw_V q2280 q2282 qs44 q146 q2283, (by decide +kernel), (by decide)⟩
abbrev mX4_factorOut : zM := (cX4_factorOut, RX4, 3, none, "factorOut", [], "()V")
def fX4_factorOut_38 (t : Nat) (x1 : Int32)  (G : GS) : Option ((Int32 × GS) ⊕ (((Unit) ⊕ String) × GS)) :=
  some (.inl (x1, G))
theorem wfX4_factorOut_38 {F : zF} (hd : 10 ≤ F.2.2.2) (t : Nat) (x1 : Int32)  (G : GS) {a : (Int32 × GS) ⊕ (((Unit) ⊕ String) × GS)} (h : fX4_factorOut_38 t x1  G = some a) (hk : (zcase (fun s : Int32 × GS => J mX4_factorOut F s.2 3 [(0, vR (some t)), (1, vI s.1)] []) (zKXV F)) a) : J mX4_factorOut F G 38 [(0, vR (some t)), (1, vI x1)] [] := by
  unfold fX4_factorOut_38 at h
  refine j_goto (tgt := 3) dX4_factorOut_38 (by decide) ?_
  obtain rfl := Option.some.inj h
  exact J.sub (zall [0, 1] rfl) hk
def fbX4_factorOut_3 (t : Nat) (x1 : Int32)  (G : GS) : Option ((Int32 × GS) ⊕ (((Unit) ⊕ String) × GS)) :=
  (fX1_isNonterminal_0 x1 G).bind fun v2 => if v2 = 0 then (zo (some (.inl (), G))) else (zk [4] G t <| zb2 (fX4_sharing_0 t x1 G) fun r6 G7 => zopt r6 (fX4_factorOut_38 t (x1 + 1) G7) (fun a8 => zk [4] G7 t <| zb3 (fX4_factor_0 t (some a8) G7) (fun u14 G11 => zk [4] G11 t <| zb3 (fX4_check_0 t G11) (fun u20 G17 => fX4_factorOut_38 t 20 G17) (fun X18 G19 => zo (some (.inr X18, G19)))) (fun X12 G13 => zo (some (.inr X12, G13)))))
def flX4_factorOut_3 (t : Nat) (x1 : Int32) (G : GS) : Option (((Unit) ⊕ String) × GS) := zloop (fun s : Int32 × GS => fbX4_factorOut_3 t s.1 s.2) (x1, G)
theorem wfbX4_factorOut_3 {F : zF} (hd : 10 ≤ F.2.2.2) (t : Nat) (x1 : Int32) (G : GS) {a : (Int32 × GS) ⊕ (((Unit) ⊕ String) × GS)} (h : fbX4_factorOut_3 t x1 G = some a) (hk : (zcase (fun s : Int32 × GS => J mX4_factorOut F s.2 3 [(0, vR (some t)), (1, vI s.1)] []) (zKXV F)) a) : J mX4_factorOut F G 3 [(0, vR (some t)), (1, vI x1)] [] := by
  unfold fbX4_factorOut_3 at h
  refine j_iload_n (j := 1) dX4_factorOut_3 rfl rfl ?_
  replace h := zbE h
  obtain ⟨v2, e1, h⟩ := h
  refine j_cont (zrSN (As := [vI x1]) msX4_46 q401 (yX1_isNonterminal_ok e1) (Nat.le_trans (Nat.le_of_ble_eq_true rfl) hd) rfl rfl (Nat.le_of_ble_eq_true rfl) dX4_factorOut_4) ?_
  refine j_if_eq (tgt := 41) dX4_factorOut_7 (by decide) (fun c3 => ?_) (fun c3 => ?_)
  · rw [if_pos c3] at h
    replace h := zoE h
    obtain ⟨a, h, rfl⟩ := h
    replace hk := hk
    obtain rfl := Option.some.inj h
    exact j_vret hk.1 hk.2 rfl dX4_factorOut_41
  · rw [if_neg c3] at h
    refine j_aload_n (j := 0) dX4_factorOut_10 rfl rfl ?_
    refine j_iload_n (j := 1) dX4_factorOut_11 rfl rfl ?_
    replace h := zkE h
    obtain ⟨e4, h⟩ := h
    replace h := zb2E h
    obtain ⟨r6, G7, e5, h⟩ := h
    refine j_cont (zrV (As := [vI x1]) msX4_121 (yX4_sharing_ok e5) (Nat.le_trans (Nat.le_of_ble_eq_true rfl) hd) (zk_4 _ e4) rfl rfl (Nat.le_of_ble_eq_true rfl) dX4_factorOut_12) ?_
    refine j_astore_n (lv' := [(2, vR r6), (0, vR (some t)), (1, vI x1)]) dX4_factorOut_15 rfl (Nat.le_of_ble_eq_true rfl) rfl ?_
    refine j_aload_n (j := 0) dX4_factorOut_16 rfl rfl ?_
    rcases r6 with _ | a8
    · replace h := zopt_n h
      refine j_ifnonnull0 dX4_factorOut_17 ?_
      refine j_iinc (j := 2) (v := (x1 + 1)) (lv' := [(1, vI (x1 + 1)), (2, vR none), (0, vR (some t))]) dX4_factorOut_20 rfl rfl (Nat.le_of_ble_eq_true rfl) rfl ?_
      refine j_goto (tgt := 38) dX4_factorOut_23 (by decide) ?_
      exact J.sub (zall [2, 0] rfl) (wfX4_factorOut_38 hd t (x1 + 1)  G7 h hk)
    · replace h := zopt_s h
      refine j_ifnonnull1 (tgt := 26) dX4_factorOut_17 (by decide) ?_
      refine j_aload_n (j := 1) dX4_factorOut_26 rfl rfl ?_
      refine j_aload_n (j := 0) dX4_factorOut_27 rfl rfl ?_
      replace h := zkE h
      obtain ⟨e9, h⟩ := h
      replace h := zb3E h
      rcases h with ⟨u14, G11, e10, h⟩ | ⟨X12, G13, e10, h⟩
      · refine j_cont (zrV (As := [vR (some a8)]) msX4_124 (yX4_factor_ok e10) (Nat.le_trans (Nat.le_of_ble_eq_true rfl) hd) (zk_4 _ e9) rfl rfl (Nat.le_of_ble_eq_true rfl) dX4_factorOut_28) ?_
        refine j_aload_n (j := 1) dX4_factorOut_31 rfl rfl ?_
        replace h := zkE h
        obtain ⟨e15, h⟩ := h
        replace h := zb3E h
        rcases h with ⟨u20, G17, e16, h⟩ | ⟨X18, G19, e16, h⟩
        · refine j_cont (zrV (As := []) msX4_73 (yX4_check_ok e16) (Nat.le_trans (Nat.le_of_ble_eq_true rfl) hd) (zk_4 _ e15) rfl rfl (Nat.le_of_ble_eq_true rfl) dX4_factorOut_32) ?_
          refine j_bipush (v := 20) dX4_factorOut_35 (by decide) ?_
          refine j_istore_n (lv' := [(1, vI 20), (2, vR (some a8)), (0, vR (some t))]) dX4_factorOut_37 rfl (Nat.le_of_ble_eq_true rfl) rfl ?_
          exact J.sub (zall [2, 0] rfl) (wfX4_factorOut_38 hd t 20  G17 h hk)
        · refine j_thr (zrV (As := []) msX4_73 (yX4_check_ok e16) (Nat.le_trans (Nat.le_of_ble_eq_true rfl) hd) (zk_4 _ e15) rfl rfl (Nat.le_of_ble_eq_true rfl) dX4_factorOut_32) ?_
          replace h := zoE h
          obtain ⟨a, h, rfl⟩ := h
          replace hk := hk
          obtain rfl := Option.some.inj h
          exact jx_out hk.1 hk.2 (by decide)
      · refine j_thr (zrV (As := [vR (some a8)]) msX4_124 (yX4_factor_ok e10) (Nat.le_trans (Nat.le_of_ble_eq_true rfl) hd) (zk_4 _ e9) rfl rfl (Nat.le_of_ble_eq_true rfl) dX4_factorOut_28) ?_
        replace h := zoE h
        obtain ⟨a, h, rfl⟩ := h
        replace hk := hk
        obtain rfl := Option.some.inj h
        exact jx_out hk.1 hk.2 (by decide)
theorem wflX4_factorOut_3 {F : zF} (hd : 10 ≤ F.2.2.2) (t : Nat) (x1 : Int32) (G : GS) {a : ((Unit) ⊕ String) × GS} (h : flX4_factorOut_3 t x1 G = some a) (hk : zKXV F a) : J mX4_factorOut F G 3 [(0, vR (some t)), (1, vI x1)] [] := by
  unfold flX4_factorOut_3 at h
  exact zloop_walk (P := (fun s : Int32 × GS => J mX4_factorOut F s.2 3 [(0, vR (some t)), (1, vI s.1)] [])) (fun s b e hk => wfbX4_factorOut_3 hd t s.1 s.2 e hk) (x1, G) _ h hk
def fX4_factorOut_0 (t : Nat)  (G : GS) : Option (((Unit) ⊕ String) × GS) :=
  flX4_factorOut_3 t 20 G
theorem wfX4_factorOut_0 {F : zF} (hd : 10 ≤ F.2.2.2) (t : Nat)  (G : GS) {a : ((Unit) ⊕ String) × GS} (h : fX4_factorOut_0 t  G = some a) (hk : zKXV F a) : J mX4_factorOut F G 0 [(0, vR (some t))] [] := by
  unfold fX4_factorOut_0 at h
  refine j_bipush (v := 20) dX4_factorOut_0 (by decide) ?_
  refine j_istore_n (lv' := [(1, vI 20), (0, vR (some t))]) dX4_factorOut_2 rfl (Nat.le_of_ble_eq_true rfl) rfl ?_
  exact J.sub (zall [1, 0] rfl) (wflX4_factorOut_3 hd t 20  G h hk)
theorem yX4_factorOut_ok {t : Nat} {G : GS} {r : (Unit) ⊕ String} {G1 : GS} (h : fX4_factorOut_0 t G = some (r, G1)) : zRuns yX4_factorOut (ws_ yX4_factorOut cX4_factorOut 3 none) [vR (some t)] (zout (fun _ => none) r, G, G1, 10) :=
  zentry (M := mX4_factorOut) (plainFor_of_name (by decide +kernel)) ⟨rfl, rfl, rfl, rfl⟩ (Nat.le_of_ble_eq_true rfl) (wfX4_factorOut_0 (Nat.le_refl _) t G h ⟨rfl, rfl⟩)
theorem fgX1_175 : zFG RX1 175 3 0 (.object "java/util/List") := ⟨(RX4, TX4, 3, tyX4), rfl, by decide, in_X4, rfl, "SelahGenerator$Workshop", Or.inl rfl, Or.inr ⟨_, zxw 65 rfl⟩⟩
theorem fgX1_176 : zFG RX1 176 3 1 (.int) := ⟨(RX4, TX4, 3, tyX4), rfl, by decide, in_X4, rfl, "SelahGenerator$Workshop", Or.inl rfl, Or.inr ⟨_, zxw 66 rfl⟩⟩
abbrev mX1_kept : zM := (cX1_kept, RX1, 2, (some Jvm.ClassFile.FieldType.int), "kept", [], "(LSelahGenerator$Workshop;)I")
def fX1_kept_0 (t : Nat) (x1 : Option Nat)  (G : GS) : Option ((Int32) × GS) :=
  x1.bind fun a1 => (zgR G 4 a1 0).bind fun r3 => (zpR G 1 t 0 r3).bind fun G5 => (zgI G5 4 a1 1).bind fun v7 => zk [1] G5 t <| zb2 (fX1_changed_0 t v7 G5) fun v11 G12 => some (v11, G12)
theorem wfX1_kept_0 {F : zF} (hd : 2 ≤ F.2.2.2) (t : Nat) (x1 : Option Nat)  (G : GS) {a : (Int32) × GS} (h : fX1_kept_0 t x1  G = some a) (hk : zKI F a) : J mX1_kept F G 0 [(0, vR (some t)), (1, vR x1)] [] := by
  unfold fX1_kept_0 at h
  refine j_aload_n (j := 0) dX1_kept_0 rfl rfl ?_
  refine j_aload_n (j := 1) dX1_kept_1 rfl rfl ?_
  replace h := zbE h
  obtain ⟨a1, e2, h⟩ := h
  subst e2
  replace h := zbE h
  obtain ⟨r3, e4, h⟩ := h
  refine j_getR fgX1_175 (fun _ _ _ => rfl) dX1_kept_2 e4 ?_
  replace h := zbE h
  obtain ⟨G5, e6, h⟩ := h
  refine j_putR fpX1_16_X1 (Or.inl rfl) (Or.inl ⟨_, rfl⟩) dX1_kept_5 e6 ?_
  refine j_aload_n (j := 0) dX1_kept_8 rfl rfl ?_
  refine j_aload_n (j := 1) dX1_kept_9 rfl rfl ?_
  replace h := zbE h
  obtain ⟨v7, e8, h⟩ := h
  refine j_getI fgX1_176 (fun _ _ _ => rfl) dX1_kept_10 e8 ?_
  replace h := zkE h
  obtain ⟨e9, h⟩ := h
  replace h := zb2E h
  obtain ⟨v11, G12, e10, h⟩ := h
  refine j_cont (zrV (As := [vI v7]) msX1_90 (yX1_changed_ok e10) (Nat.le_trans (Nat.le_of_ble_eq_true rfl) hd) (zk_1 _ e9) rfl rfl (Nat.le_of_ble_eq_true rfl) dX1_kept_13) ?_
  obtain rfl := Option.some.inj h
  exact j_iret hk.1 hk.2 rfl dX1_kept_16
theorem yX1_kept_ok {t : Nat} {x1 : Option Nat} {G : GS} {r : Int32} {G1 : GS} (h : fX1_kept_0 t x1 G = some (r, G1)) : zRuns yX1_kept (ws_ yX1_kept cX1_kept 2 (some Jvm.ClassFile.FieldType.int)) [vR (some t), vR x1] (.inl (some (vI r)), G, G1, 2) :=
  zentry (M := mX1_kept) (plainFor_of_name (by decide +kernel)) ⟨rfl, rfl, rfl, rfl⟩ (Nat.le_of_ble_eq_true rfl) (wfX1_kept_0 (Nat.le_refl _) t x1 G h ⟨rfl, rfl⟩)
theorem msX1_179 : zSI RX1 179 yX4_init cX4_init 2 1 := ⟨q1973, q146, q1971, q1972, rfl, (by decide +kernel), (by decide)⟩
theorem msX1_185 : zSV RX1 185 RX1 yX1_kept cX1_kept 2 (some Jvm.ClassFile.FieldType.int) 1 := ⟨lw_V q2316 q2318 qs47 q123 q2319, (by decide +kernel), (by decide)⟩
theorem msX1_189 : zSV RX1 189 RX4 yX4_factorOut cX4_factorOut 3 none 0 := ⟨lw_V q2327 q2328 q2329 q146 q2330, (by decide +kernel), (by decide)⟩
abbrev mX1_factorOut : zM := (cX1_factorOut, RX1, 3, (some Jvm.ClassFile.FieldType.int), "factorOut", [(12, 16, 19, 183)], "()I")
def fX1_factorOut_0 (t : Nat)  (G : GS) : Option (((Int32) ⊕ String) × GS) :=
  zl (al G 4 0 3) fun G1 => (zgR G1 1 t 0).bind fun r3 => (fX4_init_0 (gz G) r3 G1).bind fun G6 => zk [4] G6 (gz G) <| zb3 (fX4_factorOut_0 (gz G) G6) (fun u12 G9 => zk [1] G9 t <| zb2 (fX1_kept_0 t (some (gz G)) G9) fun v15 G16 => some (.inl v15, G16)) (fun X10 G11 => if X10 = "SelahGenerator$Failed" then (zl (al G11 0 0 6) fun G19 => some (.inr "java/lang/IllegalStateException", G19)) else none)
theorem wfX1_factorOut_0 {F : zF} (hd : 11 ≤ F.2.2.2) (t : Nat)  (G : GS) {a : ((Int32) ⊕ String) × GS} (h : fX1_factorOut_0 t  G = some a) (hk : zKXI F a) : J mX1_factorOut F G 0 [(0, vR (some t))] [] := by
  unfold fX1_factorOut_0 at h
  replace h := zlE h
  obtain ⟨G1, e2, h⟩ := h
  refine j_new (c := 3) (n := 3) (r := (RX4, TX4, 3, tyX4)) rfl rfl in_X4 tyX4_ok nwX4 q1969 q1970 q146 dX1_factorOut_0 ?_
  rw [show al G (3 + 1) 0 3 = G1 from e2.symm]
  refine j_dup dX1_factorOut_3 rfl ?_
  refine j_aload_n (j := 0) dX1_factorOut_4 rfl rfl ?_
  replace h := zbE h
  obtain ⟨r3, e4, h⟩ := h
  refine j_getR fgX1_16 (fun _ _ _ => rfl) dX1_factorOut_5 e4 ?_
  replace h := zbE h
  obtain ⟨G6, e5, h⟩ := h
  refine j_cont (zrI (As := [vR r3]) msX1_179 (yX4_init_ok e5) (Nat.le_trans (Nat.le_of_ble_eq_true rfl) hd) rfl rfl (Nat.le_of_ble_eq_true rfl) dX1_factorOut_8) ?_
  refine j_astore_n (lv' := [(1, vR (some (gz G))), (0, vR (some t))]) dX1_factorOut_11 rfl (Nat.le_of_ble_eq_true rfl) rfl ?_
  refine j_aload_n (j := 0) dX1_factorOut_12 rfl rfl ?_
  replace h := zkE h
  obtain ⟨e7, h⟩ := h
  replace h := zb3E h
  rcases h with ⟨u12, G9, e8, h⟩ | ⟨X10, G11, e8, h⟩
  · refine j_cont (zrV (As := []) msX1_189 (yX4_factorOut_ok e8) (Nat.le_trans (Nat.le_of_ble_eq_true rfl) hd) (zk_4 _ e7) rfl rfl (Nat.le_of_ble_eq_true rfl) dX1_factorOut_13) ?_
    refine j_goto (tgt := 28) dX1_factorOut_16 (by decide) ?_
    refine j_aload_n (j := 1) dX1_factorOut_28 rfl rfl ?_
    refine j_aload_n (j := 0) dX1_factorOut_29 rfl rfl ?_
    replace h := zkE h
    obtain ⟨e13, h⟩ := h
    replace h := zb2E h
    obtain ⟨v15, G16, e14, h⟩ := h
    refine j_cont (zrV (As := [vR (some (gz G))]) msX1_185 (yX1_kept_ok e14) (Nat.le_trans (Nat.le_of_ble_eq_true rfl) hd) (zk_1 _ e13) rfl rfl (Nat.le_of_ble_eq_true rfl) dX1_factorOut_30) ?_
    obtain rfl := Option.some.inj h
    exact j_iret hk.1 hk.2 rfl dX1_factorOut_33
  · refine j_thr (zrV (As := []) msX1_189 (yX4_factorOut_ok e8) (Nat.le_trans (Nat.le_of_ble_eq_true rfl) hd) (zk_4 _ e7) rfl rfl (Nat.le_of_ble_eq_true rfl) dX1_factorOut_13) ?_
    by_cases c21 : X10 = "SelahGenerator$Failed"
    · rw [if_pos c21] at h
      subst c21
      refine jx_catch (n := 19) [] ⟨12, 16, 19, 183⟩ [] rfl (fun z hz => nomatch hz) rfl (by decide) q1968 (zxw 113 rfl) rfl (fun q18 => ?_)
      refine j_astore_n (lv' := [(2, vR (some q18)), (1, vR (some (gz G))), (0, vR (some t))]) dX1_factorOut_19 rfl (Nat.le_of_ble_eq_true rfl) rfl ?_
      replace h := zlE h
      obtain ⟨G19, e20, h⟩ := h
      refine j_throw exX1_73_75 dX1_factorOut_20 dX1_factorOut_23 dX1_factorOut_24 dX1_factorOut_27 (Nat.le_trans (Nat.le_of_ble_eq_true rfl) hd) (Nat.le_of_ble_eq_true rfl) ?_
      rw [show al G11 0 0 6 = G19 from e20.symm]
      obtain rfl := Option.some.inj h
      exact jx_out hk.1 hk.2 (by decide)
    · rw [if_neg c21] at h
      cases h
theorem yX1_factorOut_ok {t : Nat} {G : GS} {r : (Int32) ⊕ String} {G1 : GS} (h : fX1_factorOut_0 t G = some (r, G1)) : zRuns yX1_factorOut (wsW_ yX1_factorOut cX1_factorOut 3 (some Jvm.ClassFile.FieldType.int) [(12, 16, 19, 183)]) [vR (some t)] (zout (fun v => some (vI v)) r, G, G1, 11) :=
  zentryW (M := mX1_factorOut) (by decide +kernel) ⟨rfl, rfl, rfl⟩ (Nat.le_of_ble_eq_true rfl) (wfX1_factorOut_0 (Nat.le_refl _) t G h ⟨rfl, rfl⟩)
theorem fgX1_134 : zFG RX1 134 4 1 (.array (.int)) := ⟨(RX5, TX5, 10, tyX5), rfl, by decide, in_X5, rfl, "SelahGenerator$Sets", Or.inl rfl, Or.inr ⟨_, zxw 56 rfl⟩⟩
abbrev mX1_firstOf : zM := (cX1_firstOf, RX1, 2, (some Jvm.ClassFile.FieldType.int), "firstOf", [], "(I)I")
def fX1_firstOf_0 (t : Nat) (x1 : Int32)  (G : GS) : Option (((Int32) ⊕ String) × GS) :=
  zk [1] G t <| zb2 (fX1_sets_0 t G) fun r3 G4 => r3.bind fun a5 => (zgR G4 5 a5 1).bind fun r7 => zb3 (fX1_index_0 x1 G4) (fun v10 G11 => r7.bind fun a14 => (zaI G11 50 a14 v10).bind fun v16 => some (.inl v16, G11)) (fun X12 G13 => some (.inr X12, G13))
theorem wfX1_firstOf_0 {F : zF} (hd : 52 ≤ F.2.2.2) (t : Nat) (x1 : Int32)  (G : GS) {a : ((Int32) ⊕ String) × GS} (h : fX1_firstOf_0 t x1  G = some a) (hk : zKXI F a) : J mX1_firstOf F G 0 [(0, vR (some t)), (1, vI x1)] [] := by
  unfold fX1_firstOf_0 at h
  refine j_aload_n (j := 0) dX1_firstOf_0 rfl rfl ?_
  replace h := zkE h
  obtain ⟨e1, h⟩ := h
  replace h := zb2E h
  obtain ⟨r3, G4, e2, h⟩ := h
  refine j_cont (zrV (As := []) msX1_128 (yX1_sets_ok e2) (Nat.le_trans (Nat.le_of_ble_eq_true rfl) hd) (zk_1 _ e1) rfl rfl (Nat.le_of_ble_eq_true rfl) dX1_firstOf_1) ?_
  replace h := zbE h
  obtain ⟨a5, e6, h⟩ := h
  subst e6
  replace h := zbE h
  obtain ⟨r7, e8, h⟩ := h
  refine j_getR fgX1_134 (fun _ _ _ => rfl) dX1_firstOf_4 e8 ?_
  refine j_iload_n (j := 1) dX1_firstOf_7 rfl rfl ?_
  replace h := zb3E h
  rcases h with ⟨v10, G11, e9, h⟩ | ⟨X12, G13, e9, h⟩
  · refine j_cont (zrS (As := [vI x1]) msX1_76 (yX1_index_ok e9) (Nat.le_trans (Nat.le_of_ble_eq_true rfl) hd) rfl rfl (Nat.le_of_ble_eq_true rfl) dX1_firstOf_8) ?_
    replace h := zbE h
    obtain ⟨a14, e15, h⟩ := h
    subst e15
    replace h := zbE h
    obtain ⟨v16, e17, h⟩ := h
    refine j_iald (Or.inl rfl) e17 dX1_firstOf_11 ?_
    obtain rfl := Option.some.inj h
    exact j_iret hk.1 hk.2 rfl dX1_firstOf_12
  · refine j_thr (zrS (As := [vI x1]) msX1_76 (yX1_index_ok e9) (Nat.le_trans (Nat.le_of_ble_eq_true rfl) hd) rfl rfl (Nat.le_of_ble_eq_true rfl) dX1_firstOf_8) ?_
    obtain rfl := Option.some.inj h
    exact jx_out hk.1 hk.2 (by decide)
theorem yX1_firstOf_ok {t : Nat} {x1 : Int32} {G : GS} {r : (Int32) ⊕ String} {G1 : GS} (h : fX1_firstOf_0 t x1 G = some (r, G1)) : zRuns yX1_firstOf (ws_ yX1_firstOf cX1_firstOf 2 (some Jvm.ClassFile.FieldType.int)) [vR (some t), vI x1] (zout (fun v => some (vI v)) r, G, G1, 52) :=
  zentry (M := mX1_firstOf) (plainFor_of_name (by decide +kernel)) ⟨rfl, rfl, rfl, rfl⟩ (Nat.le_of_ble_eq_true rfl) (wfX1_firstOf_0 (Nat.le_refl _) t x1 G h ⟨rfl, rfl⟩)
theorem fgX1_140 : zFG RX1 140 4 9 (.int) := ⟨(RX5, TX5, 10, tyX5), rfl, by decide, in_X5, rfl, "SelahGenerator$Sets", Or.inl rfl, Or.inr ⟨_, zxw 61 rfl⟩⟩
abbrev mX1_firstRounds : zM := (cX1_firstRounds, RX1, 1, (some Jvm.ClassFile.FieldType.int), "firstRounds", [], "()I")
def fX1_firstRounds_0 (t : Nat)  (G : GS) : Option ((Int32) × GS) :=
  zk [1] G t <| zb2 (fX1_sets_0 t G) fun r3 G4 => r3.bind fun a5 => (zgI G4 5 a5 9).bind fun v7 => some (v7, G4)
theorem wfX1_firstRounds_0 {F : zF} (hd : 52 ≤ F.2.2.2) (t : Nat)  (G : GS) {a : (Int32) × GS} (h : fX1_firstRounds_0 t  G = some a) (hk : zKI F a) : J mX1_firstRounds F G 0 [(0, vR (some t))] [] := by
  unfold fX1_firstRounds_0 at h
  refine j_aload_n (j := 0) dX1_firstRounds_0 rfl rfl ?_
  replace h := zkE h
  obtain ⟨e1, h⟩ := h
  replace h := zb2E h
  obtain ⟨r3, G4, e2, h⟩ := h
  refine j_cont (zrV (As := []) msX1_128 (yX1_sets_ok e2) (Nat.le_trans (Nat.le_of_ble_eq_true rfl) hd) (zk_1 _ e1) rfl rfl (Nat.le_of_ble_eq_true rfl) dX1_firstRounds_1) ?_
  replace h := zbE h
  obtain ⟨a5, e6, h⟩ := h
  subst e6
  replace h := zbE h
  obtain ⟨v7, e8, h⟩ := h
  refine j_getI fgX1_140 (fun _ _ _ => rfl) dX1_firstRounds_4 e8 ?_
  obtain rfl := Option.some.inj h
  exact j_iret hk.1 hk.2 rfl dX1_firstRounds_7
theorem yX1_firstRounds_ok {t : Nat} {G : GS} {r : Int32} {G1 : GS} (h : fX1_firstRounds_0 t G = some (r, G1)) : zRuns yX1_firstRounds (ws_ yX1_firstRounds cX1_firstRounds 1 (some Jvm.ClassFile.FieldType.int)) [vR (some t)] (.inl (some (vI r)), G, G1, 52) :=
  zentry (M := mX1_firstRounds) (plainFor_of_name (by decide +kernel)) ⟨rfl, rfl, rfl, rfl⟩ (Nat.le_of_ble_eq_true rfl) (wfX1_firstRounds_0 (Nat.le_refl _) t G h ⟨rfl, rfl⟩)
theorem fgX1_137 : zFG RX1 137 4 2 (.array (.int)) := ⟨(RX5, TX5, 10, tyX5), rfl, by decide, in_X5, rfl, "SelahGenerator$Sets", Or.inl rfl, Or.inr ⟨_, zxw 57 rfl⟩⟩
abbrev mX1_followOf : zM := (cX1_followOf, RX1, 2, (some Jvm.ClassFile.FieldType.int), "followOf", [], "(I)I")
def fX1_followOf_0 (t : Nat) (x1 : Int32)  (G : GS) : Option (((Int32) ⊕ String) × GS) :=
  zk [1] G t <| zb2 (fX1_sets_0 t G) fun r3 G4 => r3.bind fun a5 => (zgR G4 5 a5 2).bind fun r7 => zb3 (fX1_index_0 x1 G4) (fun v10 G11 => r7.bind fun a14 => (zaI G11 50 a14 v10).bind fun v16 => some (.inl v16, G11)) (fun X12 G13 => some (.inr X12, G13))
theorem wfX1_followOf_0 {F : zF} (hd : 52 ≤ F.2.2.2) (t : Nat) (x1 : Int32)  (G : GS) {a : ((Int32) ⊕ String) × GS} (h : fX1_followOf_0 t x1  G = some a) (hk : zKXI F a) : J mX1_followOf F G 0 [(0, vR (some t)), (1, vI x1)] [] := by
  unfold fX1_followOf_0 at h
  refine j_aload_n (j := 0) dX1_followOf_0 rfl rfl ?_
  replace h := zkE h
  obtain ⟨e1, h⟩ := h
  replace h := zb2E h
  obtain ⟨r3, G4, e2, h⟩ := h
  refine j_cont (zrV (As := []) msX1_128 (yX1_sets_ok e2) (Nat.le_trans (Nat.le_of_ble_eq_true rfl) hd) (zk_1 _ e1) rfl rfl (Nat.le_of_ble_eq_true rfl) dX1_followOf_1) ?_
  replace h := zbE h
  obtain ⟨a5, e6, h⟩ := h
  subst e6
  replace h := zbE h
  obtain ⟨r7, e8, h⟩ := h
  refine j_getR fgX1_137 (fun _ _ _ => rfl) dX1_followOf_4 e8 ?_
  refine j_iload_n (j := 1) dX1_followOf_7 rfl rfl ?_
  replace h := zb3E h
  rcases h with ⟨v10, G11, e9, h⟩ | ⟨X12, G13, e9, h⟩
  · refine j_cont (zrS (As := [vI x1]) msX1_76 (yX1_index_ok e9) (Nat.le_trans (Nat.le_of_ble_eq_true rfl) hd) rfl rfl (Nat.le_of_ble_eq_true rfl) dX1_followOf_8) ?_
    replace h := zbE h
    obtain ⟨a14, e15, h⟩ := h
    subst e15
    replace h := zbE h
    obtain ⟨v16, e17, h⟩ := h
    refine j_iald (Or.inl rfl) e17 dX1_followOf_11 ?_
    obtain rfl := Option.some.inj h
    exact j_iret hk.1 hk.2 rfl dX1_followOf_12
  · refine j_thr (zrS (As := [vI x1]) msX1_76 (yX1_index_ok e9) (Nat.le_trans (Nat.le_of_ble_eq_true rfl) hd) rfl rfl (Nat.le_of_ble_eq_true rfl) dX1_followOf_8) ?_
    obtain rfl := Option.some.inj h
    exact jx_out hk.1 hk.2 (by decide)
theorem yX1_followOf_ok {t : Nat} {x1 : Int32} {G : GS} {r : (Int32) ⊕ String} {G1 : GS} (h : fX1_followOf_0 t x1 G = some (r, G1)) : zRuns yX1_followOf (ws_ yX1_followOf cX1_followOf 2 (some Jvm.ClassFile.FieldType.int)) [vR (some t), vI x1] (zout (fun v => some (vI v)) r, G, G1, 52) :=
  zentry (M := mX1_followOf) (plainFor_of_name (by decide +kernel)) ⟨rfl, rfl, rfl, rfl⟩ (Nat.le_of_ble_eq_true rfl) (wfX1_followOf_0 (Nat.le_refl _) t x1 G h ⟨rfl, rfl⟩)
end
