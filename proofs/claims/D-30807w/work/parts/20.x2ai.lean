/-! printed: functions and walks -/
set_option maxRecDepth 100000
noncomputable section
theorem msX2_231 : zSV RX2 231 RX2 yX2_shortestBy cX2_shortestBy 5 (some Jvm.ClassFile.FieldType.int) 1 := ⟨lw_V q2958 q2960 qs79 q131 q2961, (by decide +kernel), (by decide)⟩
abbrev mX2_shortestOf : zM := (cX2_shortestOf, RX2, 6, (some Jvm.ClassFile.FieldType.int), "shortestOf", [], "(I)I")
def fX2_shortestOf_122 (t : Nat) (x1 : Int32)  (G : GS) : Option ((Int32) × GS) :=
  (zgR G 2 t 14).bind fun r1 => r1.bind fun a3 => (zaI G 50 a3 (x1 - 20)).bind fun v5 => some (v5, G)
theorem wfX2_shortestOf_122 {F : zF} (hd : 4 ≤ F.2.2.2) (t : Nat) (x1 : Int32)  (G : GS) {a : (Int32) × GS} (h : fX2_shortestOf_122 t x1  G = some a) (hk : zKI F a) : J mX2_shortestOf F G 122 [(0, vR (some t)), (1, vI x1)] [] := by
  unfold fX2_shortestOf_122 at h
  refine j_aload_n (j := 0) dX2_shortestOf_122 rfl rfl ?_
  replace h := zbE h
  obtain ⟨r1, e2, h⟩ := h
  refine j_getR fgX2_34 (fun _ _ _ => rfl) dX2_shortestOf_123 e2 ?_
  refine j_iload_n (j := 1) dX2_shortestOf_126 rfl rfl ?_
  refine j_bipush (v := 20) dX2_shortestOf_127 (by decide) ?_
  refine j_isub dX2_shortestOf_129 ?_
  replace h := zbE h
  obtain ⟨a3, e4, h⟩ := h
  subst e4
  replace h := zbE h
  obtain ⟨v5, e6, h⟩ := h
  refine j_iald (Or.inl rfl) e6 dX2_shortestOf_130 ?_
  obtain rfl := Option.some.inj h
  exact j_iret hk.1 hk.2 rfl dX2_shortestOf_131
def fX2_shortestOf_119 (t : Nat) (x1 : Int32) (x2 : Int32)  (G : GS) : Option ((Int32 × GS) ⊕ ((Int32) × GS)) :=
  some (.inl (x2, G))
theorem wfX2_shortestOf_119 {F : zF} (hd : 4 ≤ F.2.2.2) (t : Nat) (x1 : Int32) (x2 : Int32)  (G : GS) {a : (Int32 × GS) ⊕ ((Int32) × GS)} (h : fX2_shortestOf_119 t x1 x2  G = some a) (hk : (zcase (fun s : Int32 × GS => J mX2_shortestOf F s.2 36 [(0, vR (some t)), (1, vI x1), (2, vI s.1)] []) (zKI F)) a) : J mX2_shortestOf F G 119 [(0, vR (some t)), (1, vI x1), (2, vI x2)] [] := by
  unfold fX2_shortestOf_119 at h
  refine j_goto (tgt := 36) dX2_shortestOf_119 (by decide) ?_
  obtain rfl := Option.some.inj h
  exact J.sub (zall [0, 1, 2] rfl) hk
def fX2_shortestOf_113 (t : Nat) (x1 : Int32) (x2 : Int32) (x3 : Int32)  (G : GS) : Option ((Int32 × Int32 × GS) ⊕ ((Int32 × GS) ⊕ ((Int32) × GS))) :=
  some (.inl (x2, (x3 + 1), G))
theorem wfX2_shortestOf_113 {F : zF} (hd : 4 ≤ F.2.2.2) (t : Nat) (x1 : Int32) (x2 : Int32) (x3 : Int32)  (G : GS) {a : (Int32 × Int32 × GS) ⊕ ((Int32 × GS) ⊕ ((Int32) × GS))} (h : fX2_shortestOf_113 t x1 x2 x3  G = some a) (hk : (zcase (fun s : Int32 × Int32 × GS => J mX2_shortestOf F s.2.2 44 [(0, vR (some t)), (1, vI x1), (2, vI s.1), (3, vI s.2.1)] []) ((zcase (fun s : Int32 × GS => J mX2_shortestOf F s.2 36 [(0, vR (some t)), (1, vI x1), (2, vI s.1)] []) (zKI F)))) a) : J mX2_shortestOf F G 113 [(0, vR (some t)), (1, vI x1), (2, vI x2), (3, vI x3)] [] := by
  unfold fX2_shortestOf_113 at h
  refine j_iinc (j := 3) (v := (x3 + 1)) (lv' := [(3, vI (x3 + 1)), (0, vR (some t)), (1, vI x1), (2, vI x2)]) dX2_shortestOf_113 rfl rfl (Nat.le_of_ble_eq_true rfl) rfl ?_
  refine j_goto (tgt := 44) dX2_shortestOf_116 (by decide) ?_
  obtain rfl := Option.some.inj h
  exact J.sub (zall [1, 2, 3, 0] rfl) hk
def fX2_shortestOf_102 (t : Nat) (x1 : Int32) (x3 : Int32) (x4 : Int32) (x5 : Int32)  (G : GS) : Option ((Int32 × Int32 × GS) ⊕ ((Int32 × GS) ⊕ ((Int32) × GS))) :=
  (zgR G 2 t 14).bind fun r1 => r1.bind fun a3 => (zsI G 50 a3 x5 x4).bind fun G5 => fX2_shortestOf_113 t x1 1 x3 G5
theorem wfX2_shortestOf_102 {F : zF} (hd : 4 ≤ F.2.2.2) (t : Nat) (x1 : Int32) (x3 : Int32) (x4 : Int32) (x5 : Int32)  (G : GS) {a : (Int32 × Int32 × GS) ⊕ ((Int32 × GS) ⊕ ((Int32) × GS))} (h : fX2_shortestOf_102 t x1 x3 x4 x5  G = some a) (hk : (zcase (fun s : Int32 × Int32 × GS => J mX2_shortestOf F s.2.2 44 [(0, vR (some t)), (1, vI x1), (2, vI s.1), (3, vI s.2.1)] []) ((zcase (fun s : Int32 × GS => J mX2_shortestOf F s.2 36 [(0, vR (some t)), (1, vI x1), (2, vI s.1)] []) (zKI F)))) a) : J mX2_shortestOf F G 102 [(0, vR (some t)), (1, vI x1), (3, vI x3), (4, vI x4), (5, vI x5)] [] := by
  unfold fX2_shortestOf_102 at h
  refine j_aload_n (j := 0) dX2_shortestOf_102 rfl rfl ?_
  replace h := zbE h
  obtain ⟨r1, e2, h⟩ := h
  refine j_getR fgX2_34 (fun _ _ _ => rfl) dX2_shortestOf_103 e2 ?_
  refine j_iload (j := 4) dX2_shortestOf_106 rfl ?_
  refine j_iload (j := 3) dX2_shortestOf_108 rfl ?_
  replace h := zbE h
  obtain ⟨a3, e4, h⟩ := h
  subst e4
  replace h := zbE h
  obtain ⟨G5, e6, h⟩ := h
  refine j_iast e6 dX2_shortestOf_110 ?_
  refine j_iconst (v := 1) dX2_shortestOf_111 (by decide) ?_
  refine j_istore_n (lv' := [(2, vI 1), (0, vR (some t)), (1, vI x1), (3, vI x3), (4, vI x4), (5, vI x5)]) dX2_shortestOf_112 rfl (Nat.le_of_ble_eq_true rfl) rfl ?_
  exact J.sub (zall [1, 2, 0, 3] rfl) (wfX2_shortestOf_113 hd t x1 1 x3  G5 h hk)
def fbX2_shortestOf_44 (t : Nat) (x1 : Int32) (x2 : Int32) (x3 : Int32)  (G : GS) : Option ((Int32 × Int32 × GS) ⊕ ((Int32 × GS) ⊕ ((Int32) × GS))) :=
  (zgI G 2 t 6).bind fun v1 => if v1 ≤ x3 then (zo (fX2_shortestOf_119 t x1 x2 G)) else (zk [2] G t <| (fX2_shortestBy_0 t x3 G).bind fun v6 => (zgR G 2 t 0).bind fun r7 => r7.bind fun a9 => (zaI G 50 a9 x3).bind fun v11 => if v6 = (-1) then (fX2_shortestOf_113 t x1 x2 x3 G) else ((zgR G 2 t 14).bind fun r14 => r14.bind fun a16 => (zaI G 50 a16 (v11 - 20)).bind fun v18 => if v18 = (-1) then (fX2_shortestOf_102 t x1 x3 v6 (v11 - 20) G) else ((zgR G 2 t 14).bind fun r21 => r21.bind fun a23 => (zaI G 50 a23 (v11 - 20)).bind fun v25 => if v6 < v25 then (fX2_shortestOf_102 t x1 x3 v6 (v11 - 20) G) else (fX2_shortestOf_113 t x1 x2 x3 G))))
def flX2_shortestOf_44 (t : Nat) (x1 : Int32) (x2 : Int32) (x3 : Int32) (G : GS) : Option ((Int32 × GS) ⊕ ((Int32) × GS)) := zloop (fun s : Int32 × Int32 × GS => fbX2_shortestOf_44 t x1 s.1 s.2.1 s.2.2) (x2, x3, G)
theorem wfbX2_shortestOf_44 {F : zF} (hd : 4 ≤ F.2.2.2) (t : Nat) (x1 : Int32) (x2 : Int32) (x3 : Int32) (G : GS) {a : (Int32 × Int32 × GS) ⊕ ((Int32 × GS) ⊕ ((Int32) × GS))} (h : fbX2_shortestOf_44 t x1 x2 x3 G = some a) (hk : (zcase (fun s : Int32 × Int32 × GS => J mX2_shortestOf F s.2.2 44 [(0, vR (some t)), (1, vI x1), (2, vI s.1), (3, vI s.2.1)] []) ((zcase (fun s : Int32 × GS => J mX2_shortestOf F s.2 36 [(0, vR (some t)), (1, vI x1), (2, vI s.1)] []) (zKI F)))) a) : J mX2_shortestOf F G 44 [(0, vR (some t)), (1, vI x1), (2, vI x2), (3, vI x3)] [] := by
  unfold fbX2_shortestOf_44 at h
  refine j_iload_n (j := 3) dX2_shortestOf_44 rfl rfl ?_
  refine j_aload_n (j := 0) dX2_shortestOf_45 rfl rfl ?_
  replace h := zbE h
  obtain ⟨v1, e2, h⟩ := h
  refine j_getI fgX2_113 (fun _ _ _ => rfl) dX2_shortestOf_46 e2 ?_
  refine j_icmp_ge (tgt := 119) dX2_shortestOf_49 (by decide) (fun c3 => ?_) (fun c3 => ?_)
  · rw [if_pos c3] at h
    replace h := zoE h
    obtain ⟨a, h, rfl⟩ := h
    replace hk := hk
    exact J.sub (zall [0, 1, 2] rfl) (wfX2_shortestOf_119 hd t x1 x2  G h hk)
  · rw [if_neg c3] at h
    refine j_aload_n (j := 0) dX2_shortestOf_52 rfl rfl ?_
    refine j_iload_n (j := 3) dX2_shortestOf_53 rfl rfl ?_
    replace h := zkE h
    obtain ⟨e4, h⟩ := h
    replace h := zbE h
    obtain ⟨v6, e5, h⟩ := h
    refine j_cont (zrV (As := [vI x3]) msX2_231 (yX2_shortestBy_ok e5) (Nat.le_trans (Nat.le_of_ble_eq_true rfl) hd) (zk_2 _ e4) rfl rfl (Nat.le_of_ble_eq_true rfl) dX2_shortestOf_54) ?_
    refine j_istore (lv' := [(4, vI v6), (0, vR (some t)), (1, vI x1), (2, vI x2), (3, vI x3)]) dX2_shortestOf_57 (Nat.le_of_ble_eq_true rfl) rfl ?_
    refine j_aload_n (j := 1) dX2_shortestOf_59 rfl rfl ?_
    replace h := zbE h
    obtain ⟨r7, e8, h⟩ := h
    refine j_getR fgX2_7 (fun _ _ _ => rfl) dX2_shortestOf_60 e8 ?_
    refine j_iload_n (j := 4) dX2_shortestOf_63 rfl rfl ?_
    replace h := zbE h
    obtain ⟨a9, e10, h⟩ := h
    subst e10
    replace h := zbE h
    obtain ⟨v11, e12, h⟩ := h
    refine j_iald (Or.inl rfl) e12 dX2_shortestOf_64 ?_
    refine j_bipush (v := 20) dX2_shortestOf_65 (by decide) ?_
    refine j_isub dX2_shortestOf_67 ?_
    refine j_istore (lv' := [(5, vI (v11 - 20)), (4, vI v6), (0, vR (some t)), (1, vI x1), (2, vI x2), (3, vI x3)]) dX2_shortestOf_68 (Nat.le_of_ble_eq_true rfl) rfl ?_
    refine j_iload (j := 1) dX2_shortestOf_70 rfl ?_
    refine j_iconst (v := (-1)) dX2_shortestOf_72 (by decide) ?_
    refine j_icmp_eq (tgt := 113) dX2_shortestOf_73 (by decide) (fun c13 => ?_) (fun c13 => ?_)
    · rw [if_pos c13] at h
      exact J.sub (zall [2, 3, 4, 5] rfl) (wfX2_shortestOf_113 hd t x1 x2 x3  G h hk)
    · rw [if_neg c13] at h
      refine j_aload_n (j := 2) dX2_shortestOf_76 rfl rfl ?_
      replace h := zbE h
      obtain ⟨r14, e15, h⟩ := h
      refine j_getR fgX2_34 (fun _ _ _ => rfl) dX2_shortestOf_77 e15 ?_
      refine j_iload (j := 0) dX2_shortestOf_80 rfl ?_
      replace h := zbE h
      obtain ⟨a16, e17, h⟩ := h
      subst e17
      replace h := zbE h
      obtain ⟨v18, e19, h⟩ := h
      refine j_iald (Or.inl rfl) e19 dX2_shortestOf_82 ?_
      refine j_iconst (v := (-1)) dX2_shortestOf_83 (by decide) ?_
      refine j_icmp_eq (tgt := 102) dX2_shortestOf_84 (by decide) (fun c20 => ?_) (fun c20 => ?_)
      · rw [if_pos c20] at h
        exact J.sub (zall [2, 3, 5, 1, 0] rfl) (wfX2_shortestOf_102 hd t x1 x3 v6 (v11 - 20)  G h hk)
      · rw [if_neg c20] at h
        refine j_aload_n (j := 2) dX2_shortestOf_87 rfl rfl ?_
        replace h := zbE h
        obtain ⟨r21, e22, h⟩ := h
        refine j_getR fgX2_34 (fun _ _ _ => rfl) dX2_shortestOf_88 e22 ?_
        refine j_iload (j := 0) dX2_shortestOf_91 rfl ?_
        replace h := zbE h
        obtain ⟨a23, e24, h⟩ := h
        subst e24
        replace h := zbE h
        obtain ⟨v25, e26, h⟩ := h
        refine j_iald (Or.inl rfl) e26 dX2_shortestOf_93 ?_
        refine j_iload (j := 1) dX2_shortestOf_94 rfl ?_
        refine j_icmp_gt (tgt := 102) dX2_shortestOf_96 (by decide) (fun c27 => ?_) (fun c27 => ?_)
        · rw [if_pos c27] at h
          exact J.sub (zall [2, 3, 5, 1, 0] rfl) (wfX2_shortestOf_102 hd t x1 x3 v6 (v11 - 20)  G h hk)
        · rw [if_neg c27] at h
          refine j_goto (tgt := 113) dX2_shortestOf_99 (by decide) ?_
          exact J.sub (zall [2, 3, 4, 5] rfl) (wfX2_shortestOf_113 hd t x1 x2 x3  G h hk)
theorem wflX2_shortestOf_44 {F : zF} (hd : 4 ≤ F.2.2.2) (t : Nat) (x1 : Int32) (x2 : Int32) (x3 : Int32) (G : GS) {a : (Int32 × GS) ⊕ ((Int32) × GS)} (h : flX2_shortestOf_44 t x1 x2 x3 G = some a) (hk : (zcase (fun s : Int32 × GS => J mX2_shortestOf F s.2 36 [(0, vR (some t)), (1, vI x1), (2, vI s.1)] []) (zKI F)) a) : J mX2_shortestOf F G 44 [(0, vR (some t)), (1, vI x1), (2, vI x2), (3, vI x3)] [] := by
  unfold flX2_shortestOf_44 at h
  exact zloop_walk (P := (fun s : Int32 × Int32 × GS => J mX2_shortestOf F s.2.2 44 [(0, vR (some t)), (1, vI x1), (2, vI s.1), (3, vI s.2.1)] [])) (fun s b e hk => wfbX2_shortestOf_44 hd t x1 s.1 s.2.1 s.2.2 e hk) (x2, x3, G) _ h hk
def fbX2_shortestOf_36 (t : Nat) (x1 : Int32) (x2 : Int32)  (G : GS) : Option ((Int32 × GS) ⊕ ((Int32) × GS)) :=
  if x2 = 0 then (zo (fX2_shortestOf_122 t x1 G)) else (flX2_shortestOf_44 t x1 0 0 G)
def flX2_shortestOf_36 (t : Nat) (x1 : Int32) (x2 : Int32) (G : GS) : Option ((Int32) × GS) := zloop (fun s : Int32 × GS => fbX2_shortestOf_36 t x1 s.1 s.2) (x2, G)
theorem wfbX2_shortestOf_36 {F : zF} (hd : 4 ≤ F.2.2.2) (t : Nat) (x1 : Int32) (x2 : Int32) (G : GS) {a : (Int32 × GS) ⊕ ((Int32) × GS)} (h : fbX2_shortestOf_36 t x1 x2 G = some a) (hk : (zcase (fun s : Int32 × GS => J mX2_shortestOf F s.2 36 [(0, vR (some t)), (1, vI x1), (2, vI s.1)] []) (zKI F)) a) : J mX2_shortestOf F G 36 [(0, vR (some t)), (1, vI x1), (2, vI x2)] [] := by
  unfold fbX2_shortestOf_36 at h
  refine j_iload_n (j := 2) dX2_shortestOf_36 rfl rfl ?_
  refine j_if_eq (tgt := 122) dX2_shortestOf_37 (by decide) (fun c1 => ?_) (fun c1 => ?_)
  · rw [if_pos c1] at h
    replace h := zoE h
    obtain ⟨a, h, rfl⟩ := h
    replace hk := hk
    exact J.sub (zall [0, 1] rfl) (wfX2_shortestOf_122 hd t x1  G h hk)
  · rw [if_neg c1] at h
    refine j_iconst (v := 0) dX2_shortestOf_40 (by decide) ?_
    refine j_istore_n (lv' := [(2, vI 0), (0, vR (some t)), (1, vI x1)]) dX2_shortestOf_41 rfl (Nat.le_of_ble_eq_true rfl) rfl ?_
    refine j_iconst (v := 0) dX2_shortestOf_42 (by decide) ?_
    refine j_istore_n (lv' := [(3, vI 0), (2, vI 0), (0, vR (some t)), (1, vI x1)]) dX2_shortestOf_43 rfl (Nat.le_of_ble_eq_true rfl) rfl ?_
    exact J.sub (zall [2, 3, 1, 0] rfl) (wflX2_shortestOf_44 hd t x1 0 0  G h hk)
theorem wflX2_shortestOf_36 {F : zF} (hd : 4 ≤ F.2.2.2) (t : Nat) (x1 : Int32) (x2 : Int32) (G : GS) {a : (Int32) × GS} (h : flX2_shortestOf_36 t x1 x2 G = some a) (hk : zKI F a) : J mX2_shortestOf F G 36 [(0, vR (some t)), (1, vI x1), (2, vI x2)] [] := by
  unfold flX2_shortestOf_36 at h
  exact zloop_walk (P := (fun s : Int32 × GS => J mX2_shortestOf F s.2 36 [(0, vR (some t)), (1, vI x1), (2, vI s.1)] [])) (fun s b e hk => wfbX2_shortestOf_36 hd t x1 s.1 s.2 e hk) (x2, G) _ h hk
def fX2_shortestOf_34 (t : Nat) (x1 : Int32)  (G : GS) : Option ((Int32) × GS) :=
  flX2_shortestOf_36 t x1 1 G
theorem wfX2_shortestOf_34 {F : zF} (hd : 4 ≤ F.2.2.2) (t : Nat) (x1 : Int32)  (G : GS) {a : (Int32) × GS} (h : fX2_shortestOf_34 t x1  G = some a) (hk : zKI F a) : J mX2_shortestOf F G 34 [(0, vR (some t)), (1, vI x1)] [] := by
  unfold fX2_shortestOf_34 at h
  refine j_iconst (v := 1) dX2_shortestOf_34 (by decide) ?_
  refine j_istore_n (lv' := [(2, vI 1), (0, vR (some t)), (1, vI x1)]) dX2_shortestOf_35 rfl (Nat.le_of_ble_eq_true rfl) rfl ?_
  exact J.sub (zall [1, 2, 0] rfl) (wflX2_shortestOf_36 hd t x1 1  G h hk)
def fbX2_shortestOf_15 (t : Nat) (x1 : Int32) (x2 : Int32)  (G : GS) : Option ((Int32 × GS) ⊕ ((Int32) × GS)) :=
  if 12 ≤ x2 then (zo (fX2_shortestOf_34 t x1 G)) else ((zgR G 2 t 14).bind fun r2 => r2.bind fun a4 => (zsI G 50 a4 x2 (-1)).bind fun G6 => some (.inl ((x2 + 1), G6)))
def flX2_shortestOf_15 (t : Nat) (x1 : Int32) (x2 : Int32) (G : GS) : Option ((Int32) × GS) := zloop (fun s : Int32 × GS => fbX2_shortestOf_15 t x1 s.1 s.2) (x2, G)
theorem wfbX2_shortestOf_15 {F : zF} (hd : 4 ≤ F.2.2.2) (t : Nat) (x1 : Int32) (x2 : Int32) (G : GS) {a : (Int32 × GS) ⊕ ((Int32) × GS)} (h : fbX2_shortestOf_15 t x1 x2 G = some a) (hk : (zcase (fun s : Int32 × GS => J mX2_shortestOf F s.2 15 [(0, vR (some t)), (1, vI x1), (2, vI s.1)] []) (zKI F)) a) : J mX2_shortestOf F G 15 [(0, vR (some t)), (1, vI x1), (2, vI x2)] [] := by
  unfold fbX2_shortestOf_15 at h
  refine j_iload_n (j := 2) dX2_shortestOf_15 rfl rfl ?_
  refine j_bipush (v := 12) dX2_shortestOf_16 (by decide) ?_
  refine j_icmp_ge (tgt := 34) dX2_shortestOf_18 (by decide) (fun c1 => ?_) (fun c1 => ?_)
  · rw [if_pos c1] at h
    replace h := zoE h
    obtain ⟨a, h, rfl⟩ := h
    replace hk := hk
    exact J.sub (zall [0, 1] rfl) (wfX2_shortestOf_34 hd t x1  G h hk)
  · rw [if_neg c1] at h
    refine j_aload_n (j := 0) dX2_shortestOf_21 rfl rfl ?_
    replace h := zbE h
    obtain ⟨r2, e3, h⟩ := h
    refine j_getR fgX2_34 (fun _ _ _ => rfl) dX2_shortestOf_22 e3 ?_
    refine j_iload_n (j := 2) dX2_shortestOf_25 rfl rfl ?_
    refine j_iconst (v := (-1)) dX2_shortestOf_26 (by decide) ?_
    replace h := zbE h
    obtain ⟨a4, e5, h⟩ := h
    subst e5
    replace h := zbE h
    obtain ⟨G6, e7, h⟩ := h
    refine j_iast e7 dX2_shortestOf_27 ?_
    refine j_iinc (j := 2) (v := (x2 + 1)) (lv' := [(2, vI (x2 + 1)), (0, vR (some t)), (1, vI x1)]) dX2_shortestOf_28 rfl rfl (Nat.le_of_ble_eq_true rfl) rfl ?_
    refine j_goto (tgt := 15) dX2_shortestOf_31 (by decide) ?_
    obtain rfl := Option.some.inj h
    exact J.sub (zall [1, 2, 0] rfl) hk
theorem wflX2_shortestOf_15 {F : zF} (hd : 4 ≤ F.2.2.2) (t : Nat) (x1 : Int32) (x2 : Int32) (G : GS) {a : (Int32) × GS} (h : flX2_shortestOf_15 t x1 x2 G = some a) (hk : zKI F a) : J mX2_shortestOf F G 15 [(0, vR (some t)), (1, vI x1), (2, vI x2)] [] := by
  unfold flX2_shortestOf_15 at h
  exact zloop_walk (P := (fun s : Int32 × GS => J mX2_shortestOf F s.2 15 [(0, vR (some t)), (1, vI x1), (2, vI s.1)] [])) (fun s b e hk => wfbX2_shortestOf_15 hd t x1 s.1 s.2 e hk) (x2, G) _ h hk
def fX2_shortestOf_0 (t : Nat) (x1 : Int32)  (G : GS) : Option ((Int32) × GS) :=
  (fX2_isNonterminal_0 x1 G).bind fun v2 => zk [2] G t <| zb2 (fX2_goes_0 t v2 G) fun v5 G6 => if v5 = 0 then (some (0, G6)) else (flX2_shortestOf_15 t x1 0 G6)
theorem wfX2_shortestOf_0 {F : zF} (hd : 4 ≤ F.2.2.2) (t : Nat) (x1 : Int32)  (G : GS) {a : (Int32) × GS} (h : fX2_shortestOf_0 t x1  G = some a) (hk : zKI F a) : J mX2_shortestOf F G 0 [(0, vR (some t)), (1, vI x1)] [] := by
  unfold fX2_shortestOf_0 at h
  refine j_aload_n (j := 0) dX2_shortestOf_0 rfl rfl ?_
  refine j_iload_n (j := 1) dX2_shortestOf_1 rfl rfl ?_
  replace h := zbE h
  obtain ⟨v2, e1, h⟩ := h
  refine j_cont (zrS (As := [vI x1]) msX2_149 (yX2_isNonterminal_ok e1) (Nat.le_trans (Nat.le_of_ble_eq_true rfl) hd) rfl rfl (Nat.le_of_ble_eq_true rfl) dX2_shortestOf_2) ?_
  replace h := zkE h
  obtain ⟨e3, h⟩ := h
  replace h := zb2E h
  obtain ⟨v5, G6, e4, h⟩ := h
  refine j_cont (zrV (As := [vI v2]) msX2_177 (yX2_goes_ok e4) (Nat.le_trans (Nat.le_of_ble_eq_true rfl) hd) (zk_2 _ e3) rfl rfl (Nat.le_of_ble_eq_true rfl) dX2_shortestOf_5) ?_
  refine j_if_ne (tgt := 13) dX2_shortestOf_8 (by decide) (fun c7 => ?_) (fun c7 => ?_)
  · rw [if_pos c7] at h
    refine j_iconst (v := 0) dX2_shortestOf_11 (by decide) ?_
    obtain rfl := Option.some.inj h
    exact j_iret hk.1 hk.2 rfl dX2_shortestOf_12
  · rw [if_neg c7] at h
    refine j_iconst (v := 0) dX2_shortestOf_13 (by decide) ?_
    refine j_istore_n (lv' := [(2, vI 0), (0, vR (some t)), (1, vI x1)]) dX2_shortestOf_14 rfl (Nat.le_of_ble_eq_true rfl) rfl ?_
    exact J.sub (zall [1, 2, 0] rfl) (wflX2_shortestOf_15 hd t x1 0  G6 h hk)
theorem yX2_shortestOf_ok {t : Nat} {x1 : Int32} {G : GS} {r : Int32} {G1 : GS} (h : fX2_shortestOf_0 t x1 G = some (r, G1)) : zRuns yX2_shortestOf (ws_ yX2_shortestOf cX2_shortestOf 6 (some Jvm.ClassFile.FieldType.int)) [vR (some t), vI x1] (.inl (some (vI r)), G, G1, 4) :=
  zentry (M := mX2_shortestOf) (plainFor_of_name (by decide +kernel)) ⟨rfl, rfl, rfl, rfl⟩ (Nat.le_of_ble_eq_true rfl) (wfX2_shortestOf_0 (Nat.le_refl _) t x1 G h ⟨rfl, rfl⟩)
abbrev mX2_stackAt : zM := (cX2_stackAt, RX2, 2, (some Jvm.ClassFile.FieldType.int), "stackAt", [], "(I)I")
def fX2_stackAt_0 (t : Nat) (x1 : Int32)  (G : GS) : Option ((Int32) × GS) :=
  (zgI G 2 t 33).bind fun v1 => (fX2_isIn_0 x1.toInt64 0 ((v1 - 1).toInt64) G).bind fun v4 => if v4 = 0 then (zk [2] G t <| zb2 (fX2_tellsOf_0 t (-1) G) fun v8 G9 => some (v8, G9)) else ((zgR G 2 t 24).bind fun r10 => (zgI G 2 t 33).bind fun v12 => r10.bind fun a14 => (zaI G 50 a14 ((v12 - 1) - x1)).bind fun v16 => zk [2] G t <| zb2 (fX2_tellsOf_0 t v16 G) fun v20 G21 => some (v20, G21))
theorem wfX2_stackAt_0 {F : zF} (hd : 2 ≤ F.2.2.2) (t : Nat) (x1 : Int32)  (G : GS) {a : (Int32) × GS} (h : fX2_stackAt_0 t x1  G = some a) (hk : zKI F a) : J mX2_stackAt F G 0 [(0, vR (some t)), (1, vI x1)] [] := by
  unfold fX2_stackAt_0 at h
  refine j_aload_n (j := 0) dX2_stackAt_0 rfl rfl ?_
  refine j_iload_n (j := 1) dX2_stackAt_1 rfl rfl ?_
  refine j_i2l dX2_stackAt_2 ?_
  refine j_lconst (v := 0) dX2_stackAt_3 rfl ?_
  refine j_aload_n (j := 0) dX2_stackAt_4 rfl rfl ?_
  replace h := zbE h
  obtain ⟨v1, e2, h⟩ := h
  refine j_getI fgX2_140 (fun _ _ _ => rfl) dX2_stackAt_5 e2 ?_
  refine j_iconst (v := 1) dX2_stackAt_8 (by decide) ?_
  refine j_isub dX2_stackAt_9 ?_
  refine j_i2l dX2_stackAt_10 ?_
  replace h := zbE h
  obtain ⟨v4, e3, h⟩ := h
  refine j_cont (zrS (As := [vL x1.toInt64, vL 0, vL ((v1 - 1).toInt64)]) msX2_103 (yX2_isIn_ok e3) (Nat.le_trans (Nat.le_of_ble_eq_true rfl) hd) rfl rfl (Nat.le_of_ble_eq_true rfl) dX2_stackAt_11) ?_
  refine j_if_eq (tgt := 33) dX2_stackAt_14 (by decide) (fun c5 => ?_) (fun c5 => ?_)
  · rw [if_pos c5] at h
    refine j_iconst (v := (-1)) dX2_stackAt_33 (by decide) ?_
    replace h := zkE h
    obtain ⟨e6, h⟩ := h
    replace h := zb2E h
    obtain ⟨v8, G9, e7, h⟩ := h
    refine j_cont (zrV (As := [vI (-1)]) msX2_184 (yX2_tellsOf_ok e7) (Nat.le_trans (Nat.le_of_ble_eq_true rfl) hd) (zk_2 _ e6) rfl rfl (Nat.le_of_ble_eq_true rfl) dX2_stackAt_34) ?_
    obtain rfl := Option.some.inj h
    exact j_iret hk.1 hk.2 rfl dX2_stackAt_37
  · rw [if_neg c5] at h
    refine j_aload_n (j := 0) dX2_stackAt_17 rfl rfl ?_
    replace h := zbE h
    obtain ⟨r10, e11, h⟩ := h
    refine j_getR fgX2_62 (fun _ _ _ => rfl) dX2_stackAt_18 e11 ?_
    refine j_aload_n (j := 0) dX2_stackAt_21 rfl rfl ?_
    replace h := zbE h
    obtain ⟨v12, e13, h⟩ := h
    refine j_getI fgX2_140 (fun _ _ _ => rfl) dX2_stackAt_22 e13 ?_
    refine j_iconst (v := 1) dX2_stackAt_25 (by decide) ?_
    refine j_isub dX2_stackAt_26 ?_
    refine j_iload_n (j := 1) dX2_stackAt_27 rfl rfl ?_
    refine j_isub dX2_stackAt_28 ?_
    replace h := zbE h
    obtain ⟨a14, e15, h⟩ := h
    subst e15
    replace h := zbE h
    obtain ⟨v16, e17, h⟩ := h
    refine j_iald (Or.inl rfl) e17 dX2_stackAt_29 ?_
    refine j_goto (tgt := 34) dX2_stackAt_30 (by decide) ?_
    replace h := zkE h
    obtain ⟨e18, h⟩ := h
    replace h := zb2E h
    obtain ⟨v20, G21, e19, h⟩ := h
    refine j_cont (zrV (As := [vI v16]) msX2_184 (yX2_tellsOf_ok e19) (Nat.le_trans (Nat.le_of_ble_eq_true rfl) hd) (zk_2 _ e18) rfl rfl (Nat.le_of_ble_eq_true rfl) dX2_stackAt_34) ?_
    obtain rfl := Option.some.inj h
    exact j_iret hk.1 hk.2 rfl dX2_stackAt_37
theorem yX2_stackAt_ok {t : Nat} {x1 : Int32} {G : GS} {r : Int32} {G1 : GS} (h : fX2_stackAt_0 t x1 G = some (r, G1)) : zRuns yX2_stackAt (ws_ yX2_stackAt cX2_stackAt 2 (some Jvm.ClassFile.FieldType.int)) [vR (some t), vI x1] (.inl (some (vI r)), G, G1, 2) :=
  zentry (M := mX2_stackAt) (plainFor_of_name (by decide +kernel)) ⟨rfl, rfl, rfl, rfl⟩ (Nat.le_of_ble_eq_true rfl) (wfX2_stackAt_0 (Nat.le_refl _) t x1 G h ⟨rfl, rfl⟩)
abbrev mX2_stackDepth : zM := (cX2_stackDepth, RX2, 1, (some Jvm.ClassFile.FieldType.int), "stackDepth", [], "()I")
def fX2_stackDepth_0 (t : Nat)  (G : GS) : Option ((Int32) × GS) :=
  (zgI G 2 t 33).bind fun v1 => zk [2] G t <| zb2 (fX2_tellsOf_0 t v1 G) fun v5 G6 => some (v5, G6)
theorem wfX2_stackDepth_0 {F : zF} (hd : 2 ≤ F.2.2.2) (t : Nat)  (G : GS) {a : (Int32) × GS} (h : fX2_stackDepth_0 t  G = some a) (hk : zKI F a) : J mX2_stackDepth F G 0 [(0, vR (some t))] [] := by
  unfold fX2_stackDepth_0 at h
  refine j_aload_n (j := 0) dX2_stackDepth_0 rfl rfl ?_
  refine j_aload_n (j := 0) dX2_stackDepth_1 rfl rfl ?_
  replace h := zbE h
  obtain ⟨v1, e2, h⟩ := h
  refine j_getI fgX2_140 (fun _ _ _ => rfl) dX2_stackDepth_2 e2 ?_
  replace h := zkE h
  obtain ⟨e3, h⟩ := h
  replace h := zb2E h
  obtain ⟨v5, G6, e4, h⟩ := h
  refine j_cont (zrV (As := [vI v1]) msX2_184 (yX2_tellsOf_ok e4) (Nat.le_trans (Nat.le_of_ble_eq_true rfl) hd) (zk_2 _ e3) rfl rfl (Nat.le_of_ble_eq_true rfl) dX2_stackDepth_5) ?_
  obtain rfl := Option.some.inj h
  exact j_iret hk.1 hk.2 rfl dX2_stackDepth_8
theorem yX2_stackDepth_ok {t : Nat} {G : GS} {r : Int32} {G1 : GS} (h : fX2_stackDepth_0 t G = some (r, G1)) : zRuns yX2_stackDepth (ws_ yX2_stackDepth cX2_stackDepth 1 (some Jvm.ClassFile.FieldType.int)) [vR (some t)] (.inl (some (vI r)), G, G1, 2) :=
  zentry (M := mX2_stackDepth) (plainFor_of_name (by decide +kernel)) ⟨rfl, rfl, rfl, rfl⟩ (Nat.le_of_ble_eq_true rfl) (wfX2_stackDepth_0 (Nat.le_refl _) t G h ⟨rfl, rfl⟩)
theorem fpX2_341_X2 : zFP RX2 341 1 31 (.int) false := ⟨(RX2, TX2, 42, tyX2), rfl, by decide, in_X2, tyX2_ok, nmX2, rfl, rfl, (by decide), "SelahGeneratorModel", Or.inl rfl, q2703⟩
abbrev mX2_start : zM := (cX2_start, RX2, 3, (some Jvm.ClassFile.FieldType.int), "start", [], "(I)I")
def fX2_start_48 (t : Nat) (x1 : Int32) (s0 : Option Nat) (s1 : Int32) (s2 : Int32) (G : GS) : Option ((Int32) × GS) :=
  s0.bind fun a1 => zk [2] G a1 <| zb2 (fX2_goesBoth_0 a1 s1 s2 G) fun v5 G6 => if v5 = 0 then (some (0, G6)) else ((zpI G6 2 t 30 1).bind fun G8 => (zpI G8 2 t 31 x1).bind fun G10 => (zpI G10 2 t 32 0).bind fun G12 => (zpI G12 2 t 34 0).bind fun G14 => (zpI G14 2 t 35 0).bind fun G16 => (zpI G16 2 t 36 (-1)).bind fun G18 => (zgR G18 2 t 24).bind fun r20 => r20.bind fun a22 => (zsI G18 50 a22 (0 : Int32) 20).bind fun G24 => (zpI G24 2 t 33 1).bind fun G26 => (zgI G26 2 t 6).bind fun v28 => some (v28, G26))
theorem wfX2_start_48 {F : zF} (hd : 9 ≤ F.2.2.2) (t : Nat) (x1 : Int32) (s0 : Option Nat) (s1 : Int32) (s2 : Int32) (G : GS) {a : (Int32) × GS} (h : fX2_start_48 t x1 s0 s1 s2 G = some a) (hk : zKI F a) : J mX2_start F G 48 [(0, vR (some t)), (1, vI x1)] [vI s2, vI s1, vR s0] := by
  unfold fX2_start_48 at h
  replace h := zbE h
  obtain ⟨a1, e2, h⟩ := h
  subst e2
  replace h := zkE h
  obtain ⟨e3, h⟩ := h
  replace h := zb2E h
  obtain ⟨v5, G6, e4, h⟩ := h
  refine j_cont (zrV (As := [vI s1, vI s2]) msX2_153 (yX2_goesBoth_ok e4) (Nat.le_trans (Nat.le_of_ble_eq_true rfl) hd) (zk_2 _ e3) rfl rfl (Nat.le_of_ble_eq_true rfl) dX2_start_48) ?_
  refine j_if_ne (tgt := 56) dX2_start_51 (by decide) (fun c7 => ?_) (fun c7 => ?_)
  · rw [if_pos c7] at h
    refine j_iconst (v := 0) dX2_start_54 (by decide) ?_
    obtain rfl := Option.some.inj h
    exact j_iret hk.1 hk.2 rfl dX2_start_55
  · rw [if_neg c7] at h
    refine j_aload_n (j := 0) dX2_start_56 rfl rfl ?_
    refine j_iconst (v := 1) dX2_start_57 (by decide) ?_
    replace h := zbE h
    obtain ⟨G8, e9, h⟩ := h
    refine j_putI fpX2_134_X2 (Or.inl rfl) rfl dX2_start_58 e9 ?_
    refine j_aload_n (j := 0) dX2_start_61 rfl rfl ?_
    refine j_iload_n (j := 1) dX2_start_62 rfl rfl ?_
    replace h := zbE h
    obtain ⟨G10, e11, h⟩ := h
    refine j_putI fpX2_341_X2 (Or.inl rfl) rfl dX2_start_63 e11 ?_
    refine j_aload_n (j := 0) dX2_start_66 rfl rfl ?_
    refine j_iconst (v := 0) dX2_start_67 (by decide) ?_
    replace h := zbE h
    obtain ⟨G12, e13, h⟩ := h
    refine j_putI fpX2_137_X2 (Or.inl rfl) rfl dX2_start_68 e13 ?_
    refine j_aload_n (j := 0) dX2_start_71 rfl rfl ?_
    refine j_iconst (v := 0) dX2_start_72 (by decide) ?_
    replace h := zbE h
    obtain ⟨G14, e15, h⟩ := h
    refine j_putI fpX2_143_X2 (Or.inl rfl) rfl dX2_start_73 e15 ?_
    refine j_aload_n (j := 0) dX2_start_76 rfl rfl ?_
    refine j_iconst (v := 0) dX2_start_77 (by decide) ?_
    replace h := zbE h
    obtain ⟨G16, e17, h⟩ := h
    refine j_putI fpX2_146_X2 (Or.inl rfl) rfl dX2_start_78 e17 ?_
    refine j_aload_n (j := 0) dX2_start_81 rfl rfl ?_
    refine j_iconst (v := (-1)) dX2_start_82 (by decide) ?_
    replace h := zbE h
    obtain ⟨G18, e19, h⟩ := h
    refine j_putI fpX2_344_X2 (Or.inl rfl) rfl dX2_start_83 e19 ?_
    refine j_aload_n (j := 0) dX2_start_86 rfl rfl ?_
    replace h := zbE h
    obtain ⟨r20, e21, h⟩ := h
    refine j_getR fgX2_62 (fun _ _ _ => rfl) dX2_start_87 e21 ?_
    refine j_iconst (v := 0) dX2_start_90 (by decide) ?_
    refine j_bipush (v := 20) dX2_start_91 (by decide) ?_
    replace h := zbE h
    obtain ⟨a22, e23, h⟩ := h
    subst e23
    replace h := zbE h
    obtain ⟨G24, e25, h⟩ := h
    refine j_iast e25 dX2_start_93 ?_
    refine j_aload_n (j := 0) dX2_start_94 rfl rfl ?_
    refine j_iconst (v := 1) dX2_start_95 (by decide) ?_
    replace h := zbE h
    obtain ⟨G26, e27, h⟩ := h
    refine j_putI fpX2_140_X2 (Or.inl rfl) rfl dX2_start_96 e27 ?_
    refine j_aload_n (j := 0) dX2_start_99 rfl rfl ?_
    replace h := zbE h
    obtain ⟨v28, e29, h⟩ := h
    refine j_getI fgX2_113 (fun _ _ _ => rfl) dX2_start_100 e29 ?_
    obtain rfl := Option.some.inj h
    exact j_iret hk.1 hk.2 rfl dX2_start_103
def fX2_start_47 (t : Nat) (x1 : Int32) (s0 : Option Nat) (s1 : Int32) (G : GS) : Option ((Int32) × GS) :=
  fX2_start_48 t x1 s0 s1 0 G
theorem wfX2_start_47 {F : zF} (hd : 9 ≤ F.2.2.2) (t : Nat) (x1 : Int32) (s0 : Option Nat) (s1 : Int32) (G : GS) {a : (Int32) × GS} (h : fX2_start_47 t x1 s0 s1 G = some a) (hk : zKI F a) : J mX2_start F G 47 [(0, vR (some t)), (1, vI x1)] [vI s1, vR s0] := by
  unfold fX2_start_47 at h
  refine j_iconst (v := 0) dX2_start_47 (by decide) ?_
  exact J.sub (zall [0, 1] rfl) (wfX2_start_48 hd t x1 s0 s1 0 G h hk)
def fX2_start_40 (t : Nat) (x1 : Int32) (s0 : Option Nat) (s1 : Int32) (s2 : Int32) (G : GS) : Option ((Int32) × GS) :=
  if s2 = 0 then (fX2_start_48 t x1 s0 s1 1 G) else (fX2_start_47 t x1 s0 s1 G)
theorem wfX2_start_40 {F : zF} (hd : 9 ≤ F.2.2.2) (t : Nat) (x1 : Int32) (s0 : Option Nat) (s1 : Int32) (s2 : Int32) (G : GS) {a : (Int32) × GS} (h : fX2_start_40 t x1 s0 s1 s2 G = some a) (hk : zKI F a) : J mX2_start F G 40 [(0, vR (some t)), (1, vI x1)] [vI s2, vI s1, vR s0] := by
  unfold fX2_start_40 at h
  refine j_if_ne (tgt := 47) dX2_start_40 (by decide) (fun c1 => ?_) (fun c1 => ?_)
  · rw [if_pos c1] at h
    refine j_iconst (v := 1) dX2_start_43 (by decide) ?_
    refine j_goto (tgt := 48) dX2_start_44 (by decide) ?_
    exact J.sub (zall [0, 1] rfl) (wfX2_start_48 hd t x1 s0 s1 1 G h hk)
  · rw [if_neg c1] at h
    exact J.sub (zall [0, 1] rfl) (wfX2_start_47 hd t x1 s0 s1 G h hk)
def fX2_start_0 (t : Nat) (x1 : Int32)  (G : GS) : Option ((Int32) × GS) :=
  (fX2_isIn_0 x1.toInt64 1 2 G).bind fun v2 => if v2 = 0 then (fX2_start_47 t x1 (some t) v2 G) else ((zgI G 2 t 6).bind fun v4 => if v4 ≤ 0 then (fX2_start_47 t x1 (some t) v2 G) else (if x1 = 1 then (zk [2] G t <| zb2 (fX2_cells_0 t 1 G) fun v10 G11 => fX2_start_40 t x1 (some t) v2 v10 G11) else (zk [2] G t <| zb2 (fX2_pairsInConflict_0 t G) fun v14 G15 => fX2_start_40 t x1 (some t) v2 v14 G15)))
theorem wfX2_start_0 {F : zF} (hd : 9 ≤ F.2.2.2) (t : Nat) (x1 : Int32)  (G : GS) {a : (Int32) × GS} (h : fX2_start_0 t x1  G = some a) (hk : zKI F a) : J mX2_start F G 0 [(0, vR (some t)), (1, vI x1)] [] := by
  unfold fX2_start_0 at h
  refine j_iload_n (j := 1) dX2_start_0 rfl rfl ?_
  refine j_i2l dX2_start_1 ?_
  refine j_lconst (v := 1) dX2_start_2 rfl ?_
  refine j_ldc2 (v := 2) q3145 dX2_start_3 ?_
  replace h := zbE h
  obtain ⟨v2, e1, h⟩ := h
  refine j_cont (zrS (As := [vL x1.toInt64, vL 1, vL 2]) msX2_103 (yX2_isIn_ok e1) (Nat.le_trans (Nat.le_of_ble_eq_true rfl) hd) rfl rfl (Nat.le_of_ble_eq_true rfl) dX2_start_6) ?_
  refine j_istore_n (lv' := [(2, vI v2), (0, vR (some t)), (1, vI x1)]) dX2_start_9 rfl (Nat.le_of_ble_eq_true rfl) rfl ?_
  refine j_aload_n (j := 1) dX2_start_10 rfl rfl ?_
  refine j_iload_n (j := 0) dX2_start_11 rfl rfl ?_
  refine j_iload_n (j := 0) dX2_start_12 rfl rfl ?_
  refine j_if_eq (tgt := 47) dX2_start_13 (by decide) (fun c3 => ?_) (fun c3 => ?_)
  · rw [if_pos c3] at h
    exact J.sub (zall [1, 2] rfl) (wfX2_start_47 hd t x1 (some t) v2 G h hk)
  · rw [if_neg c3] at h
    refine j_aload_n (j := 1) dX2_start_16 rfl rfl ?_
    replace h := zbE h
    obtain ⟨v4, e5, h⟩ := h
    refine j_getI fgX2_113 (fun _ _ _ => rfl) dX2_start_17 e5 ?_
    refine j_if_le (tgt := 47) dX2_start_20 (by decide) (fun c6 => ?_) (fun c6 => ?_)
    · rw [if_pos c6] at h
      exact J.sub (zall [1, 2] rfl) (wfX2_start_47 hd t x1 (some t) v2 G h hk)
    · rw [if_neg c6] at h
      refine j_iload_n (j := 2) dX2_start_23 rfl rfl ?_
      refine j_iconst (v := 1) dX2_start_24 (by decide) ?_
      refine j_icmp_ne (tgt := 36) dX2_start_25 (by decide) (fun c7 => ?_) (fun c7 => ?_)
      · rw [if_pos c7] at h
        refine j_aload_n (j := 1) dX2_start_28 rfl rfl ?_
        refine j_iconst (v := 1) dX2_start_29 (by decide) ?_
        replace h := zkE h
        obtain ⟨e8, h⟩ := h
        replace h := zb2E h
        obtain ⟨v10, G11, e9, h⟩ := h
        refine j_cont (zrV (As := [vI 1]) msX2_243 (yX2_cells_ok e9) (Nat.le_trans (Nat.le_of_ble_eq_true rfl) hd) (zk_2 _ e8) rfl rfl (Nat.le_of_ble_eq_true rfl) dX2_start_30) ?_
        refine j_goto (tgt := 40) dX2_start_33 (by decide) ?_
        exact J.sub (zall [1, 2] rfl) (wfX2_start_40 hd t x1 (some t) v2 v10 G11 h hk)
      · rw [if_neg c7] at h
        refine j_aload_n (j := 1) dX2_start_36 rfl rfl ?_
        replace h := zkE h
        obtain ⟨e12, h⟩ := h
        replace h := zb2E h
        obtain ⟨v14, G15, e13, h⟩ := h
        refine j_cont (zrV (As := []) msX2_285 (yX2_pairsInConflict_ok e13) (Nat.le_trans (Nat.le_of_ble_eq_true rfl) hd) (zk_2 _ e12) rfl rfl (Nat.le_of_ble_eq_true rfl) dX2_start_37) ?_
        exact J.sub (zall [1, 2] rfl) (wfX2_start_40 hd t x1 (some t) v2 v14 G15 h hk)
theorem yX2_start_ok {t : Nat} {x1 : Int32} {G : GS} {r : Int32} {G1 : GS} (h : fX2_start_0 t x1 G = some (r, G1)) : zRuns yX2_start (ws_ yX2_start cX2_start 3 (some Jvm.ClassFile.FieldType.int)) [vR (some t), vI x1] (.inl (some (vI r)), G, G1, 9) :=
  zentry (M := mX2_start) (plainFor_of_name (by decide +kernel)) ⟨rfl, rfl, rfl, rfl⟩ (Nat.le_of_ble_eq_true rfl) (wfX2_start_0 (Nat.le_refl _) t x1 G h ⟨rfl, rfl⟩)
abbrev mX2_symbolAt : zM := (cX2_symbolAt, RX2, 3, (some Jvm.ClassFile.FieldType.int), "symbolAt", [], "(II)I")
def fX2_symbolAt_0 (t : Nat) (x1 : Int32) (x2 : Int32)  (G : GS) : Option ((Int32) × GS) :=
  zk [2] G t <| (fX2_isRule_0 t x1 G).bind fun v3 => zk [2] G t <| zb2 (fX2_goes_0 t v3 G) fun v6 G7 => if v6 = 0 then (some (0, G7)) else ((zgR G7 2 t 1).bind fun r9 => r9.bind fun a11 => (zaI G7 50 a11 x1).bind fun v13 => (fX2_isIn_0 x2.toInt64 0 ((v13 - 1).toInt64) G7).bind fun v16 => if v16 = 0 then (some ((-1), G7)) else (zk [2] G7 t <| (fX2_at_0 t x1 x2 G7).bind fun v20 => some (v20, G7)))
theorem wfX2_symbolAt_0 {F : zF} (hd : 3 ≤ F.2.2.2) (t : Nat) (x1 : Int32) (x2 : Int32)  (G : GS) {a : (Int32) × GS} (h : fX2_symbolAt_0 t x1 x2  G = some a) (hk : zKI F a) : J mX2_symbolAt F G 0 [(0, vR (some t)), (1, vI x1), (2, vI x2)] [] := by
  unfold fX2_symbolAt_0 at h
  refine j_aload_n (j := 0) dX2_symbolAt_0 rfl rfl ?_
  refine j_aload_n (j := 0) dX2_symbolAt_1 rfl rfl ?_
  refine j_iload_n (j := 1) dX2_symbolAt_2 rfl rfl ?_
  replace h := zkE h
  obtain ⟨e1, h⟩ := h
  replace h := zbE h
  obtain ⟨v3, e2, h⟩ := h
  refine j_cont (zrV (As := [vI x1]) msX2_164 (yX2_isRule_ok e2) (Nat.le_trans (Nat.le_of_ble_eq_true rfl) hd) (zk_2 _ e1) rfl rfl (Nat.le_of_ble_eq_true rfl) dX2_symbolAt_3) ?_
  replace h := zkE h
  obtain ⟨e4, h⟩ := h
  replace h := zb2E h
  obtain ⟨v6, G7, e5, h⟩ := h
  refine j_cont (zrV (As := [vI v3]) msX2_177 (yX2_goes_ok e5) (Nat.le_trans (Nat.le_of_ble_eq_true rfl) hd) (zk_2 _ e4) rfl rfl (Nat.le_of_ble_eq_true rfl) dX2_symbolAt_6) ?_
  refine j_if_ne (tgt := 14) dX2_symbolAt_9 (by decide) (fun c8 => ?_) (fun c8 => ?_)
  · rw [if_pos c8] at h
    refine j_iconst (v := 0) dX2_symbolAt_12 (by decide) ?_
    obtain rfl := Option.some.inj h
    exact j_iret hk.1 hk.2 rfl dX2_symbolAt_13
  · rw [if_neg c8] at h
    refine j_iload_n (j := 2) dX2_symbolAt_14 rfl rfl ?_
    refine j_i2l dX2_symbolAt_15 ?_
    refine j_lconst (v := 0) dX2_symbolAt_16 rfl ?_
    refine j_aload_n (j := 0) dX2_symbolAt_17 rfl rfl ?_
    replace h := zbE h
    obtain ⟨r9, e10, h⟩ := h
    refine j_getR fgX2_13 (fun _ _ _ => rfl) dX2_symbolAt_18 e10 ?_
    refine j_iload_n (j := 1) dX2_symbolAt_21 rfl rfl ?_
    replace h := zbE h
    obtain ⟨a11, e12, h⟩ := h
    subst e12
    replace h := zbE h
    obtain ⟨v13, e14, h⟩ := h
    refine j_iald (Or.inl rfl) e14 dX2_symbolAt_22 ?_
    refine j_iconst (v := 1) dX2_symbolAt_23 (by decide) ?_
    refine j_isub dX2_symbolAt_24 ?_
    refine j_i2l dX2_symbolAt_25 ?_
    replace h := zbE h
    obtain ⟨v16, e15, h⟩ := h
    refine j_cont (zrS (As := [vL x2.toInt64, vL 0, vL ((v13 - 1).toInt64)]) msX2_103 (yX2_isIn_ok e15) (Nat.le_trans (Nat.le_of_ble_eq_true rfl) hd) rfl rfl (Nat.le_of_ble_eq_true rfl) dX2_symbolAt_26) ?_
    refine j_if_eq (tgt := 41) dX2_symbolAt_29 (by decide) (fun c17 => ?_) (fun c17 => ?_)
    · rw [if_pos c17] at h
      refine j_iconst (v := (-1)) dX2_symbolAt_41 (by decide) ?_
      obtain rfl := Option.some.inj h
      exact j_iret hk.1 hk.2 rfl dX2_symbolAt_42
    · rw [if_neg c17] at h
      refine j_aload_n (j := 0) dX2_symbolAt_32 rfl rfl ?_
      refine j_iload_n (j := 1) dX2_symbolAt_33 rfl rfl ?_
      refine j_iload_n (j := 2) dX2_symbolAt_34 rfl rfl ?_
      replace h := zkE h
      obtain ⟨e18, h⟩ := h
      replace h := zbE h
      obtain ⟨v20, e19, h⟩ := h
      refine j_cont (zrV (As := [vI x1, vI x2]) msX2_187 (yX2_at_ok e19) (Nat.le_trans (Nat.le_of_ble_eq_true rfl) hd) (zk_2 _ e18) rfl rfl (Nat.le_of_ble_eq_true rfl) dX2_symbolAt_35) ?_
      refine j_goto (tgt := 42) dX2_symbolAt_38 (by decide) ?_
      obtain rfl := Option.some.inj h
      exact j_iret hk.1 hk.2 rfl dX2_symbolAt_42
theorem yX2_symbolAt_ok {t : Nat} {x1 : Int32} {x2 : Int32} {G : GS} {r : Int32} {G1 : GS} (h : fX2_symbolAt_0 t x1 x2 G = some (r, G1)) : zRuns yX2_symbolAt (ws_ yX2_symbolAt cX2_symbolAt 3 (some Jvm.ClassFile.FieldType.int)) [vR (some t), vI x1, vI x2] (.inl (some (vI r)), G, G1, 3) :=
  zentry (M := mX2_symbolAt) (plainFor_of_name (by decide +kernel)) ⟨rfl, rfl, rfl, rfl⟩ (Nat.le_of_ble_eq_true rfl) (wfX2_symbolAt_0 (Nat.le_refl _) t x1 x2 G h ⟨rfl, rfl⟩)
abbrev mX2_tableShare : zM := (cX2_tableShare, RX2, 3, (some Jvm.ClassFile.FieldType.float), "tableShare", [], "()F")
def fX2_tableShare_37 (t : Nat) (x1 : Int32)  (G : GS) : Option ((UInt32) × GS) :=
  (zgI G 2 t 6).bind fun v1 => if v1 = 0 then (some (FP.fconst0, G)) else (zk [2] G t <| zb2 (fX2_cells_0 t 0 G) fun v6 G7 => (fX2_bits_0 x1 G7).bind fun v9 => zcond (zn32 (FP.fdiv (FP.i2f v6) (FP.i2f (13 * v9)))) (some ((FP.fdiv (FP.i2f v6) (FP.i2f (13 * v9))), G7)))
theorem wfX2_tableShare_37 {F : zF} (hd : 9 ≤ F.2.2.2) (t : Nat) (x1 : Int32)  (G : GS) {a : (UInt32) × GS} (h : fX2_tableShare_37 t x1  G = some a) (hk : zKF F a) : J mX2_tableShare F G 37 [(0, vR (some t)), (1, vI x1)] [] := by
  unfold fX2_tableShare_37 at h
  refine j_aload_n (j := 0) dX2_tableShare_37 rfl rfl ?_
  replace h := zbE h
  obtain ⟨v1, e2, h⟩ := h
  refine j_getI fgX2_113 (fun _ _ _ => rfl) dX2_tableShare_38 e2 ?_
  refine j_if_ne (tgt := 48) dX2_tableShare_41 (by decide) (fun c3 => ?_) (fun c3 => ?_)
  · rw [if_pos c3] at h
    refine j_fconst0 dX2_tableShare_44 ?_
    refine j_goto (tgt := 63) dX2_tableShare_45 (by decide) ?_
    obtain rfl := Option.some.inj h
    exact j_fret hk.1 hk.2 rfl dX2_tableShare_63
  · rw [if_neg c3] at h
    refine j_aload_n (j := 0) dX2_tableShare_48 rfl rfl ?_
    refine j_iconst (v := 0) dX2_tableShare_49 (by decide) ?_
    replace h := zkE h
    obtain ⟨e4, h⟩ := h
    replace h := zb2E h
    obtain ⟨v6, G7, e5, h⟩ := h
    refine j_cont (zrV (As := [vI 0]) msX2_243 (yX2_cells_ok e5) (Nat.le_trans (Nat.le_of_ble_eq_true rfl) hd) (zk_2 _ e4) rfl rfl (Nat.le_of_ble_eq_true rfl) dX2_tableShare_50) ?_
    refine j_i2f dX2_tableShare_53 ?_
    refine j_bipush (v := 13) dX2_tableShare_54 (by decide) ?_
    refine j_iload_n (j := 1) dX2_tableShare_56 rfl rfl ?_
    replace h := zbE h
    obtain ⟨v9, e8, h⟩ := h
    refine j_cont (zrS (As := [vI x1]) msX2_381 (yX2_bits_ok e8) (Nat.le_trans (Nat.le_of_ble_eq_true rfl) hd) rfl rfl (Nat.le_of_ble_eq_true rfl) dX2_tableShare_57) ?_
    refine j_imul dX2_tableShare_60 ?_
    refine j_i2f dX2_tableShare_61 ?_
    replace h := zcondE h
    obtain ⟨e10, h⟩ := h
    refine j_fdiv dX2_tableShare_62 e10 ?_
    obtain rfl := Option.some.inj h
    exact j_fret hk.1 hk.2 rfl dX2_tableShare_63
def fbX2_tableShare_9 (t : Nat) (x1 : Int32) (x2 : Int32)  (G : GS) : Option ((Int32 × Int32) ⊕ ((UInt32) × GS)) :=
  (zgI G 2 t 6).bind fun v1 => if v1 ≤ x2 then (zo (fX2_tableShare_37 t x1 G)) else ((zgR G 2 t 0).bind fun r4 => r4.bind fun a6 => (zaI G 50 a6 x2).bind fun v8 => some (.inl ((x1 ||| ((1 : Int32) <<< ((v8 - 20) &&& 31))), (x2 + 1))))
def flX2_tableShare_9 (t : Nat) (x1 : Int32) (x2 : Int32) (G : GS) : Option ((UInt32) × GS) := zloop (fun s : Int32 × Int32 => fbX2_tableShare_9 t s.1 s.2 G) (x1, x2)
theorem wfbX2_tableShare_9 {F : zF} (hd : 9 ≤ F.2.2.2) (t : Nat) (x1 : Int32) (x2 : Int32) (G : GS) {a : (Int32 × Int32) ⊕ ((UInt32) × GS)} (h : fbX2_tableShare_9 t x1 x2 G = some a) (hk : (zcase (fun s : Int32 × Int32 => J mX2_tableShare F G 9 [(0, vR (some t)), (1, vI s.1), (2, vI s.2)] []) (zKF F)) a) : J mX2_tableShare F G 9 [(0, vR (some t)), (1, vI x1), (2, vI x2)] [] := by
  unfold fbX2_tableShare_9 at h
  refine j_iload_n (j := 2) dX2_tableShare_9 rfl rfl ?_
  refine j_aload_n (j := 0) dX2_tableShare_10 rfl rfl ?_
  replace h := zbE h
  obtain ⟨v1, e2, h⟩ := h
  refine j_getI fgX2_113 (fun _ _ _ => rfl) dX2_tableShare_11 e2 ?_
  refine j_icmp_ge (tgt := 37) dX2_tableShare_14 (by decide) (fun c3 => ?_) (fun c3 => ?_)
  · rw [if_pos c3] at h
    replace h := zoE h
    obtain ⟨a, h, rfl⟩ := h
    replace hk := hk
    exact J.sub (zall [0, 1] rfl) (wfX2_tableShare_37 hd t x1  G h hk)
  · rw [if_neg c3] at h
    refine j_iload_n (j := 1) dX2_tableShare_17 rfl rfl ?_
    refine j_iconst (v := 1) dX2_tableShare_18 (by decide) ?_
    refine j_aload_n (j := 0) dX2_tableShare_19 rfl rfl ?_
    replace h := zbE h
    obtain ⟨r4, e5, h⟩ := h
    refine j_getR fgX2_7 (fun _ _ _ => rfl) dX2_tableShare_20 e5 ?_
    refine j_iload_n (j := 2) dX2_tableShare_23 rfl rfl ?_
    replace h := zbE h
    obtain ⟨a6, e7, h⟩ := h
    subst e7
    replace h := zbE h
    obtain ⟨v8, e9, h⟩ := h
    refine j_iald (Or.inl rfl) e9 dX2_tableShare_24 ?_
    refine j_bipush (v := 20) dX2_tableShare_25 (by decide) ?_
    refine j_isub dX2_tableShare_27 ?_
    refine j_ishl dX2_tableShare_28 ?_
    refine j_ior dX2_tableShare_29 ?_
    refine j_istore_n (lv' := [(1, vI (x1 ||| ((1 : Int32) <<< ((v8 - 20) &&& 31)))), (0, vR (some t)), (2, vI x2)]) dX2_tableShare_30 rfl (Nat.le_of_ble_eq_true rfl) rfl ?_
    refine j_iinc (j := 2) (v := (x2 + 1)) (lv' := [(2, vI (x2 + 1)), (1, vI (x1 ||| ((1 : Int32) <<< ((v8 - 20) &&& 31)))), (0, vR (some t))]) dX2_tableShare_31 rfl rfl (Nat.le_of_ble_eq_true rfl) rfl ?_
    refine j_goto (tgt := 9) dX2_tableShare_34 (by decide) ?_
    obtain rfl := Option.some.inj h
    exact J.sub (zall [2, 1, 0] rfl) hk
theorem wflX2_tableShare_9 {F : zF} (hd : 9 ≤ F.2.2.2) (t : Nat) (x1 : Int32) (x2 : Int32) (G : GS) {a : (UInt32) × GS} (h : flX2_tableShare_9 t x1 x2 G = some a) (hk : zKF F a) : J mX2_tableShare F G 9 [(0, vR (some t)), (1, vI x1), (2, vI x2)] [] := by
  unfold flX2_tableShare_9 at h
  exact zloop_walk (P := (fun s : Int32 × Int32 => J mX2_tableShare F G 9 [(0, vR (some t)), (1, vI s.1), (2, vI s.2)] [])) (fun s b e hk => wfbX2_tableShare_9 hd t s.1 s.2 G e hk) (x1, x2) _ h hk
def fX2_tableShare_0 (t : Nat)  (G : GS) : Option ((UInt32) × GS) :=
  (zpI G 2 t 8 0).bind fun G1 => flX2_tableShare_9 t 0 0 G1
theorem wfX2_tableShare_0 {F : zF} (hd : 9 ≤ F.2.2.2) (t : Nat)  (G : GS) {a : (UInt32) × GS} (h : fX2_tableShare_0 t  G = some a) (hk : zKF F a) : J mX2_tableShare F G 0 [(0, vR (some t))] [] := by
  unfold fX2_tableShare_0 at h
  refine j_aload_n (j := 0) dX2_tableShare_0 rfl rfl ?_
  refine j_iconst (v := 0) dX2_tableShare_1 (by decide) ?_
  replace h := zbE h
  obtain ⟨G1, e2, h⟩ := h
  refine j_putI fpX2_93_X2 (Or.inl rfl) rfl dX2_tableShare_2 e2 ?_
  refine j_iconst (v := 0) dX2_tableShare_5 (by decide) ?_
  refine j_istore_n (lv' := [(1, vI 0), (0, vR (some t))]) dX2_tableShare_6 rfl (Nat.le_of_ble_eq_true rfl) rfl ?_
  refine j_iconst (v := 0) dX2_tableShare_7 (by decide) ?_
  refine j_istore_n (lv' := [(2, vI 0), (1, vI 0), (0, vR (some t))]) dX2_tableShare_8 rfl (Nat.le_of_ble_eq_true rfl) rfl ?_
  exact J.sub (zall [2, 1, 0] rfl) (wflX2_tableShare_9 hd t 0 0  G1 h hk)
theorem yX2_tableShare_ok {t : Nat} {G : GS} {r : UInt32} {G1 : GS} (h : fX2_tableShare_0 t G = some (r, G1)) : zRuns yX2_tableShare (ws_ yX2_tableShare cX2_tableShare 3 (some Jvm.ClassFile.FieldType.float)) [vR (some t)] (.inl (some (vF r)), G, G1, 9) :=
  zentry (M := mX2_tableShare) (plainFor_of_name (by decide +kernel)) ⟨rfl, rfl, rfl, rfl⟩ (Nat.le_of_ble_eq_true rfl) (wfX2_tableShare_0 (Nat.le_refl _) t G h ⟨rfl, rfl⟩)
abbrev mX2_thrown : zM := (cX2_thrown, RX2, 1, (some Jvm.ClassFile.FieldType.int), "thrown", [], "()I")
def fX2_thrown_0 (t : Nat)  (G : GS) : Option (Int32) :=
  (zgI G 2 t 8).bind fun v1 => some v1
theorem wfX2_thrown_0 {F : zF} (hd : 1 ≤ F.2.2.2) (t : Nat)  (G : GS) {a : Int32} (h : fX2_thrown_0 t  G = some a) (hk : zKPI F G a) : J mX2_thrown F G 0 [(0, vR (some t))] [] := by
  unfold fX2_thrown_0 at h
  refine j_aload_n (j := 0) dX2_thrown_0 rfl rfl ?_
  replace h := zbE h
  obtain ⟨v1, e2, h⟩ := h
  refine j_getI fgX2_93 (fun _ _ _ => rfl) dX2_thrown_1 e2 ?_
  obtain rfl := Option.some.inj h
  exact j_iret hk.1 hk.2 rfl dX2_thrown_4
theorem yX2_thrown_ok {t : Nat} {G : GS} {r : Int32} (h : fX2_thrown_0 t G = some r) : zRuns yX2_thrown (ws_ yX2_thrown cX2_thrown 1 (some Jvm.ClassFile.FieldType.int)) [vR (some t)] (.inl (some (vI r)), G, G, 1) :=
  zentry (M := mX2_thrown) (plainFor_of_name (by decide +kernel)) ⟨rfl, rfl, rfl, rfl⟩ (Nat.le_of_ble_eq_true rfl) (wfX2_thrown_0 (Nat.le_refl _) t G h ⟨rfl, rfl⟩)
abbrev mX2_tokenCount : zM := (cX2_tokenCount, RX2, 1, (some Jvm.ClassFile.FieldType.int), "tokenCount", [], "()I")
def fX2_tokenCount_0 (t : Nat)  (G : GS) : Option ((Int32) × GS) :=
  (zgI G 2 t 32).bind fun v1 => zk [2] G t <| zb2 (fX2_tellsOf_0 t v1 G) fun v5 G6 => some (v5, G6)
theorem wfX2_tokenCount_0 {F : zF} (hd : 2 ≤ F.2.2.2) (t : Nat)  (G : GS) {a : (Int32) × GS} (h : fX2_tokenCount_0 t  G = some a) (hk : zKI F a) : J mX2_tokenCount F G 0 [(0, vR (some t))] [] := by
  unfold fX2_tokenCount_0 at h
  refine j_aload_n (j := 0) dX2_tokenCount_0 rfl rfl ?_
  refine j_aload_n (j := 0) dX2_tokenCount_1 rfl rfl ?_
  replace h := zbE h
  obtain ⟨v1, e2, h⟩ := h
  refine j_getI fgX2_137 (fun _ _ _ => rfl) dX2_tokenCount_2 e2 ?_
  replace h := zkE h
  obtain ⟨e3, h⟩ := h
  replace h := zb2E h
  obtain ⟨v5, G6, e4, h⟩ := h
  refine j_cont (zrV (As := [vI v1]) msX2_184 (yX2_tellsOf_ok e4) (Nat.le_trans (Nat.le_of_ble_eq_true rfl) hd) (zk_2 _ e3) rfl rfl (Nat.le_of_ble_eq_true rfl) dX2_tokenCount_5) ?_
  obtain rfl := Option.some.inj h
  exact j_iret hk.1 hk.2 rfl dX2_tokenCount_8
theorem yX2_tokenCount_ok {t : Nat} {G : GS} {r : Int32} {G1 : GS} (h : fX2_tokenCount_0 t G = some (r, G1)) : zRuns yX2_tokenCount (ws_ yX2_tokenCount cX2_tokenCount 1 (some Jvm.ClassFile.FieldType.int)) [vR (some t)] (.inl (some (vI r)), G, G1, 2) :=
  zentry (M := mX2_tokenCount) (plainFor_of_name (by decide +kernel)) ⟨rfl, rfl, rfl, rfl⟩ (Nat.le_of_ble_eq_true rfl) (wfX2_tokenCount_0 (Nat.le_refl _) t G h ⟨rfl, rfl⟩)
abbrev mX2_usedNonterminals : zM := (cX2_usedNonterminals, RX2, 1, (some Jvm.ClassFile.FieldType.int), "usedNonterminals", [], "()I")
def fX2_usedNonterminals_0 (t : Nat)  (G : GS) : Option ((Int32) × GS) :=
  zk [2] G t <| (fX2_used_0 t G).bind fun v3 => zk [2] G t <| zb2 (fX2_tellsOf_0 t v3 G) fun v6 G7 => some (v6, G7)
theorem wfX2_usedNonterminals_0 {F : zF} (hd : 4 ≤ F.2.2.2) (t : Nat)  (G : GS) {a : (Int32) × GS} (h : fX2_usedNonterminals_0 t  G = some a) (hk : zKI F a) : J mX2_usedNonterminals F G 0 [(0, vR (some t))] [] := by
  unfold fX2_usedNonterminals_0 at h
  refine j_aload_n (j := 0) dX2_usedNonterminals_0 rfl rfl ?_
  refine j_aload_n (j := 0) dX2_usedNonterminals_1 rfl rfl ?_
  replace h := zkE h
  obtain ⟨e1, h⟩ := h
  replace h := zbE h
  obtain ⟨v3, e2, h⟩ := h
  refine j_cont (zrV (As := []) msX2_191 (yX2_used_ok e2) (Nat.le_trans (Nat.le_of_ble_eq_true rfl) hd) (zk_2 _ e1) rfl rfl (Nat.le_of_ble_eq_true rfl) dX2_usedNonterminals_2) ?_
  replace h := zkE h
  obtain ⟨e4, h⟩ := h
  replace h := zb2E h
  obtain ⟨v6, G7, e5, h⟩ := h
  refine j_cont (zrV (As := [vI v3]) msX2_184 (yX2_tellsOf_ok e5) (Nat.le_trans (Nat.le_of_ble_eq_true rfl) hd) (zk_2 _ e4) rfl rfl (Nat.le_of_ble_eq_true rfl) dX2_usedNonterminals_5) ?_
  obtain rfl := Option.some.inj h
  exact j_iret hk.1 hk.2 rfl dX2_usedNonterminals_8
theorem yX2_usedNonterminals_ok {t : Nat} {G : GS} {r : Int32} {G1 : GS} (h : fX2_usedNonterminals_0 t G = some (r, G1)) : zRuns yX2_usedNonterminals (ws_ yX2_usedNonterminals cX2_usedNonterminals 1 (some Jvm.ClassFile.FieldType.int)) [vR (some t)] (.inl (some (vI r)), G, G1, 4) :=
  zentry (M := mX2_usedNonterminals) (plainFor_of_name (by decide +kernel)) ⟨rfl, rfl, rfl, rfl⟩ (Nat.le_of_ble_eq_true rfl) (wfX2_usedNonterminals_0 (Nat.le_refl _) t G h ⟨rfl, rfl⟩)
abbrev mX2_wasSkipped : zM := (cX2_wasSkipped, RX2, 2, (some Jvm.ClassFile.FieldType.boolean), "wasSkipped", [], "(I)Z")
def fX2_wasSkipped_25   (G : GS) : Option ((Int32) × GS) :=
  zcond (zbb 0) (some (0, G))
theorem wfX2_wasSkipped_25 {F : zF} (hd : 3 ≤ F.2.2.2)   (G : GS) {a : (Int32) × GS} (h : fX2_wasSkipped_25   G = some a) (hk : zKI F a) : J mX2_wasSkipped F G 25 [] [] := by
  unfold fX2_wasSkipped_25 at h
  refine j_iconst (v := 0) dX2_wasSkipped_25 (by decide) ?_
  replace h := zcondE h
  obtain ⟨e1, h⟩ := h
  obtain rfl := Option.some.inj h
  exact j_zret hk.1 hk.2 rfl (zbb_n e1) dX2_wasSkipped_26
def fX2_wasSkipped_0 (t : Nat) (x1 : Int32)  (G : GS) : Option ((Int32) × GS) :=
  zk [2] G t <| (fX2_isError_0 t x1 G).bind fun v3 => zk [2] G t <| zb2 (fX2_goes_0 t v3 G) fun v6 G7 => if v6 = 0 then (fX2_wasSkipped_25 G7) else ((zgR G7 2 t 29).bind fun r9 => r9.bind fun a11 => (zaI G7 52 a11 x1).bind fun v13 => if v13 = 0 then (fX2_wasSkipped_25 G7) else (zcond (zbb 1) (some (1, G7))))
theorem wfX2_wasSkipped_0 {F : zF} (hd : 3 ≤ F.2.2.2) (t : Nat) (x1 : Int32)  (G : GS) {a : (Int32) × GS} (h : fX2_wasSkipped_0 t x1  G = some a) (hk : zKI F a) : J mX2_wasSkipped F G 0 [(0, vR (some t)), (1, vI x1)] [] := by
  unfold fX2_wasSkipped_0 at h
  refine j_aload_n (j := 0) dX2_wasSkipped_0 rfl rfl ?_
  refine j_aload_n (j := 0) dX2_wasSkipped_1 rfl rfl ?_
  refine j_iload_n (j := 1) dX2_wasSkipped_2 rfl rfl ?_
  replace h := zkE h
  obtain ⟨e1, h⟩ := h
  replace h := zbE h
  obtain ⟨v3, e2, h⟩ := h
  refine j_cont (zrV (As := [vI x1]) msX2_365 (yX2_isError_ok e2) (Nat.le_trans (Nat.le_of_ble_eq_true rfl) hd) (zk_2 _ e1) rfl rfl (Nat.le_of_ble_eq_true rfl) dX2_wasSkipped_3) ?_
  replace h := zkE h
  obtain ⟨e4, h⟩ := h
  replace h := zb2E h
  obtain ⟨v6, G7, e5, h⟩ := h
  refine j_cont (zrV (As := [vI v3]) msX2_177 (yX2_goes_ok e5) (Nat.le_trans (Nat.le_of_ble_eq_true rfl) hd) (zk_2 _ e4) rfl rfl (Nat.le_of_ble_eq_true rfl) dX2_wasSkipped_6) ?_
  refine j_if_eq (tgt := 25) dX2_wasSkipped_9 (by decide) (fun c8 => ?_) (fun c8 => ?_)
  · rw [if_pos c8] at h
    exact J.sub (zall [] rfl) (wfX2_wasSkipped_25 hd   G7 h hk)
  · rw [if_neg c8] at h
    refine j_aload_n (j := 0) dX2_wasSkipped_12 rfl rfl ?_
    replace h := zbE h
    obtain ⟨r9, e10, h⟩ := h
    refine j_getR fgX2_77 (fun _ _ _ => rfl) dX2_wasSkipped_13 e10 ?_
    refine j_iload_n (j := 1) dX2_wasSkipped_16 rfl rfl ?_
    replace h := zbE h
    obtain ⟨a11, e12, h⟩ := h
    subst e12
    replace h := zbE h
    obtain ⟨v13, e14, h⟩ := h
    refine j_zald rfl e14 dX2_wasSkipped_17 ?_
    refine j_if_eq (tgt := 25) dX2_wasSkipped_18 (by decide) (fun c15 => ?_) (fun c15 => ?_)
    · rw [if_pos c15] at h
      exact J.sub (zall [] rfl) (wfX2_wasSkipped_25 hd   G7 h hk)
    · rw [if_neg c15] at h
      refine j_iconst (v := 1) dX2_wasSkipped_21 (by decide) ?_
      refine j_goto (tgt := 26) dX2_wasSkipped_22 (by decide) ?_
      replace h := zcondE h
      obtain ⟨e16, h⟩ := h
      obtain rfl := Option.some.inj h
      exact j_zret hk.1 hk.2 rfl (zbb_n e16) dX2_wasSkipped_26
theorem yX2_wasSkipped_ok {t : Nat} {x1 : Int32} {G : GS} {r : Int32} {G1 : GS} (h : fX2_wasSkipped_0 t x1 G = some (r, G1)) : zRuns yX2_wasSkipped (ws_ yX2_wasSkipped cX2_wasSkipped 2 (some Jvm.ClassFile.FieldType.boolean)) [vR (some t), vI x1] (.inl (some (vI r)), G, G1, 3) :=
  zentry (M := mX2_wasSkipped) (plainFor_of_name (by decide +kernel)) ⟨rfl, rfl, rfl, rfl⟩ (Nat.le_of_ble_eq_true rfl) (wfX2_wasSkipped_0 (Nat.le_refl _) t x1 G h ⟨rfl, rfl⟩)
theorem fpX2_396_X2 : zFP RX2 396 1 41 (.int) false := ⟨(RX2, TX2, 42, tyX2), rfl, by decide, in_X2, tyX2_ok, nmX2, rfl, rfl, (by decide), "SelahGeneratorModel", Or.inl rfl, q2713⟩
abbrev mX2_writeRule : zM := (cX2_writeRule, RX2, 3, (some Jvm.ClassFile.FieldType.int), "writeRule", [], "(I)I")
def fX2_writeRule_101 (t : Nat) (x1 : Int32) (x2 : Int32) (s0 : Option Nat) (s1 : Int32) (s2 : Int32) (G : GS) : Option ((Int32 × GS) ⊕ ((Int32) × GS)) :=
  s0.bind fun a1 => (zsI G 50 a1 s1 s2).bind fun G3 => (zgI G3 2 t 41).bind fun v5 => (zpI G3 2 t 41 (v5 + 1)).bind fun G7 => some (.inl ((x2 + 1), G7))
theorem wfX2_writeRule_101 {F : zF} (hd : 3 ≤ F.2.2.2) (t : Nat) (x1 : Int32) (x2 : Int32) (s0 : Option Nat) (s1 : Int32) (s2 : Int32) (G : GS) {a : (Int32 × GS) ⊕ ((Int32) × GS)} (h : fX2_writeRule_101 t x1 x2 s0 s1 s2 G = some a) (hk : (zcase (fun s : Int32 × GS => J mX2_writeRule F s.2 47 [(0, vR (some t)), (1, vI x1), (2, vI s.1)] []) (zKI F)) a) : J mX2_writeRule F G 101 [(0, vR (some t)), (1, vI x1), (2, vI x2)] [vI s2, vI s1, vR s0] := by
  unfold fX2_writeRule_101 at h
  replace h := zbE h
  obtain ⟨a1, e2, h⟩ := h
  subst e2
  replace h := zbE h
  obtain ⟨G3, e4, h⟩ := h
  refine j_iast e4 dX2_writeRule_101 ?_
  refine j_aload_n (j := 0) dX2_writeRule_102 rfl rfl ?_
  refine j_dup dX2_writeRule_103 rfl ?_
  replace h := zbE h
  obtain ⟨v5, e6, h⟩ := h
  refine j_getI fgX2_396 (fun _ _ _ => rfl) dX2_writeRule_104 e6 ?_
  refine j_iconst (v := 1) dX2_writeRule_107 (by decide) ?_
  refine j_iadd dX2_writeRule_108 ?_
  replace h := zbE h
  obtain ⟨G7, e8, h⟩ := h
  refine j_putI fpX2_396_X2 (Or.inl rfl) rfl dX2_writeRule_109 e8 ?_
  refine j_iinc (j := 2) (v := (x2 + 1)) (lv' := [(2, vI (x2 + 1)), (0, vR (some t)), (1, vI x1)]) dX2_writeRule_112 rfl rfl (Nat.le_of_ble_eq_true rfl) rfl ?_
  refine j_goto (tgt := 47) dX2_writeRule_115 (by decide) ?_
  obtain rfl := Option.some.inj h
  exact J.sub (zall [1, 2, 0] rfl) hk
def fbX2_writeRule_47 (t : Nat) (x1 : Int32) (x2 : Int32)  (G : GS) : Option ((Int32 × GS) ⊕ ((Int32) × GS)) :=
  (zgR G 2 t 1).bind fun r1 => r1.bind fun a3 => (zaI G 50 a3 x1).bind fun v5 => if v5 ≤ x2 then (zo ((zgI G 2 t 41).bind fun v8 => some (v8, G))) else ((zgR G 2 t 40).bind fun r10 => (zgI G 2 t 41).bind fun v12 => zk [2] G t <| (fX2_at_0 t x1 x2 G).bind fun v16 => (fX2_isTerminal_0 v16 G).bind fun v18 => if v18 = 0 then (zk [2] G t <| (fX2_at_0 t x1 x2 G).bind fun v22 => fX2_writeRule_101 t x1 x2 r10 v12 ((65 + v22) - 20) G) else (zk [2] G t <| (fX2_at_0 t x1 x2 G).bind fun v25 => fX2_writeRule_101 t x1 x2 r10 v12 (97 + v25) G))
def flX2_writeRule_47 (t : Nat) (x1 : Int32) (x2 : Int32) (G : GS) : Option ((Int32) × GS) := zloop (fun s : Int32 × GS => fbX2_writeRule_47 t x1 s.1 s.2) (x2, G)
theorem wfbX2_writeRule_47 {F : zF} (hd : 3 ≤ F.2.2.2) (t : Nat) (x1 : Int32) (x2 : Int32) (G : GS) {a : (Int32 × GS) ⊕ ((Int32) × GS)} (h : fbX2_writeRule_47 t x1 x2 G = some a) (hk : (zcase (fun s : Int32 × GS => J mX2_writeRule F s.2 47 [(0, vR (some t)), (1, vI x1), (2, vI s.1)] []) (zKI F)) a) : J mX2_writeRule F G 47 [(0, vR (some t)), (1, vI x1), (2, vI x2)] [] := by
  unfold fbX2_writeRule_47 at h
  refine j_iload_n (j := 2) dX2_writeRule_47 rfl rfl ?_
  refine j_aload_n (j := 0) dX2_writeRule_48 rfl rfl ?_
  replace h := zbE h
  obtain ⟨r1, e2, h⟩ := h
  refine j_getR fgX2_13 (fun _ _ _ => rfl) dX2_writeRule_49 e2 ?_
  refine j_iload_n (j := 1) dX2_writeRule_52 rfl rfl ?_
  replace h := zbE h
  obtain ⟨a3, e4, h⟩ := h
  subst e4
  replace h := zbE h
  obtain ⟨v5, e6, h⟩ := h
  refine j_iald (Or.inl rfl) e6 dX2_writeRule_53 ?_
  refine j_icmp_ge (tgt := 118) dX2_writeRule_54 (by decide) (fun c7 => ?_) (fun c7 => ?_)
  · rw [if_pos c7] at h
    replace h := zoE h
    obtain ⟨a, h, rfl⟩ := h
    replace hk := hk
    refine j_aload_n (j := 0) dX2_writeRule_118 rfl rfl ?_
    replace h := zbE h
    obtain ⟨v8, e9, h⟩ := h
    refine j_getI fgX2_396 (fun _ _ _ => rfl) dX2_writeRule_119 e9 ?_
    obtain rfl := Option.some.inj h
    exact j_iret hk.1 hk.2 rfl dX2_writeRule_122
  · rw [if_neg c7] at h
    refine j_aload_n (j := 0) dX2_writeRule_57 rfl rfl ?_
    replace h := zbE h
    obtain ⟨r10, e11, h⟩ := h
    refine j_getR fgX2_90 (fun _ _ _ => rfl) dX2_writeRule_58 e11 ?_
    refine j_aload_n (j := 0) dX2_writeRule_61 rfl rfl ?_
    replace h := zbE h
    obtain ⟨v12, e13, h⟩ := h
    refine j_getI fgX2_396 (fun _ _ _ => rfl) dX2_writeRule_62 e13 ?_
    refine j_aload_n (j := 0) dX2_writeRule_65 rfl rfl ?_
    refine j_iload_n (j := 1) dX2_writeRule_66 rfl rfl ?_
    refine j_iload_n (j := 2) dX2_writeRule_67 rfl rfl ?_
    replace h := zkE h
    obtain ⟨e14, h⟩ := h
    replace h := zbE h
    obtain ⟨v16, e15, h⟩ := h
    refine j_cont (zrV (As := [vI x1, vI x2]) msX2_187 (yX2_at_ok e15) (Nat.le_trans (Nat.le_of_ble_eq_true rfl) hd) (zk_2 _ e14) rfl rfl (Nat.le_of_ble_eq_true rfl) dX2_writeRule_68) ?_
    replace h := zbE h
    obtain ⟨v18, e17, h⟩ := h
    refine j_cont (zrS (As := [vI v16]) msX2_167 (yX2_isTerminal_ok e17) (Nat.le_trans (Nat.le_of_ble_eq_true rfl) hd) rfl rfl (Nat.le_of_ble_eq_true rfl) dX2_writeRule_71) ?_
    refine j_if_eq (tgt := 89) dX2_writeRule_74 (by decide) (fun c19 => ?_) (fun c19 => ?_)
    · rw [if_pos c19] at h
      refine j_bipush (v := 65) dX2_writeRule_89 (by decide) ?_
      refine j_aload_n (j := 0) dX2_writeRule_91 rfl rfl ?_
      refine j_iload_n (j := 1) dX2_writeRule_92 rfl rfl ?_
      refine j_iload_n (j := 2) dX2_writeRule_93 rfl rfl ?_
      replace h := zkE h
      obtain ⟨e20, h⟩ := h
      replace h := zbE h
      obtain ⟨v22, e21, h⟩ := h
      refine j_cont (zrV (As := [vI x1, vI x2]) msX2_187 (yX2_at_ok e21) (Nat.le_trans (Nat.le_of_ble_eq_true rfl) hd) (zk_2 _ e20) rfl rfl (Nat.le_of_ble_eq_true rfl) dX2_writeRule_94) ?_
      refine j_iadd dX2_writeRule_97 ?_
      refine j_bipush (v := 20) dX2_writeRule_98 (by decide) ?_
      refine j_isub dX2_writeRule_100 ?_
      exact J.sub (zall [0, 1, 2] rfl) (wfX2_writeRule_101 hd t x1 x2 r10 v12 ((65 + v22) - 20) G h hk)
    · rw [if_neg c19] at h
      refine j_bipush (v := 97) dX2_writeRule_77 (by decide) ?_
      refine j_aload_n (j := 0) dX2_writeRule_79 rfl rfl ?_
      refine j_iload_n (j := 1) dX2_writeRule_80 rfl rfl ?_
      refine j_iload_n (j := 2) dX2_writeRule_81 rfl rfl ?_
      replace h := zkE h
      obtain ⟨e23, h⟩ := h
      replace h := zbE h
      obtain ⟨v25, e24, h⟩ := h
      refine j_cont (zrV (As := [vI x1, vI x2]) msX2_187 (yX2_at_ok e24) (Nat.le_trans (Nat.le_of_ble_eq_true rfl) hd) (zk_2 _ e23) rfl rfl (Nat.le_of_ble_eq_true rfl) dX2_writeRule_82) ?_
      refine j_iadd dX2_writeRule_85 ?_
      refine j_goto (tgt := 101) dX2_writeRule_86 (by decide) ?_
      exact J.sub (zall [0, 1, 2] rfl) (wfX2_writeRule_101 hd t x1 x2 r10 v12 (97 + v25) G h hk)
theorem wflX2_writeRule_47 {F : zF} (hd : 3 ≤ F.2.2.2) (t : Nat) (x1 : Int32) (x2 : Int32) (G : GS) {a : (Int32) × GS} (h : flX2_writeRule_47 t x1 x2 G = some a) (hk : zKI F a) : J mX2_writeRule F G 47 [(0, vR (some t)), (1, vI x1), (2, vI x2)] [] := by
  unfold flX2_writeRule_47 at h
  exact zloop_walk (P := (fun s : Int32 × GS => J mX2_writeRule F s.2 47 [(0, vR (some t)), (1, vI x1), (2, vI s.1)] [])) (fun s b e hk => wfbX2_writeRule_47 hd t x1 s.1 s.2 e hk) (x2, G) _ h hk
def fX2_writeRule_0 (t : Nat) (x1 : Int32)  (G : GS) : Option ((Int32) × GS) :=
  zk [2] G t <| (fX2_isRule_0 t x1 G).bind fun v3 => zk [2] G t <| zb2 (fX2_goes_0 t v3 G) fun v6 G7 => if v6 = 0 then (some (0, G7)) else ((zgR G7 2 t 40).bind fun r9 => (zgR G7 2 t 0).bind fun r11 => r11.bind fun a13 => (zaI G7 50 a13 x1).bind fun v15 => r9.bind fun a17 => (zsI G7 50 a17 (0 : Int32) ((65 + v15) - 20)).bind fun G19 => (zgR G19 2 t 40).bind fun r21 => r21.bind fun a23 => (zsI G19 50 a23 (1 : Int32) 61).bind fun G25 => (zpI G25 2 t 41 2).bind fun G27 => flX2_writeRule_47 t x1 0 G27)
theorem wfX2_writeRule_0 {F : zF} (hd : 3 ≤ F.2.2.2) (t : Nat) (x1 : Int32)  (G : GS) {a : (Int32) × GS} (h : fX2_writeRule_0 t x1  G = some a) (hk : zKI F a) : J mX2_writeRule F G 0 [(0, vR (some t)), (1, vI x1)] [] := by
  unfold fX2_writeRule_0 at h
  refine j_aload_n (j := 0) dX2_writeRule_0 rfl rfl ?_
  refine j_aload_n (j := 0) dX2_writeRule_1 rfl rfl ?_
  refine j_iload_n (j := 1) dX2_writeRule_2 rfl rfl ?_
  replace h := zkE h
  obtain ⟨e1, h⟩ := h
  replace h := zbE h
  obtain ⟨v3, e2, h⟩ := h
  refine j_cont (zrV (As := [vI x1]) msX2_164 (yX2_isRule_ok e2) (Nat.le_trans (Nat.le_of_ble_eq_true rfl) hd) (zk_2 _ e1) rfl rfl (Nat.le_of_ble_eq_true rfl) dX2_writeRule_3) ?_
  replace h := zkE h
  obtain ⟨e4, h⟩ := h
  replace h := zb2E h
  obtain ⟨v6, G7, e5, h⟩ := h
  refine j_cont (zrV (As := [vI v3]) msX2_177 (yX2_goes_ok e5) (Nat.le_trans (Nat.le_of_ble_eq_true rfl) hd) (zk_2 _ e4) rfl rfl (Nat.le_of_ble_eq_true rfl) dX2_writeRule_6) ?_
  refine j_if_ne (tgt := 14) dX2_writeRule_9 (by decide) (fun c8 => ?_) (fun c8 => ?_)
  · rw [if_pos c8] at h
    refine j_iconst (v := 0) dX2_writeRule_12 (by decide) ?_
    obtain rfl := Option.some.inj h
    exact j_iret hk.1 hk.2 rfl dX2_writeRule_13
  · rw [if_neg c8] at h
    refine j_aload_n (j := 0) dX2_writeRule_14 rfl rfl ?_
    replace h := zbE h
    obtain ⟨r9, e10, h⟩ := h
    refine j_getR fgX2_90 (fun _ _ _ => rfl) dX2_writeRule_15 e10 ?_
    refine j_iconst (v := 0) dX2_writeRule_18 (by decide) ?_
    refine j_bipush (v := 65) dX2_writeRule_19 (by decide) ?_
    refine j_aload_n (j := 0) dX2_writeRule_21 rfl rfl ?_
    replace h := zbE h
    obtain ⟨r11, e12, h⟩ := h
    refine j_getR fgX2_7 (fun _ _ _ => rfl) dX2_writeRule_22 e12 ?_
    refine j_iload_n (j := 1) dX2_writeRule_25 rfl rfl ?_
    replace h := zbE h
    obtain ⟨a13, e14, h⟩ := h
    subst e14
    replace h := zbE h
    obtain ⟨v15, e16, h⟩ := h
    refine j_iald (Or.inl rfl) e16 dX2_writeRule_26 ?_
    refine j_iadd dX2_writeRule_27 ?_
    refine j_bipush (v := 20) dX2_writeRule_28 (by decide) ?_
    refine j_isub dX2_writeRule_30 ?_
    replace h := zbE h
    obtain ⟨a17, e18, h⟩ := h
    subst e18
    replace h := zbE h
    obtain ⟨G19, e20, h⟩ := h
    refine j_iast e20 dX2_writeRule_31 ?_
    refine j_aload_n (j := 0) dX2_writeRule_32 rfl rfl ?_
    replace h := zbE h
    obtain ⟨r21, e22, h⟩ := h
    refine j_getR fgX2_90 (fun _ _ _ => rfl) dX2_writeRule_33 e22 ?_
    refine j_iconst (v := 1) dX2_writeRule_36 (by decide) ?_
    refine j_bipush (v := 61) dX2_writeRule_37 (by decide) ?_
    replace h := zbE h
    obtain ⟨a23, e24, h⟩ := h
    subst e24
    replace h := zbE h
    obtain ⟨G25, e26, h⟩ := h
    refine j_iast e26 dX2_writeRule_39 ?_
    refine j_aload_n (j := 0) dX2_writeRule_40 rfl rfl ?_
    refine j_iconst (v := 2) dX2_writeRule_41 (by decide) ?_
    replace h := zbE h
    obtain ⟨G27, e28, h⟩ := h
    refine j_putI fpX2_396_X2 (Or.inl rfl) rfl dX2_writeRule_42 e28 ?_
    refine j_iconst (v := 0) dX2_writeRule_45 (by decide) ?_
    refine j_istore_n (lv' := [(2, vI 0), (0, vR (some t)), (1, vI x1)]) dX2_writeRule_46 rfl (Nat.le_of_ble_eq_true rfl) rfl ?_
    exact J.sub (zall [1, 2, 0] rfl) (wflX2_writeRule_47 hd t x1 0  G27 h hk)
theorem yX2_writeRule_ok {t : Nat} {x1 : Int32} {G : GS} {r : Int32} {G1 : GS} (h : fX2_writeRule_0 t x1 G = some (r, G1)) : zRuns yX2_writeRule (ws_ yX2_writeRule cX2_writeRule 3 (some Jvm.ClassFile.FieldType.int)) [vR (some t), vI x1] (.inl (some (vI r)), G, G1, 3) :=
  zentry (M := mX2_writeRule) (plainFor_of_name (by decide +kernel)) ⟨rfl, rfl, rfl, rfl⟩ (Nat.le_of_ble_eq_true rfl) (wfX2_writeRule_0 (Nat.le_refl _) t x1 G h ⟨rfl, rfl⟩)
end
