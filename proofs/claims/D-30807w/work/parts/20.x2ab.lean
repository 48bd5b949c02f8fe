/-! printed: functions and walks -/
set_option maxRecDepth 100000
noncomputable section
theorem fgX2_47 : zFG RX2 47 1 18 (.array (.boolean)) := ⟨(RX2, TX2, 42, tyX2), rfl, by decide, in_X2, rfl, "SelahGeneratorModel", Or.inl rfl, Or.inl q2690⟩
theorem msX2_249 : zSS RX2 249 yX2_joined cX2_joined 2 (some Jvm.ClassFile.FieldType.int) 2 := ⟨lw_S q3018 q3019 q131 q3020, (by decide +kernel), (by decide)⟩
abbrev mX2_continuesByToken : zM := (cX2_continuesByToken, RX2, 3, none, "continuesByToken", [], "(I)V")
def fbX2_continuesByToken_79 (t : Nat) (x2 : Int32)  (G : GS) : Option ((Int32 × GS) ⊕ (GS)) :=
  if 183 ≤ x2 then (zo (some G)) else ((zgR G 2 t 17).bind fun r2 => (zgR G 2 t 18).bind fun r4 => r4.bind fun a6 => (zaI G 52 a6 x2).bind fun v8 => r2.bind fun a10 => (zsZ G 52 a10 x2 v8).bind fun G12 => some (.inl ((x2 + 1), G12)))
def flX2_continuesByToken_79 (t : Nat) (x2 : Int32) (G : GS) : Option (GS) := zloop (fun s : Int32 × GS => fbX2_continuesByToken_79 t s.1 s.2) (x2, G)
theorem wfbX2_continuesByToken_79 {F : zF} (hd : 3 ≤ F.2.2.2) (t : Nat) (x2 : Int32) (G : GS) {a : (Int32 × GS) ⊕ (GS)} (h : fbX2_continuesByToken_79 t x2 G = some a) (hk : (zcase (fun s : Int32 × GS => J mX2_continuesByToken F s.2 79 [(0, vR (some t)), (2, vI s.1)] []) (zKV F)) a) : J mX2_continuesByToken F G 79 [(0, vR (some t)), (2, vI x2)] [] := by
  unfold fbX2_continuesByToken_79 at h
  refine j_iload_n (j := 1) dX2_continuesByToken_79 rfl rfl ?_
  refine j_sipush (v := 183) dX2_continuesByToken_80 (by decide) ?_
  refine j_icmp_ge (tgt := 104) dX2_continuesByToken_83 (by decide) (fun c1 => ?_) (fun c1 => ?_)
  · rw [if_pos c1] at h
    replace h := zoE h
    obtain ⟨a, h, rfl⟩ := h
    replace hk := hk
    obtain rfl := Option.some.inj h
    exact j_vret hk.1 hk.2 rfl dX2_continuesByToken_104
  · rw [if_neg c1] at h
    refine j_aload_n (j := 0) dX2_continuesByToken_86 rfl rfl ?_
    replace h := zbE h
    obtain ⟨r2, e3, h⟩ := h
    refine j_getR fgX2_44 (fun _ _ _ => rfl) dX2_continuesByToken_87 e3 ?_
    refine j_iload_n (j := 1) dX2_continuesByToken_90 rfl rfl ?_
    refine j_aload_n (j := 0) dX2_continuesByToken_91 rfl rfl ?_
    replace h := zbE h
    obtain ⟨r4, e5, h⟩ := h
    refine j_getR fgX2_47 (fun _ _ _ => rfl) dX2_continuesByToken_92 e5 ?_
    refine j_iload_n (j := 1) dX2_continuesByToken_95 rfl rfl ?_
    replace h := zbE h
    obtain ⟨a6, e7, h⟩ := h
    subst e7
    replace h := zbE h
    obtain ⟨v8, e9, h⟩ := h
    refine j_zald rfl e9 dX2_continuesByToken_96 ?_
    replace h := zbE h
    obtain ⟨a10, e11, h⟩ := h
    subst e11
    replace h := zbE h
    obtain ⟨G12, e13, h⟩ := h
    refine j_zast e13 dX2_continuesByToken_97 ?_
    refine j_iinc (j := 1) (v := (x2 + 1)) (lv' := [(2, vI (x2 + 1)), (0, vR (some t))]) dX2_continuesByToken_98 rfl rfl (Nat.le_of_ble_eq_true rfl) rfl ?_
    refine j_goto (tgt := 79) dX2_continuesByToken_101 (by decide) ?_
    obtain rfl := Option.some.inj h
    exact J.sub (zall [1, 0] rfl) hk
theorem wflX2_continuesByToken_79 {F : zF} (hd : 3 ≤ F.2.2.2) (t : Nat) (x2 : Int32) (G : GS) {a : GS} (h : flX2_continuesByToken_79 t x2 G = some a) (hk : zKV F a) : J mX2_continuesByToken F G 79 [(0, vR (some t)), (2, vI x2)] [] := by
  unfold flX2_continuesByToken_79 at h
  exact zloop_walk (P := (fun s : Int32 × GS => J mX2_continuesByToken F s.2 79 [(0, vR (some t)), (2, vI s.1)] [])) (fun s b e hk => wfbX2_continuesByToken_79 hd t s.1 s.2 e hk) (x2, G) _ h hk
def fX2_continuesByToken_77 (t : Nat)  (G : GS) : Option (GS) :=
  flX2_continuesByToken_79 t 0 G
theorem wfX2_continuesByToken_77 {F : zF} (hd : 3 ≤ F.2.2.2) (t : Nat)  (G : GS) {a : GS} (h : fX2_continuesByToken_77 t  G = some a) (hk : zKV F a) : J mX2_continuesByToken F G 77 [(0, vR (some t))] [] := by
  unfold fX2_continuesByToken_77 at h
  refine j_iconst (v := 0) dX2_continuesByToken_77 (by decide) ?_
  refine j_istore_n (lv' := [(2, vI 0), (0, vR (some t))]) dX2_continuesByToken_78 rfl (Nat.le_of_ble_eq_true rfl) rfl ?_
  exact J.sub (zall [1, 0] rfl) (wflX2_continuesByToken_79 hd t 0  G h hk)
def fX2_continuesByToken_71 (t : Nat) (x1 : Int32) (x2 : Int32)  (G : GS) : Option ((Int32 × GS) ⊕ (GS)) :=
  some (.inl ((x2 + 1), G))
theorem wfX2_continuesByToken_71 {F : zF} (hd : 3 ≤ F.2.2.2) (t : Nat) (x1 : Int32) (x2 : Int32)  (G : GS) {a : (Int32 × GS) ⊕ (GS)} (h : fX2_continuesByToken_71 t x1 x2  G = some a) (hk : (zcase (fun s : Int32 × GS => J mX2_continuesByToken F s.2 43 [(0, vR (some t)), (1, vI x1), (2, vI s.1)] []) (zKV F)) a) : J mX2_continuesByToken F G 71 [(0, vR (some t)), (1, vI x1), (2, vI x2)] [] := by
  unfold fX2_continuesByToken_71 at h
  refine j_iinc (j := 2) (v := (x2 + 1)) (lv' := [(2, vI (x2 + 1)), (0, vR (some t)), (1, vI x1)]) dX2_continuesByToken_71 rfl rfl (Nat.le_of_ble_eq_true rfl) rfl ?_
  refine j_goto (tgt := 43) dX2_continuesByToken_74 (by decide) ?_
  obtain rfl := Option.some.inj h
  exact J.sub (zall [1, 2, 0] rfl) hk
def fbX2_continuesByToken_43 (t : Nat) (x1 : Int32) (x2 : Int32)  (G : GS) : Option ((Int32 × GS) ⊕ (GS)) :=
  if 14 ≤ x2 then (zo (fX2_continuesByToken_77 t G)) else ((zgR G 2 t 17).bind fun r2 => r2.bind fun a4 => (zaI G 52 a4 x2).bind fun v6 => if v6 = 0 then (fX2_continuesByToken_71 t x1 x2 G) else ((zgR G 2 t 18).bind fun r9 => (fX2_joined_0 x2 (1 + x1) G).bind fun v12 => r9.bind fun a13 => (zsZ G 52 a13 v12 1).bind fun G15 => fX2_continuesByToken_71 t x1 x2 G15))
def flX2_continuesByToken_43 (t : Nat) (x1 : Int32) (x2 : Int32) (G : GS) : Option (GS) := zloop (fun s : Int32 × GS => fbX2_continuesByToken_43 t x1 s.1 s.2) (x2, G)
theorem wfbX2_continuesByToken_43 {F : zF} (hd : 3 ≤ F.2.2.2) (t : Nat) (x1 : Int32) (x2 : Int32) (G : GS) {a : (Int32 × GS) ⊕ (GS)} (h : fbX2_continuesByToken_43 t x1 x2 G = some a) (hk : (zcase (fun s : Int32 × GS => J mX2_continuesByToken F s.2 43 [(0, vR (some t)), (1, vI x1), (2, vI s.1)] []) (zKV F)) a) : J mX2_continuesByToken F G 43 [(0, vR (some t)), (1, vI x1), (2, vI x2)] [] := by
  unfold fbX2_continuesByToken_43 at h
  refine j_iload_n (j := 2) dX2_continuesByToken_43 rfl rfl ?_
  refine j_bipush (v := 14) dX2_continuesByToken_44 (by decide) ?_
  refine j_icmp_ge (tgt := 77) dX2_continuesByToken_46 (by decide) (fun c1 => ?_) (fun c1 => ?_)
  · rw [if_pos c1] at h
    replace h := zoE h
    obtain ⟨a, h, rfl⟩ := h
    replace hk := hk
    exact J.sub (zall [0] rfl) (wfX2_continuesByToken_77 hd t  G h hk)
  · rw [if_neg c1] at h
    refine j_aload_n (j := 0) dX2_continuesByToken_49 rfl rfl ?_
    replace h := zbE h
    obtain ⟨r2, e3, h⟩ := h
    refine j_getR fgX2_44 (fun _ _ _ => rfl) dX2_continuesByToken_50 e3 ?_
    refine j_iload_n (j := 2) dX2_continuesByToken_53 rfl rfl ?_
    replace h := zbE h
    obtain ⟨a4, e5, h⟩ := h
    subst e5
    replace h := zbE h
    obtain ⟨v6, e7, h⟩ := h
    refine j_zald rfl e7 dX2_continuesByToken_54 ?_
    refine j_if_eq (tgt := 71) dX2_continuesByToken_55 (by decide) (fun c8 => ?_) (fun c8 => ?_)
    · rw [if_pos c8] at h
      exact J.sub (zall [0, 1, 2] rfl) (wfX2_continuesByToken_71 hd t x1 x2  G h hk)
    · rw [if_neg c8] at h
      refine j_aload_n (j := 0) dX2_continuesByToken_58 rfl rfl ?_
      replace h := zbE h
      obtain ⟨r9, e10, h⟩ := h
      refine j_getR fgX2_47 (fun _ _ _ => rfl) dX2_continuesByToken_59 e10 ?_
      refine j_iload_n (j := 2) dX2_continuesByToken_62 rfl rfl ?_
      refine j_iconst (v := 1) dX2_continuesByToken_63 (by decide) ?_
      refine j_iload_n (j := 1) dX2_continuesByToken_64 rfl rfl ?_
      refine j_iadd dX2_continuesByToken_65 ?_
      replace h := zbE h
      obtain ⟨v12, e11, h⟩ := h
      refine j_cont (zrS (As := [vI x2, vI (1 + x1)]) msX2_249 (yX2_joined_ok e11) (Nat.le_trans (Nat.le_of_ble_eq_true rfl) hd) rfl rfl (Nat.le_of_ble_eq_true rfl) dX2_continuesByToken_66) ?_
      refine j_iconst (v := 1) dX2_continuesByToken_69 (by decide) ?_
      replace h := zbE h
      obtain ⟨a13, e14, h⟩ := h
      subst e14
      replace h := zbE h
      obtain ⟨G15, e16, h⟩ := h
      refine j_zast e16 dX2_continuesByToken_70 ?_
      exact J.sub (zall [0, 1, 2] rfl) (wfX2_continuesByToken_71 hd t x1 x2  G15 h hk)
theorem wflX2_continuesByToken_43 {F : zF} (hd : 3 ≤ F.2.2.2) (t : Nat) (x1 : Int32) (x2 : Int32) (G : GS) {a : GS} (h : flX2_continuesByToken_43 t x1 x2 G = some a) (hk : zKV F a) : J mX2_continuesByToken F G 43 [(0, vR (some t)), (1, vI x1), (2, vI x2)] [] := by
  unfold flX2_continuesByToken_43 at h
  exact zloop_walk (P := (fun s : Int32 × GS => J mX2_continuesByToken F s.2 43 [(0, vR (some t)), (1, vI x1), (2, vI s.1)] [])) (fun s b e hk => wfbX2_continuesByToken_43 hd t x1 s.1 s.2 e hk) (x2, G) _ h hk
def fX2_continuesByToken_41 (t : Nat) (x1 : Int32)  (G : GS) : Option (GS) :=
  flX2_continuesByToken_43 t x1 0 G
theorem wfX2_continuesByToken_41 {F : zF} (hd : 3 ≤ F.2.2.2) (t : Nat) (x1 : Int32)  (G : GS) {a : GS} (h : fX2_continuesByToken_41 t x1  G = some a) (hk : zKV F a) : J mX2_continuesByToken F G 41 [(0, vR (some t)), (1, vI x1)] [] := by
  unfold fX2_continuesByToken_41 at h
  refine j_iconst (v := 0) dX2_continuesByToken_41 (by decide) ?_
  refine j_istore_n (lv' := [(2, vI 0), (0, vR (some t)), (1, vI x1)]) dX2_continuesByToken_42 rfl (Nat.le_of_ble_eq_true rfl) rfl ?_
  exact J.sub (zall [1, 2, 0] rfl) (wflX2_continuesByToken_43 hd t x1 0  G h hk)
def fX2_continuesByToken_34 (t : Nat) (x1 : Int32) (x2 : Int32) (s0 : Option Nat) (s1 : Int32) (s2 : Int32) (G : GS) : Option ((Int32 × GS) ⊕ (GS)) :=
  s0.bind fun a1 => (zsZ G 52 a1 s1 s2).bind fun G3 => some (.inl ((x2 + 1), G3))
theorem wfX2_continuesByToken_34 {F : zF} (hd : 3 ≤ F.2.2.2) (t : Nat) (x1 : Int32) (x2 : Int32) (s0 : Option Nat) (s1 : Int32) (s2 : Int32) (G : GS) {a : (Int32 × GS) ⊕ (GS)} (h : fX2_continuesByToken_34 t x1 x2 s0 s1 s2 G = some a) (hk : (zcase (fun s : Int32 × GS => J mX2_continuesByToken F s.2 2 [(0, vR (some t)), (1, vI x1), (2, vI s.1)] []) (zKV F)) a) : J mX2_continuesByToken F G 34 [(0, vR (some t)), (1, vI x1), (2, vI x2)] [vI s2, vI s1, vR s0] := by
  unfold fX2_continuesByToken_34 at h
  replace h := zbE h
  obtain ⟨a1, e2, h⟩ := h
  subst e2
  replace h := zbE h
  obtain ⟨G3, e4, h⟩ := h
  refine j_zast e4 dX2_continuesByToken_34 ?_
  refine j_iinc (j := 2) (v := (x2 + 1)) (lv' := [(2, vI (x2 + 1)), (0, vR (some t)), (1, vI x1)]) dX2_continuesByToken_35 rfl rfl (Nat.le_of_ble_eq_true rfl) rfl ?_
  refine j_goto (tgt := 2) dX2_continuesByToken_38 (by decide) ?_
  obtain rfl := Option.some.inj h
  exact J.sub (zall [1, 2, 0] rfl) hk
def fX2_continuesByToken_33 (t : Nat) (x1 : Int32) (x2 : Int32) (s0 : Option Nat) (s1 : Int32) (G : GS) : Option ((Int32 × GS) ⊕ (GS)) :=
  fX2_continuesByToken_34 t x1 x2 s0 s1 0 G
theorem wfX2_continuesByToken_33 {F : zF} (hd : 3 ≤ F.2.2.2) (t : Nat) (x1 : Int32) (x2 : Int32) (s0 : Option Nat) (s1 : Int32) (G : GS) {a : (Int32 × GS) ⊕ (GS)} (h : fX2_continuesByToken_33 t x1 x2 s0 s1 G = some a) (hk : (zcase (fun s : Int32 × GS => J mX2_continuesByToken F s.2 2 [(0, vR (some t)), (1, vI x1), (2, vI s.1)] []) (zKV F)) a) : J mX2_continuesByToken F G 33 [(0, vR (some t)), (1, vI x1), (2, vI x2)] [vI s1, vR s0] := by
  unfold fX2_continuesByToken_33 at h
  refine j_iconst (v := 0) dX2_continuesByToken_33 (by decide) ?_
  exact J.sub (zall [0, 1, 2] rfl) (wfX2_continuesByToken_34 hd t x1 x2 s0 s1 0 G h hk)
def fbX2_continuesByToken_2 (t : Nat) (x1 : Int32) (x2 : Int32)  (G : GS) : Option ((Int32 × GS) ⊕ (GS)) :=
  if 183 ≤ x2 then (zo (fX2_continuesByToken_41 t x1 G)) else ((zgR G 2 t 18).bind fun r2 => if x2 < 14 then (fX2_continuesByToken_33 t x1 x2 r2 x2 G) else ((zgR G 2 t 17).bind fun r5 => r5.bind fun a7 => (zaI G 52 a7 x2).bind fun v9 => if v9 = 0 then (fX2_continuesByToken_33 t x1 x2 r2 x2 G) else (fX2_continuesByToken_34 t x1 x2 r2 x2 1 G)))
def flX2_continuesByToken_2 (t : Nat) (x1 : Int32) (x2 : Int32) (G : GS) : Option (GS) := zloop (fun s : Int32 × GS => fbX2_continuesByToken_2 t x1 s.1 s.2) (x2, G)
theorem wfbX2_continuesByToken_2 {F : zF} (hd : 3 ≤ F.2.2.2) (t : Nat) (x1 : Int32) (x2 : Int32) (G : GS) {a : (Int32 × GS) ⊕ (GS)} (h : fbX2_continuesByToken_2 t x1 x2 G = some a) (hk : (zcase (fun s : Int32 × GS => J mX2_continuesByToken F s.2 2 [(0, vR (some t)), (1, vI x1), (2, vI s.1)] []) (zKV F)) a) : J mX2_continuesByToken F G 2 [(0, vR (some t)), (1, vI x1), (2, vI x2)] [] := by
  unfold fbX2_continuesByToken_2 at h
  refine j_iload_n (j := 2) dX2_continuesByToken_2 rfl rfl ?_
  refine j_sipush (v := 183) dX2_continuesByToken_3 (by decide) ?_
  refine j_icmp_ge (tgt := 41) dX2_continuesByToken_6 (by decide) (fun c1 => ?_) (fun c1 => ?_)
  · rw [if_pos c1] at h
    replace h := zoE h
    obtain ⟨a, h, rfl⟩ := h
    replace hk := hk
    exact J.sub (zall [0, 1] rfl) (wfX2_continuesByToken_41 hd t x1  G h hk)
  · rw [if_neg c1] at h
    refine j_aload_n (j := 0) dX2_continuesByToken_9 rfl rfl ?_
    replace h := zbE h
    obtain ⟨r2, e3, h⟩ := h
    refine j_getR fgX2_47 (fun _ _ _ => rfl) dX2_continuesByToken_10 e3 ?_
    refine j_iload_n (j := 2) dX2_continuesByToken_13 rfl rfl ?_
    refine j_iload_n (j := 2) dX2_continuesByToken_14 rfl rfl ?_
    refine j_bipush (v := 14) dX2_continuesByToken_15 (by decide) ?_
    refine j_icmp_lt (tgt := 33) dX2_continuesByToken_17 (by decide) (fun c4 => ?_) (fun c4 => ?_)
    · rw [if_pos c4] at h
      exact J.sub (zall [0, 1, 2] rfl) (wfX2_continuesByToken_33 hd t x1 x2 r2 x2 G h hk)
    · rw [if_neg c4] at h
      refine j_aload_n (j := 0) dX2_continuesByToken_20 rfl rfl ?_
      replace h := zbE h
      obtain ⟨r5, e6, h⟩ := h
      refine j_getR fgX2_44 (fun _ _ _ => rfl) dX2_continuesByToken_21 e6 ?_
      refine j_iload_n (j := 2) dX2_continuesByToken_24 rfl rfl ?_
      replace h := zbE h
      obtain ⟨a7, e8, h⟩ := h
      subst e8
      replace h := zbE h
      obtain ⟨v9, e10, h⟩ := h
      refine j_zald rfl e10 dX2_continuesByToken_25 ?_
      refine j_if_eq (tgt := 33) dX2_continuesByToken_26 (by decide) (fun c11 => ?_) (fun c11 => ?_)
      · rw [if_pos c11] at h
        exact J.sub (zall [0, 1, 2] rfl) (wfX2_continuesByToken_33 hd t x1 x2 r2 x2 G h hk)
      · rw [if_neg c11] at h
        refine j_iconst (v := 1) dX2_continuesByToken_29 (by decide) ?_
        refine j_goto (tgt := 34) dX2_continuesByToken_30 (by decide) ?_
        exact J.sub (zall [0, 1, 2] rfl) (wfX2_continuesByToken_34 hd t x1 x2 r2 x2 1 G h hk)
theorem wflX2_continuesByToken_2 {F : zF} (hd : 3 ≤ F.2.2.2) (t : Nat) (x1 : Int32) (x2 : Int32) (G : GS) {a : GS} (h : flX2_continuesByToken_2 t x1 x2 G = some a) (hk : zKV F a) : J mX2_continuesByToken F G 2 [(0, vR (some t)), (1, vI x1), (2, vI x2)] [] := by
  unfold flX2_continuesByToken_2 at h
  exact zloop_walk (P := (fun s : Int32 × GS => J mX2_continuesByToken F s.2 2 [(0, vR (some t)), (1, vI x1), (2, vI s.1)] [])) (fun s b e hk => wfbX2_continuesByToken_2 hd t x1 s.1 s.2 e hk) (x2, G) _ h hk
def fX2_continuesByToken_0 (t : Nat) (x1 : Int32)  (G : GS) : Option (GS) :=
  flX2_continuesByToken_2 t x1 0 G
theorem wfX2_continuesByToken_0 {F : zF} (hd : 3 ≤ F.2.2.2) (t : Nat) (x1 : Int32)  (G : GS) {a : GS} (h : fX2_continuesByToken_0 t x1  G = some a) (hk : zKV F a) : J mX2_continuesByToken F G 0 [(0, vR (some t)), (1, vI x1)] [] := by
  unfold fX2_continuesByToken_0 at h
  refine j_iconst (v := 0) dX2_continuesByToken_0 (by decide) ?_
  refine j_istore_n (lv' := [(2, vI 0), (0, vR (some t)), (1, vI x1)]) dX2_continuesByToken_1 rfl (Nat.le_of_ble_eq_true rfl) rfl ?_
  exact J.sub (zall [1, 2, 0] rfl) (wflX2_continuesByToken_2 hd t x1 0  G h hk)
theorem yX2_continuesByToken_ok {t : Nat} {x1 : Int32} {G : GS} {G1 : GS} (h : fX2_continuesByToken_0 t x1 G = some G1) : zRuns yX2_continuesByToken (ws_ yX2_continuesByToken cX2_continuesByToken 3 none) [vR (some t), vI x1] (.inl none, G, G1, 3) :=
  zentry (M := mX2_continuesByToken) (plainFor_of_name (by decide +kernel)) ⟨rfl, rfl, rfl, rfl⟩ (Nat.le_of_ble_eq_true rfl) (wfX2_continuesByToken_0 (Nat.le_refl _) t x1 G h ⟨rfl, rfl⟩)
abbrev mX2_continues : zM := (cX2_continues, RX2, 5, none, "continues", [], "([ZI)V")
def fbX2_continues_107 (t : Nat) (x3 : Int32)  (G : GS) : Option ((Int32 × GS) ⊕ (GS)) :=
  if 183 ≤ x3 then (zo (some G)) else ((zgR G 2 t 17).bind fun r2 => (zgR G 2 t 18).bind fun r4 => r4.bind fun a6 => (zaI G 52 a6 x3).bind fun v8 => r2.bind fun a10 => (zsZ G 52 a10 x3 v8).bind fun G12 => some (.inl ((x3 + 1), G12)))
def flX2_continues_107 (t : Nat) (x3 : Int32) (G : GS) : Option (GS) := zloop (fun s : Int32 × GS => fbX2_continues_107 t s.1 s.2) (x3, G)
theorem wfbX2_continues_107 {F : zF} (hd : 3 ≤ F.2.2.2) (t : Nat) (x3 : Int32) (G : GS) {a : (Int32 × GS) ⊕ (GS)} (h : fbX2_continues_107 t x3 G = some a) (hk : (zcase (fun s : Int32 × GS => J mX2_continues F s.2 107 [(0, vR (some t)), (3, vI s.1)] []) (zKV F)) a) : J mX2_continues F G 107 [(0, vR (some t)), (3, vI x3)] [] := by
  unfold fbX2_continues_107 at h
  refine j_iload_n (j := 1) dX2_continues_107 rfl rfl ?_
  refine j_sipush (v := 183) dX2_continues_108 (by decide) ?_
  refine j_icmp_ge (tgt := 132) dX2_continues_111 (by decide) (fun c1 => ?_) (fun c1 => ?_)
  · rw [if_pos c1] at h
    replace h := zoE h
    obtain ⟨a, h, rfl⟩ := h
    replace hk := hk
    obtain rfl := Option.some.inj h
    exact j_vret hk.1 hk.2 rfl dX2_continues_132
  · rw [if_neg c1] at h
    refine j_aload_n (j := 0) dX2_continues_114 rfl rfl ?_
    replace h := zbE h
    obtain ⟨r2, e3, h⟩ := h
    refine j_getR fgX2_44 (fun _ _ _ => rfl) dX2_continues_115 e3 ?_
    refine j_iload_n (j := 1) dX2_continues_118 rfl rfl ?_
    refine j_aload_n (j := 0) dX2_continues_119 rfl rfl ?_
    replace h := zbE h
    obtain ⟨r4, e5, h⟩ := h
    refine j_getR fgX2_47 (fun _ _ _ => rfl) dX2_continues_120 e5 ?_
    refine j_iload_n (j := 1) dX2_continues_123 rfl rfl ?_
    replace h := zbE h
    obtain ⟨a6, e7, h⟩ := h
    subst e7
    replace h := zbE h
    obtain ⟨v8, e9, h⟩ := h
    refine j_zald rfl e9 dX2_continues_124 ?_
    replace h := zbE h
    obtain ⟨a10, e11, h⟩ := h
    subst e11
    replace h := zbE h
    obtain ⟨G12, e13, h⟩ := h
    refine j_zast e13 dX2_continues_125 ?_
    refine j_iinc (j := 1) (v := (x3 + 1)) (lv' := [(3, vI (x3 + 1)), (0, vR (some t))]) dX2_continues_126 rfl rfl (Nat.le_of_ble_eq_true rfl) rfl ?_
    refine j_goto (tgt := 107) dX2_continues_129 (by decide) ?_
    obtain rfl := Option.some.inj h
    exact J.sub (zall [1, 0] rfl) hk
theorem wflX2_continues_107 {F : zF} (hd : 3 ≤ F.2.2.2) (t : Nat) (x3 : Int32) (G : GS) {a : GS} (h : flX2_continues_107 t x3 G = some a) (hk : zKV F a) : J mX2_continues F G 107 [(0, vR (some t)), (3, vI x3)] [] := by
  unfold flX2_continues_107 at h
  exact zloop_walk (P := (fun s : Int32 × GS => J mX2_continues F s.2 107 [(0, vR (some t)), (3, vI s.1)] [])) (fun s b e hk => wfbX2_continues_107 hd t s.1 s.2 e hk) (x3, G) _ h hk
def fX2_continues_105 (t : Nat)  (G : GS) : Option (GS) :=
  flX2_continues_107 t 0 G
theorem wfX2_continues_105 {F : zF} (hd : 3 ≤ F.2.2.2) (t : Nat)  (G : GS) {a : GS} (h : fX2_continues_105 t  G = some a) (hk : zKV F a) : J mX2_continues F G 105 [(0, vR (some t))] [] := by
  unfold fX2_continues_105 at h
  refine j_iconst (v := 0) dX2_continues_105 (by decide) ?_
  refine j_istore_n (lv' := [(3, vI 0), (0, vR (some t))]) dX2_continues_106 rfl (Nat.le_of_ble_eq_true rfl) rfl ?_
  exact J.sub (zall [1, 0] rfl) (wflX2_continues_107 hd t 0  G h hk)
def fX2_continues_99 (t : Nat) (x1 : Option Nat) (x2 : Int32) (x3 : Int32)  (G : GS) : Option ((Int32 × GS) ⊕ (GS)) :=
  some (.inl ((x3 + 1), G))
theorem wfX2_continues_99 {F : zF} (hd : 3 ≤ F.2.2.2) (t : Nat) (x1 : Option Nat) (x2 : Int32) (x3 : Int32)  (G : GS) {a : (Int32 × GS) ⊕ (GS)} (h : fX2_continues_99 t x1 x2 x3  G = some a) (hk : (zcase (fun s : Int32 × GS => J mX2_continues F s.2 43 [(0, vR (some t)), (1, vR x1), (2, vI x2), (3, vI s.1)] []) (zKV F)) a) : J mX2_continues F G 99 [(0, vR (some t)), (1, vR x1), (2, vI x2), (3, vI x3)] [] := by
  unfold fX2_continues_99 at h
  refine j_iinc (j := 3) (v := (x3 + 1)) (lv' := [(3, vI (x3 + 1)), (0, vR (some t)), (1, vR x1), (2, vI x2)]) dX2_continues_99 rfl rfl (Nat.le_of_ble_eq_true rfl) rfl ?_
  refine j_goto (tgt := 43) dX2_continues_102 (by decide) ?_
  obtain rfl := Option.some.inj h
  exact J.sub (zall [1, 2, 3, 0] rfl) hk
def fX2_continues_93 (t : Nat) (x1 : Option Nat) (x2 : Int32) (x3 : Int32) (x4 : Int32)  (G : GS) : Option ((Int32 × GS) ⊕ ((Int32 × GS) ⊕ (GS))) :=
  some (.inl ((x4 + 1), G))
theorem wfX2_continues_93 {F : zF} (hd : 3 ≤ F.2.2.2) (t : Nat) (x1 : Option Nat) (x2 : Int32) (x3 : Int32) (x4 : Int32)  (G : GS) {a : (Int32 × GS) ⊕ ((Int32 × GS) ⊕ (GS))} (h : fX2_continues_93 t x1 x2 x3 x4  G = some a) (hk : (zcase (fun s : Int32 × GS => J mX2_continues F s.2 64 [(0, vR (some t)), (1, vR x1), (2, vI x2), (3, vI x3), (4, vI s.1)] []) ((zcase (fun s : Int32 × GS => J mX2_continues F s.2 43 [(0, vR (some t)), (1, vR x1), (2, vI x2), (3, vI s.1)] []) (zKV F)))) a) : J mX2_continues F G 93 [(0, vR (some t)), (1, vR x1), (2, vI x2), (3, vI x3), (4, vI x4)] [] := by
  unfold fX2_continues_93 at h
  refine j_iinc (j := 4) (v := (x4 + 1)) (lv' := [(4, vI (x4 + 1)), (0, vR (some t)), (1, vR x1), (2, vI x2), (3, vI x3)]) dX2_continues_93 rfl rfl (Nat.le_of_ble_eq_true rfl) rfl ?_
  refine j_goto (tgt := 64) dX2_continues_96 (by decide) ?_
  obtain rfl := Option.some.inj h
  exact J.sub (zall [1, 2, 3, 4, 0] rfl) hk
def fbX2_continues_64 (t : Nat) (x1 : Option Nat) (x2 : Int32) (x3 : Int32) (x4 : Int32)  (G : GS) : Option ((Int32 × GS) ⊕ ((Int32 × GS) ⊕ (GS))) :=
  if 183 ≤ x4 then (zo (fX2_continues_99 t x1 x2 x3 G)) else (x1.bind fun a2 => (zaI G 52 a2 (x2 + x4)).bind fun v4 => if v4 = 0 then (fX2_continues_93 t (some a2) x2 x3 x4 G) else ((zgR G 2 t 18).bind fun r7 => (fX2_joined_0 x3 x4 G).bind fun v10 => r7.bind fun a11 => (zsZ G 52 a11 v10 1).bind fun G13 => fX2_continues_93 t (some a2) x2 x3 x4 G13))
def flX2_continues_64 (t : Nat) (x1 : Option Nat) (x2 : Int32) (x3 : Int32) (x4 : Int32) (G : GS) : Option ((Int32 × GS) ⊕ (GS)) := zloop (fun s : Int32 × GS => fbX2_continues_64 t x1 x2 x3 s.1 s.2) (x4, G)
theorem wfbX2_continues_64 {F : zF} (hd : 3 ≤ F.2.2.2) (t : Nat) (x1 : Option Nat) (x2 : Int32) (x3 : Int32) (x4 : Int32) (G : GS) {a : (Int32 × GS) ⊕ ((Int32 × GS) ⊕ (GS))} (h : fbX2_continues_64 t x1 x2 x3 x4 G = some a) (hk : (zcase (fun s : Int32 × GS => J mX2_continues F s.2 64 [(0, vR (some t)), (1, vR x1), (2, vI x2), (3, vI x3), (4, vI s.1)] []) ((zcase (fun s : Int32 × GS => J mX2_continues F s.2 43 [(0, vR (some t)), (1, vR x1), (2, vI x2), (3, vI s.1)] []) (zKV F)))) a) : J mX2_continues F G 64 [(0, vR (some t)), (1, vR x1), (2, vI x2), (3, vI x3), (4, vI x4)] [] := by
  unfold fbX2_continues_64 at h
  refine j_iload (j := 4) dX2_continues_64 rfl ?_
  refine j_sipush (v := 183) dX2_continues_66 (by decide) ?_
  refine j_icmp_ge (tgt := 99) dX2_continues_69 (by decide) (fun c1 => ?_) (fun c1 => ?_)
  · rw [if_pos c1] at h
    replace h := zoE h
    obtain ⟨a, h, rfl⟩ := h
    replace hk := hk
    exact J.sub (zall [0, 1, 2, 3] rfl) (wfX2_continues_99 hd t x1 x2 x3  G h hk)
  · rw [if_neg c1] at h
    refine j_aload_n (j := 1) dX2_continues_72 rfl rfl ?_
    refine j_iload_n (j := 2) dX2_continues_73 rfl rfl ?_
    refine j_iload (j := 4) dX2_continues_74 rfl ?_
    refine j_iadd dX2_continues_76 ?_
    replace h := zbE h
    obtain ⟨a2, e3, h⟩ := h
    subst e3
    replace h := zbE h
    obtain ⟨v4, e5, h⟩ := h
    refine j_zald rfl e5 dX2_continues_77 ?_
    refine j_if_eq (tgt := 93) dX2_continues_78 (by decide) (fun c6 => ?_) (fun c6 => ?_)
    · rw [if_pos c6] at h
      exact J.sub (zall [0, 1, 2, 3, 4] rfl) (wfX2_continues_93 hd t (some a2) x2 x3 x4  G h hk)
    · rw [if_neg c6] at h
      refine j_aload_n (j := 0) dX2_continues_81 rfl rfl ?_
      replace h := zbE h
      obtain ⟨r7, e8, h⟩ := h
      refine j_getR fgX2_47 (fun _ _ _ => rfl) dX2_continues_82 e8 ?_
      refine j_iload_n (j := 3) dX2_continues_85 rfl rfl ?_
      refine j_iload (j := 4) dX2_continues_86 rfl ?_
      replace h := zbE h
      obtain ⟨v10, e9, h⟩ := h
      refine j_cont (zrS (As := [vI x3, vI x4]) msX2_249 (yX2_joined_ok e9) (Nat.le_trans (Nat.le_of_ble_eq_true rfl) hd) rfl rfl (Nat.le_of_ble_eq_true rfl) dX2_continues_88) ?_
      refine j_iconst (v := 1) dX2_continues_91 (by decide) ?_
      replace h := zbE h
      obtain ⟨a11, e12, h⟩ := h
      subst e12
      replace h := zbE h
      obtain ⟨G13, e14, h⟩ := h
      refine j_zast e14 dX2_continues_92 ?_
      exact J.sub (zall [0, 1, 2, 3, 4] rfl) (wfX2_continues_93 hd t (some a2) x2 x3 x4  G13 h hk)
theorem wflX2_continues_64 {F : zF} (hd : 3 ≤ F.2.2.2) (t : Nat) (x1 : Option Nat) (x2 : Int32) (x3 : Int32) (x4 : Int32) (G : GS) {a : (Int32 × GS) ⊕ (GS)} (h : flX2_continues_64 t x1 x2 x3 x4 G = some a) (hk : (zcase (fun s : Int32 × GS => J mX2_continues F s.2 43 [(0, vR (some t)), (1, vR x1), (2, vI x2), (3, vI s.1)] []) (zKV F)) a) : J mX2_continues F G 64 [(0, vR (some t)), (1, vR x1), (2, vI x2), (3, vI x3), (4, vI x4)] [] := by
  unfold flX2_continues_64 at h
  exact zloop_walk (P := (fun s : Int32 × GS => J mX2_continues F s.2 64 [(0, vR (some t)), (1, vR x1), (2, vI x2), (3, vI x3), (4, vI s.1)] [])) (fun s b e hk => wfbX2_continues_64 hd t x1 x2 x3 s.1 s.2 e hk) (x4, G) _ h hk
def fbX2_continues_43 (t : Nat) (x1 : Option Nat) (x2 : Int32) (x3 : Int32)  (G : GS) : Option ((Int32 × GS) ⊕ (GS)) :=
  if 14 ≤ x3 then (zo (fX2_continues_105 t G)) else ((zgR G 2 t 17).bind fun r2 => r2.bind fun a4 => (zaI G 52 a4 x3).bind fun v6 => if v6 = 0 then (fX2_continues_99 t x1 x2 x3 G) else (flX2_continues_64 t x1 x2 x3 0 G))
def flX2_continues_43 (t : Nat) (x1 : Option Nat) (x2 : Int32) (x3 : Int32) (G : GS) : Option (GS) := zloop (fun s : Int32 × GS => fbX2_continues_43 t x1 x2 s.1 s.2) (x3, G)
theorem wfbX2_continues_43 {F : zF} (hd : 3 ≤ F.2.2.2) (t : Nat) (x1 : Option Nat) (x2 : Int32) (x3 : Int32) (G : GS) {a : (Int32 × GS) ⊕ (GS)} (h : fbX2_continues_43 t x1 x2 x3 G = some a) (hk : (zcase (fun s : Int32 × GS => J mX2_continues F s.2 43 [(0, vR (some t)), (1, vR x1), (2, vI x2), (3, vI s.1)] []) (zKV F)) a) : J mX2_continues F G 43 [(0, vR (some t)), (1, vR x1), (2, vI x2), (3, vI x3)] [] := by
  unfold fbX2_continues_43 at h
  refine j_iload_n (j := 3) dX2_continues_43 rfl rfl ?_
  refine j_bipush (v := 14) dX2_continues_44 (by decide) ?_
  refine j_icmp_ge (tgt := 105) dX2_continues_46 (by decide) (fun c1 => ?_) (fun c1 => ?_)
  · rw [if_pos c1] at h
    replace h := zoE h
    obtain ⟨a, h, rfl⟩ := h
    replace hk := hk
    exact J.sub (zall [0] rfl) (wfX2_continues_105 hd t  G h hk)
  · rw [if_neg c1] at h
    refine j_aload_n (j := 0) dX2_continues_49 rfl rfl ?_
    replace h := zbE h
    obtain ⟨r2, e3, h⟩ := h
    refine j_getR fgX2_44 (fun _ _ _ => rfl) dX2_continues_50 e3 ?_
    refine j_iload_n (j := 3) dX2_continues_53 rfl rfl ?_
    replace h := zbE h
    obtain ⟨a4, e5, h⟩ := h
    subst e5
    replace h := zbE h
    obtain ⟨v6, e7, h⟩ := h
    refine j_zald rfl e7 dX2_continues_54 ?_
    refine j_if_ne (tgt := 61) dX2_continues_55 (by decide) (fun c8 => ?_) (fun c8 => ?_)
    · rw [if_pos c8] at h
      refine j_goto (tgt := 99) dX2_continues_58 (by decide) ?_
      exact J.sub (zall [0, 1, 2, 3] rfl) (wfX2_continues_99 hd t x1 x2 x3  G h hk)
    · rw [if_neg c8] at h
      refine j_iconst (v := 0) dX2_continues_61 (by decide) ?_
      refine j_istore (lv' := [(4, vI 0), (0, vR (some t)), (1, vR x1), (2, vI x2), (3, vI x3)]) dX2_continues_62 (Nat.le_of_ble_eq_true rfl) rfl ?_
      exact J.sub (zall [1, 2, 3, 4, 0] rfl) (wflX2_continues_64 hd t x1 x2 x3 0  G h hk)
theorem wflX2_continues_43 {F : zF} (hd : 3 ≤ F.2.2.2) (t : Nat) (x1 : Option Nat) (x2 : Int32) (x3 : Int32) (G : GS) {a : GS} (h : flX2_continues_43 t x1 x2 x3 G = some a) (hk : zKV F a) : J mX2_continues F G 43 [(0, vR (some t)), (1, vR x1), (2, vI x2), (3, vI x3)] [] := by
  unfold flX2_continues_43 at h
  exact zloop_walk (P := (fun s : Int32 × GS => J mX2_continues F s.2 43 [(0, vR (some t)), (1, vR x1), (2, vI x2), (3, vI s.1)] [])) (fun s b e hk => wfbX2_continues_43 hd t x1 x2 s.1 s.2 e hk) (x3, G) _ h hk
def fX2_continues_41 (t : Nat) (x1 : Option Nat) (x2 : Int32)  (G : GS) : Option (GS) :=
  flX2_continues_43 t x1 x2 0 G
theorem wfX2_continues_41 {F : zF} (hd : 3 ≤ F.2.2.2) (t : Nat) (x1 : Option Nat) (x2 : Int32)  (G : GS) {a : GS} (h : fX2_continues_41 t x1 x2  G = some a) (hk : zKV F a) : J mX2_continues F G 41 [(0, vR (some t)), (1, vR x1), (2, vI x2)] [] := by
  unfold fX2_continues_41 at h
  refine j_iconst (v := 0) dX2_continues_41 (by decide) ?_
  refine j_istore_n (lv' := [(3, vI 0), (0, vR (some t)), (1, vR x1), (2, vI x2)]) dX2_continues_42 rfl (Nat.le_of_ble_eq_true rfl) rfl ?_
  exact J.sub (zall [1, 2, 3, 0] rfl) (wflX2_continues_43 hd t x1 x2 0  G h hk)
def fX2_continues_34 (t : Nat) (x1 : Option Nat) (x2 : Int32) (x3 : Int32) (s0 : Option Nat) (s1 : Int32) (s2 : Int32) (G : GS) : Option ((Int32 × GS) ⊕ (GS)) :=
  s0.bind fun a1 => (zsZ G 52 a1 s1 s2).bind fun G3 => some (.inl ((x3 + 1), G3))
theorem wfX2_continues_34 {F : zF} (hd : 3 ≤ F.2.2.2) (t : Nat) (x1 : Option Nat) (x2 : Int32) (x3 : Int32) (s0 : Option Nat) (s1 : Int32) (s2 : Int32) (G : GS) {a : (Int32 × GS) ⊕ (GS)} (h : fX2_continues_34 t x1 x2 x3 s0 s1 s2 G = some a) (hk : (zcase (fun s : Int32 × GS => J mX2_continues F s.2 2 [(0, vR (some t)), (1, vR x1), (2, vI x2), (3, vI s.1)] []) (zKV F)) a) : J mX2_continues F G 34 [(0, vR (some t)), (1, vR x1), (2, vI x2), (3, vI x3)] [vI s2, vI s1, vR s0] := by
  unfold fX2_continues_34 at h
  replace h := zbE h
  obtain ⟨a1, e2, h⟩ := h
  subst e2
  replace h := zbE h
  obtain ⟨G3, e4, h⟩ := h
  refine j_zast e4 dX2_continues_34 ?_
  refine j_iinc (j := 3) (v := (x3 + 1)) (lv' := [(3, vI (x3 + 1)), (0, vR (some t)), (1, vR x1), (2, vI x2)]) dX2_continues_35 rfl rfl (Nat.le_of_ble_eq_true rfl) rfl ?_
  refine j_goto (tgt := 2) dX2_continues_38 (by decide) ?_
  obtain rfl := Option.some.inj h
  exact J.sub (zall [1, 2, 3, 0] rfl) hk
def fX2_continues_33 (t : Nat) (x1 : Option Nat) (x2 : Int32) (x3 : Int32) (s0 : Option Nat) (s1 : Int32) (G : GS) : Option ((Int32 × GS) ⊕ (GS)) :=
  fX2_continues_34 t x1 x2 x3 s0 s1 0 G
theorem wfX2_continues_33 {F : zF} (hd : 3 ≤ F.2.2.2) (t : Nat) (x1 : Option Nat) (x2 : Int32) (x3 : Int32) (s0 : Option Nat) (s1 : Int32) (G : GS) {a : (Int32 × GS) ⊕ (GS)} (h : fX2_continues_33 t x1 x2 x3 s0 s1 G = some a) (hk : (zcase (fun s : Int32 × GS => J mX2_continues F s.2 2 [(0, vR (some t)), (1, vR x1), (2, vI x2), (3, vI s.1)] []) (zKV F)) a) : J mX2_continues F G 33 [(0, vR (some t)), (1, vR x1), (2, vI x2), (3, vI x3)] [vI s1, vR s0] := by
  unfold fX2_continues_33 at h
  refine j_iconst (v := 0) dX2_continues_33 (by decide) ?_
  exact J.sub (zall [0, 1, 2, 3] rfl) (wfX2_continues_34 hd t x1 x2 x3 s0 s1 0 G h hk)
def fbX2_continues_2 (t : Nat) (x1 : Option Nat) (x2 : Int32) (x3 : Int32)  (G : GS) : Option ((Int32 × GS) ⊕ (GS)) :=
  if 183 ≤ x3 then (zo (fX2_continues_41 t x1 x2 G)) else ((zgR G 2 t 18).bind fun r2 => if x3 < 14 then (fX2_continues_33 t x1 x2 x3 r2 x3 G) else ((zgR G 2 t 17).bind fun r5 => r5.bind fun a7 => (zaI G 52 a7 x3).bind fun v9 => if v9 = 0 then (fX2_continues_33 t x1 x2 x3 r2 x3 G) else (fX2_continues_34 t x1 x2 x3 r2 x3 1 G)))
def flX2_continues_2 (t : Nat) (x1 : Option Nat) (x2 : Int32) (x3 : Int32) (G : GS) : Option (GS) := zloop (fun s : Int32 × GS => fbX2_continues_2 t x1 x2 s.1 s.2) (x3, G)
theorem wfbX2_continues_2 {F : zF} (hd : 3 ≤ F.2.2.2) (t : Nat) (x1 : Option Nat) (x2 : Int32) (x3 : Int32) (G : GS) {a : (Int32 × GS) ⊕ (GS)} (h : fbX2_continues_2 t x1 x2 x3 G = some a) (hk : (zcase (fun s : Int32 × GS => J mX2_continues F s.2 2 [(0, vR (some t)), (1, vR x1), (2, vI x2), (3, vI s.1)] []) (zKV F)) a) : J mX2_continues F G 2 [(0, vR (some t)), (1, vR x1), (2, vI x2), (3, vI x3)] [] := by
  unfold fbX2_continues_2 at h
  refine j_iload_n (j := 3) dX2_continues_2 rfl rfl ?_
  refine j_sipush (v := 183) dX2_continues_3 (by decide) ?_
  refine j_icmp_ge (tgt := 41) dX2_continues_6 (by decide) (fun c1 => ?_) (fun c1 => ?_)
  · rw [if_pos c1] at h
    replace h := zoE h
    obtain ⟨a, h, rfl⟩ := h
    replace hk := hk
    exact J.sub (zall [0, 1, 2] rfl) (wfX2_continues_41 hd t x1 x2  G h hk)
  · rw [if_neg c1] at h
    refine j_aload_n (j := 0) dX2_continues_9 rfl rfl ?_
    replace h := zbE h
    obtain ⟨r2, e3, h⟩ := h
    refine j_getR fgX2_47 (fun _ _ _ => rfl) dX2_continues_10 e3 ?_
    refine j_iload_n (j := 3) dX2_continues_13 rfl rfl ?_
    refine j_iload_n (j := 3) dX2_continues_14 rfl rfl ?_
    refine j_bipush (v := 14) dX2_continues_15 (by decide) ?_
    refine j_icmp_lt (tgt := 33) dX2_continues_17 (by decide) (fun c4 => ?_) (fun c4 => ?_)
    · rw [if_pos c4] at h
      exact J.sub (zall [0, 1, 2, 3] rfl) (wfX2_continues_33 hd t x1 x2 x3 r2 x3 G h hk)
    · rw [if_neg c4] at h
      refine j_aload_n (j := 0) dX2_continues_20 rfl rfl ?_
      replace h := zbE h
      obtain ⟨r5, e6, h⟩ := h
      refine j_getR fgX2_44 (fun _ _ _ => rfl) dX2_continues_21 e6 ?_
      refine j_iload_n (j := 3) dX2_continues_24 rfl rfl ?_
      replace h := zbE h
      obtain ⟨a7, e8, h⟩ := h
      subst e8
      replace h := zbE h
      obtain ⟨v9, e10, h⟩ := h
      refine j_zald rfl e10 dX2_continues_25 ?_
      refine j_if_eq (tgt := 33) dX2_continues_26 (by decide) (fun c11 => ?_) (fun c11 => ?_)
      · rw [if_pos c11] at h
        exact J.sub (zall [0, 1, 2, 3] rfl) (wfX2_continues_33 hd t x1 x2 x3 r2 x3 G h hk)
      · rw [if_neg c11] at h
        refine j_iconst (v := 1) dX2_continues_29 (by decide) ?_
        refine j_goto (tgt := 34) dX2_continues_30 (by decide) ?_
        exact J.sub (zall [0, 1, 2, 3] rfl) (wfX2_continues_34 hd t x1 x2 x3 r2 x3 1 G h hk)
theorem wflX2_continues_2 {F : zF} (hd : 3 ≤ F.2.2.2) (t : Nat) (x1 : Option Nat) (x2 : Int32) (x3 : Int32) (G : GS) {a : GS} (h : flX2_continues_2 t x1 x2 x3 G = some a) (hk : zKV F a) : J mX2_continues F G 2 [(0, vR (some t)), (1, vR x1), (2, vI x2), (3, vI x3)] [] := by
  unfold flX2_continues_2 at h
  exact zloop_walk (P := (fun s : Int32 × GS => J mX2_continues F s.2 2 [(0, vR (some t)), (1, vR x1), (2, vI x2), (3, vI s.1)] [])) (fun s b e hk => wfbX2_continues_2 hd t x1 x2 s.1 s.2 e hk) (x3, G) _ h hk
def fX2_continues_0 (t : Nat) (x1 : Option Nat) (x2 : Int32)  (G : GS) : Option (GS) :=
  flX2_continues_2 t x1 x2 0 G
theorem wfX2_continues_0 {F : zF} (hd : 3 ≤ F.2.2.2) (t : Nat) (x1 : Option Nat) (x2 : Int32)  (G : GS) {a : GS} (h : fX2_continues_0 t x1 x2  G = some a) (hk : zKV F a) : J mX2_continues F G 0 [(0, vR (some t)), (1, vR x1), (2, vI x2)] [] := by
  unfold fX2_continues_0 at h
  refine j_iconst (v := 0) dX2_continues_0 (by decide) ?_
  refine j_istore_n (lv' := [(3, vI 0), (0, vR (some t)), (1, vR x1), (2, vI x2)]) dX2_continues_1 rfl (Nat.le_of_ble_eq_true rfl) rfl ?_
  exact J.sub (zall [1, 2, 3, 0] rfl) (wflX2_continues_2 hd t x1 x2 0  G h hk)
theorem yX2_continues_ok {t : Nat} {x1 : Option Nat} {x2 : Int32} {G : GS} {G1 : GS} (h : fX2_continues_0 t x1 x2 G = some G1) : zRuns yX2_continues (ws_ yX2_continues cX2_continues 5 none) [vR (some t), vR x1, vI x2] (.inl none, G, G1, 3) :=
  zentry (M := mX2_continues) (plainFor_of_name (by decide +kernel)) ⟨rfl, rfl, rfl, rfl⟩ (Nat.le_of_ble_eq_true rfl) (wfX2_continues_0 (Nat.le_refl _) t x1 x2 G h ⟨rfl, rfl⟩)
theorem fgX2_37 : zFG RX2 37 1 15 (.array (.boolean)) := ⟨(RX2, TX2, 42, tyX2), rfl, by decide, in_X2, rfl, "SelahGeneratorModel", Or.inl rfl, Or.inl q2687⟩
theorem msX2_252 : zSV RX2 252 RX2 yX2_continuesByToken cX2_continuesByToken 3 none 1 := ⟨lw_V q3014 q3016 qs86 q131 q3017, (by decide +kernel), (by decide)⟩
theorem msX2_255 : zSV RX2 255 RX2 yX2_continues cX2_continues 5 none 2 := ⟨lw_V q3021 q3023 qs87 q131 q3024, (by decide +kernel), (by decide)⟩
abbrev mX2_firstsFrom : zM := (cX2_firstsFrom, RX2, 5, none, "firstsFrom", [], "(II)V")
def fX2_firstsFrom_84 (t : Nat) (x1 : Int32) (x3 : Int32)  (G : GS) : Option ((Int32 × GS) ⊕ (GS)) :=
  some (.inl ((x3 + 1), G))
theorem wfX2_firstsFrom_84 {F : zF} (hd : 4 ≤ F.2.2.2) (t : Nat) (x1 : Int32) (x3 : Int32)  (G : GS) {a : (Int32 × GS) ⊕ (GS)} (h : fX2_firstsFrom_84 t x1 x3  G = some a) (hk : (zcase (fun s : Int32 × GS => J mX2_firstsFrom F s.2 32 [(0, vR (some t)), (1, vI x1), (3, vI s.1)] []) (zKV F)) a) : J mX2_firstsFrom F G 84 [(0, vR (some t)), (1, vI x1), (3, vI x3)] [] := by
  unfold fX2_firstsFrom_84 at h
  refine j_iinc (j := 2) (v := (x3 + 1)) (lv' := [(3, vI (x3 + 1)), (0, vR (some t)), (1, vI x1)]) dX2_firstsFrom_84 rfl rfl (Nat.le_of_ble_eq_true rfl) rfl ?_
  refine j_goto (tgt := 32) dX2_firstsFrom_87 (by decide) ?_
  obtain rfl := Option.some.inj h
  exact J.sub (zall [1, 2, 0] rfl) hk
def fbX2_firstsFrom_32 (t : Nat) (x1 : Int32) (x3 : Int32)  (G : GS) : Option ((Int32 × GS) ⊕ (GS)) :=
  (zgR G 2 t 1).bind fun r1 => r1.bind fun a3 => (zaI G 50 a3 x1).bind fun v5 => if v5 ≤ x3 then (zo (some G)) else (zk [2] G t <| (fX2_at_0 t x1 x3 G).bind fun v10 => (fX2_isTerminal_0 v10 G).bind fun v12 => if v12 = 0 then ((zgR G 2 t 15).bind fun r14 => zk [2] G t <| (fX2_continues_0 t r14 (183 * (v10 - 20)) G).bind fun G18 => fX2_firstsFrom_84 t x1 x3 G18) else (zk [2] G t <| (fX2_continuesByToken_0 t v10 G).bind fun G21 => fX2_firstsFrom_84 t x1 x3 G21))
def flX2_firstsFrom_32 (t : Nat) (x1 : Int32) (x3 : Int32) (G : GS) : Option (GS) := zloop (fun s : Int32 × GS => fbX2_firstsFrom_32 t x1 s.1 s.2) (x3, G)
theorem wfbX2_firstsFrom_32 {F : zF} (hd : 4 ≤ F.2.2.2) (t : Nat) (x1 : Int32) (x3 : Int32) (G : GS) {a : (Int32 × GS) ⊕ (GS)} (h : fbX2_firstsFrom_32 t x1 x3 G = some a) (hk : (zcase (fun s : Int32 × GS => J mX2_firstsFrom F s.2 32 [(0, vR (some t)), (1, vI x1), (3, vI s.1)] []) (zKV F)) a) : J mX2_firstsFrom F G 32 [(0, vR (some t)), (1, vI x1), (3, vI x3)] [] := by
  unfold fbX2_firstsFrom_32 at h
  refine j_iload_n (j := 2) dX2_firstsFrom_32 rfl rfl ?_
  refine j_aload_n (j := 0) dX2_firstsFrom_33 rfl rfl ?_
  replace h := zbE h
  obtain ⟨r1, e2, h⟩ := h
  refine j_getR fgX2_13 (fun _ _ _ => rfl) dX2_firstsFrom_34 e2 ?_
  refine j_iload_n (j := 1) dX2_firstsFrom_37 rfl rfl ?_
  replace h := zbE h
  obtain ⟨a3, e4, h⟩ := h
  subst e4
  replace h := zbE h
  obtain ⟨v5, e6, h⟩ := h
  refine j_iald (Or.inl rfl) e6 dX2_firstsFrom_38 ?_
  refine j_icmp_ge (tgt := 90) dX2_firstsFrom_39 (by decide) (fun c7 => ?_) (fun c7 => ?_)
  · rw [if_pos c7] at h
    replace h := zoE h
    obtain ⟨a, h, rfl⟩ := h
    replace hk := hk
    obtain rfl := Option.some.inj h
    exact j_vret hk.1 hk.2 rfl dX2_firstsFrom_90
  · rw [if_neg c7] at h
    refine j_aload_n (j := 0) dX2_firstsFrom_42 rfl rfl ?_
    refine j_iload_n (j := 1) dX2_firstsFrom_43 rfl rfl ?_
    refine j_iload_n (j := 2) dX2_firstsFrom_44 rfl rfl ?_
    replace h := zkE h
    obtain ⟨e8, h⟩ := h
    replace h := zbE h
    obtain ⟨v10, e9, h⟩ := h
    refine j_cont (zrV (As := [vI x1, vI x3]) msX2_187 (yX2_at_ok e9) (Nat.le_trans (Nat.le_of_ble_eq_true rfl) hd) (zk_2 _ e8) rfl rfl (Nat.le_of_ble_eq_true rfl) dX2_firstsFrom_45) ?_
    refine j_istore (lv' := [(4, vI v10), (0, vR (some t)), (1, vI x1), (3, vI x3)]) dX2_firstsFrom_48 (Nat.le_of_ble_eq_true rfl) rfl ?_
    refine j_iload (j := 0) dX2_firstsFrom_50 rfl ?_
    replace h := zbE h
    obtain ⟨v12, e11, h⟩ := h
    refine j_cont (zrS (As := [vI v10]) msX2_167 (yX2_isTerminal_ok e11) (Nat.le_trans (Nat.le_of_ble_eq_true rfl) hd) rfl rfl (Nat.le_of_ble_eq_true rfl) dX2_firstsFrom_52) ?_
    refine j_if_eq (tgt := 67) dX2_firstsFrom_55 (by decide) (fun c13 => ?_) (fun c13 => ?_)
    · rw [if_pos c13] at h
      refine j_aload_n (j := 1) dX2_firstsFrom_67 rfl rfl ?_
      refine j_aload_n (j := 1) dX2_firstsFrom_68 rfl rfl ?_
      replace h := zbE h
      obtain ⟨r14, e15, h⟩ := h
      refine j_getR fgX2_37 (fun _ _ _ => rfl) dX2_firstsFrom_69 e15 ?_
      refine j_sipush (v := 183) dX2_firstsFrom_72 (by decide) ?_
      refine j_iload (j := 0) dX2_firstsFrom_75 rfl ?_
      refine j_bipush (v := 20) dX2_firstsFrom_77 (by decide) ?_
      refine j_isub dX2_firstsFrom_79 ?_
      refine j_imul dX2_firstsFrom_80 ?_
      replace h := zkE h
      obtain ⟨e16, h⟩ := h
      replace h := zbE h
      obtain ⟨G18, e17, h⟩ := h
      refine j_cont (zrV (As := [vR r14, vI (183 * (v10 - 20))]) msX2_255 (yX2_continues_ok e17) (Nat.le_trans (Nat.le_of_ble_eq_true rfl) hd) (zk_2 _ e16) rfl rfl (Nat.le_of_ble_eq_true rfl) dX2_firstsFrom_81) ?_
      exact J.sub (zall [1, 2, 3] rfl) (wfX2_firstsFrom_84 hd t x1 x3  G18 h hk)
    · rw [if_neg c13] at h
      refine j_aload_n (j := 1) dX2_firstsFrom_58 rfl rfl ?_
      refine j_iload (j := 0) dX2_firstsFrom_59 rfl ?_
      replace h := zkE h
      obtain ⟨e19, h⟩ := h
      replace h := zbE h
      obtain ⟨G21, e20, h⟩ := h
      refine j_cont (zrV (As := [vI v10]) msX2_252 (yX2_continuesByToken_ok e20) (Nat.le_trans (Nat.le_of_ble_eq_true rfl) hd) (zk_2 _ e19) rfl rfl (Nat.le_of_ble_eq_true rfl) dX2_firstsFrom_61) ?_
      refine j_goto (tgt := 84) dX2_firstsFrom_64 (by decide) ?_
      exact J.sub (zall [1, 2, 3] rfl) (wfX2_firstsFrom_84 hd t x1 x3  G21 h hk)
theorem wflX2_firstsFrom_32 {F : zF} (hd : 4 ≤ F.2.2.2) (t : Nat) (x1 : Int32) (x3 : Int32) (G : GS) {a : GS} (h : flX2_firstsFrom_32 t x1 x3 G = some a) (hk : zKV F a) : J mX2_firstsFrom F G 32 [(0, vR (some t)), (1, vI x1), (3, vI x3)] [] := by
  unfold flX2_firstsFrom_32 at h
  exact zloop_walk (P := (fun s : Int32 × GS => J mX2_firstsFrom F s.2 32 [(0, vR (some t)), (1, vI x1), (3, vI s.1)] [])) (fun s b e hk => wfbX2_firstsFrom_32 hd t x1 s.1 s.2 e hk) (x3, G) _ h hk
def fX2_firstsFrom_30 (t : Nat) (x1 : Int32) (x2 : Int32)  (G : GS) : Option (GS) :=
  flX2_firstsFrom_32 t x1 x2 G
theorem wfX2_firstsFrom_30 {F : zF} (hd : 4 ≤ F.2.2.2) (t : Nat) (x1 : Int32) (x2 : Int32)  (G : GS) {a : GS} (h : fX2_firstsFrom_30 t x1 x2  G = some a) (hk : zKV F a) : J mX2_firstsFrom F G 30 [(0, vR (some t)), (1, vI x1), (2, vI x2)] [] := by
  unfold fX2_firstsFrom_30 at h
  refine j_iload_n (j := 2) dX2_firstsFrom_30 rfl rfl ?_
  refine j_istore_n (lv' := [(3, vI x2), (0, vR (some t)), (1, vI x1), (2, vI x2)]) dX2_firstsFrom_31 rfl (Nat.le_of_ble_eq_true rfl) rfl ?_
  exact J.sub (zall [1, 2, 0] rfl) (wflX2_firstsFrom_32 hd t x1 x2  G h hk)
def fX2_firstsFrom_23 (t : Nat) (x1 : Int32) (x2 : Int32) (x3 : Int32) (s0 : Option Nat) (s1 : Int32) (s2 : Int32) (G : GS) : Option ((Int32 × GS) ⊕ (GS)) :=
  s0.bind fun a1 => (zsZ G 52 a1 s1 s2).bind fun G3 => some (.inl ((x3 + 1), G3))
theorem wfX2_firstsFrom_23 {F : zF} (hd : 4 ≤ F.2.2.2) (t : Nat) (x1 : Int32) (x2 : Int32) (x3 : Int32) (s0 : Option Nat) (s1 : Int32) (s2 : Int32) (G : GS) {a : (Int32 × GS) ⊕ (GS)} (h : fX2_firstsFrom_23 t x1 x2 x3 s0 s1 s2 G = some a) (hk : (zcase (fun s : Int32 × GS => J mX2_firstsFrom F s.2 2 [(0, vR (some t)), (1, vI x1), (2, vI x2), (3, vI s.1)] []) (zKV F)) a) : J mX2_firstsFrom F G 23 [(0, vR (some t)), (1, vI x1), (2, vI x2), (3, vI x3)] [vI s2, vI s1, vR s0] := by
  unfold fX2_firstsFrom_23 at h
  replace h := zbE h
  obtain ⟨a1, e2, h⟩ := h
  subst e2
  replace h := zbE h
  obtain ⟨G3, e4, h⟩ := h
  refine j_zast e4 dX2_firstsFrom_23 ?_
  refine j_iinc (j := 3) (v := (x3 + 1)) (lv' := [(3, vI (x3 + 1)), (0, vR (some t)), (1, vI x1), (2, vI x2)]) dX2_firstsFrom_24 rfl rfl (Nat.le_of_ble_eq_true rfl) rfl ?_
  refine j_goto (tgt := 2) dX2_firstsFrom_27 (by decide) ?_
  obtain rfl := Option.some.inj h
  exact J.sub (zall [1, 2, 3, 0] rfl) hk
def fbX2_firstsFrom_2 (t : Nat) (x1 : Int32) (x2 : Int32) (x3 : Int32)  (G : GS) : Option ((Int32 × GS) ⊕ (GS)) :=
  if 183 ≤ x3 then (zo (fX2_firstsFrom_30 t x1 x2 G)) else ((zgR G 2 t 17).bind fun r2 => if x3 = 0 then (fX2_firstsFrom_23 t x1 x2 x3 r2 x3 1 G) else (fX2_firstsFrom_23 t x1 x2 x3 r2 x3 0 G))
def flX2_firstsFrom_2 (t : Nat) (x1 : Int32) (x2 : Int32) (x3 : Int32) (G : GS) : Option (GS) := zloop (fun s : Int32 × GS => fbX2_firstsFrom_2 t x1 x2 s.1 s.2) (x3, G)
theorem wfbX2_firstsFrom_2 {F : zF} (hd : 4 ≤ F.2.2.2) (t : Nat) (x1 : Int32) (x2 : Int32) (x3 : Int32) (G : GS) {a : (Int32 × GS) ⊕ (GS)} (h : fbX2_firstsFrom_2 t x1 x2 x3 G = some a) (hk : (zcase (fun s : Int32 × GS => J mX2_firstsFrom F s.2 2 [(0, vR (some t)), (1, vI x1), (2, vI x2), (3, vI s.1)] []) (zKV F)) a) : J mX2_firstsFrom F G 2 [(0, vR (some t)), (1, vI x1), (2, vI x2), (3, vI x3)] [] := by
  unfold fbX2_firstsFrom_2 at h
  refine j_iload_n (j := 3) dX2_firstsFrom_2 rfl rfl ?_
  refine j_sipush (v := 183) dX2_firstsFrom_3 (by decide) ?_
  refine j_icmp_ge (tgt := 30) dX2_firstsFrom_6 (by decide) (fun c1 => ?_) (fun c1 => ?_)
  · rw [if_pos c1] at h
    replace h := zoE h
    obtain ⟨a, h, rfl⟩ := h
    replace hk := hk
    exact J.sub (zall [0, 1, 2] rfl) (wfX2_firstsFrom_30 hd t x1 x2  G h hk)
  · rw [if_neg c1] at h
    refine j_aload_n (j := 0) dX2_firstsFrom_9 rfl rfl ?_
    replace h := zbE h
    obtain ⟨r2, e3, h⟩ := h
    refine j_getR fgX2_44 (fun _ _ _ => rfl) dX2_firstsFrom_10 e3 ?_
    refine j_iload_n (j := 3) dX2_firstsFrom_13 rfl rfl ?_
    refine j_iload_n (j := 3) dX2_firstsFrom_14 rfl rfl ?_
    refine j_if_ne (tgt := 22) dX2_firstsFrom_15 (by decide) (fun c4 => ?_) (fun c4 => ?_)
    · rw [if_pos c4] at h
      refine j_iconst (v := 1) dX2_firstsFrom_18 (by decide) ?_
      refine j_goto (tgt := 23) dX2_firstsFrom_19 (by decide) ?_
      exact J.sub (zall [0, 1, 2, 3] rfl) (wfX2_firstsFrom_23 hd t x1 x2 x3 r2 x3 1 G h hk)
    · rw [if_neg c4] at h
      refine j_iconst (v := 0) dX2_firstsFrom_22 (by decide) ?_
      exact J.sub (zall [0, 1, 2, 3] rfl) (wfX2_firstsFrom_23 hd t x1 x2 x3 r2 x3 0 G h hk)
theorem wflX2_firstsFrom_2 {F : zF} (hd : 4 ≤ F.2.2.2) (t : Nat) (x1 : Int32) (x2 : Int32) (x3 : Int32) (G : GS) {a : GS} (h : flX2_firstsFrom_2 t x1 x2 x3 G = some a) (hk : zKV F a) : J mX2_firstsFrom F G 2 [(0, vR (some t)), (1, vI x1), (2, vI x2), (3, vI x3)] [] := by
  unfold flX2_firstsFrom_2 at h
  exact zloop_walk (P := (fun s : Int32 × GS => J mX2_firstsFrom F s.2 2 [(0, vR (some t)), (1, vI x1), (2, vI x2), (3, vI s.1)] [])) (fun s b e hk => wfbX2_firstsFrom_2 hd t x1 x2 s.1 s.2 e hk) (x3, G) _ h hk
def fX2_firstsFrom_0 (t : Nat) (x1 : Int32) (x2 : Int32)  (G : GS) : Option (GS) :=
  flX2_firstsFrom_2 t x1 x2 0 G
theorem wfX2_firstsFrom_0 {F : zF} (hd : 4 ≤ F.2.2.2) (t : Nat) (x1 : Int32) (x2 : Int32)  (G : GS) {a : GS} (h : fX2_firstsFrom_0 t x1 x2  G = some a) (hk : zKV F a) : J mX2_firstsFrom F G 0 [(0, vR (some t)), (1, vI x1), (2, vI x2)] [] := by
  unfold fX2_firstsFrom_0 at h
  refine j_iconst (v := 0) dX2_firstsFrom_0 (by decide) ?_
  refine j_istore_n (lv' := [(3, vI 0), (0, vR (some t)), (1, vI x1), (2, vI x2)]) dX2_firstsFrom_1 rfl (Nat.le_of_ble_eq_true rfl) rfl ?_
  exact J.sub (zall [1, 2, 3, 0] rfl) (wflX2_firstsFrom_2 hd t x1 x2 0  G h hk)
theorem yX2_firstsFrom_ok {t : Nat} {x1 : Int32} {x2 : Int32} {G : GS} {G1 : GS} (h : fX2_firstsFrom_0 t x1 x2 G = some G1) : zRuns yX2_firstsFrom (ws_ yX2_firstsFrom cX2_firstsFrom 5 none) [vR (some t), vI x1, vI x2] (.inl none, G, G1, 4) :=
  zentry (M := mX2_firstsFrom) (plainFor_of_name (by decide +kernel)) ⟨rfl, rfl, rfl, rfl⟩ (Nat.le_of_ble_eq_true rfl) (wfX2_firstsFrom_0 (Nat.le_refl _) t x1 x2 G h ⟨rfl, rfl⟩)
theorem msX2_259 : zSV RX2 259 RX2 yX2_firstsFrom cX2_firstsFrom 5 none 2 := ⟨lw_V q3010 q3012 qs85 q131 q3013, (by decide +kernel), (by decide)⟩
theorem msX2_262 : zSV RX2 262 RX2 yX2_adds cX2_adds 6 (some Jvm.ClassFile.FieldType.boolean) 3 := ⟨lw_V q3025 q3027 qs88 q131 q3028, (by decide +kernel), (by decide)⟩
abbrev mX2_addsFirsts : zM := (cX2_addsFirsts, RX2, 4, (some Jvm.ClassFile.FieldType.boolean), "addsFirsts", [], "()Z")
def fX2_addsFirsts_54 (t : Nat) (x2 : Int32) (s0 : Int32) (G : GS) : Option ((Int32 × Int32 × GS) ⊕ ((Int32) × GS)) :=
  some (.inl (s0, (x2 + 1), G))
theorem wfX2_addsFirsts_54 {F : zF} (hd : 5 ≤ F.2.2.2) (t : Nat) (x2 : Int32) (s0 : Int32) (G : GS) {a : (Int32 × Int32 × GS) ⊕ ((Int32) × GS)} (h : fX2_addsFirsts_54 t x2 s0 G = some a) (hk : (zcase (fun s : Int32 × Int32 × GS => J mX2_addsFirsts F s.2.2 4 [(0, vR (some t)), (1, vI s.1), (2, vI s.2.1)] []) (zKI F)) a) : J mX2_addsFirsts F G 54 [(0, vR (some t)), (2, vI x2)] [vI s0] := by
  unfold fX2_addsFirsts_54 at h
  refine j_istore_n (lv' := [(1, vI s0), (0, vR (some t)), (2, vI x2)]) dX2_addsFirsts_54 rfl (Nat.le_of_ble_eq_true rfl) rfl ?_
  refine j_iinc (j := 2) (v := (x2 + 1)) (lv' := [(2, vI (x2 + 1)), (1, vI s0), (0, vR (some t))]) dX2_addsFirsts_55 rfl rfl (Nat.le_of_ble_eq_true rfl) rfl ?_
  refine j_goto (tgt := 4) dX2_addsFirsts_58 (by decide) ?_
  obtain rfl := Option.some.inj h
  exact J.sub (zall [2, 1, 0] rfl) hk
def fX2_addsFirsts_49 (t : Nat) (x2 : Int32)  (G : GS) : Option ((Int32 × Int32 × GS) ⊕ ((Int32) × GS)) :=
  fX2_addsFirsts_54 t x2 1 G
theorem wfX2_addsFirsts_49 {F : zF} (hd : 5 ≤ F.2.2.2) (t : Nat) (x2 : Int32)  (G : GS) {a : (Int32 × Int32 × GS) ⊕ ((Int32) × GS)} (h : fX2_addsFirsts_49 t x2  G = some a) (hk : (zcase (fun s : Int32 × Int32 × GS => J mX2_addsFirsts F s.2.2 4 [(0, vR (some t)), (1, vI s.1), (2, vI s.2.1)] []) (zKI F)) a) : J mX2_addsFirsts F G 49 [(0, vR (some t)), (2, vI x2)] [] := by
  unfold fX2_addsFirsts_49 at h
  refine j_iconst (v := 1) dX2_addsFirsts_49 (by decide) ?_
  refine j_goto (tgt := 54) dX2_addsFirsts_50 (by decide) ?_
  exact J.sub (zall [0, 1] rfl) (wfX2_addsFirsts_54 hd t x2 1 G h hk)
def fbX2_addsFirsts_4 (t : Nat) (x1 : Int32) (x2 : Int32)  (G : GS) : Option ((Int32 × Int32 × GS) ⊕ ((Int32) × GS)) :=
  (zgI G 2 t 6).bind fun v1 => if v1 ≤ x2 then (zo (zcond (zbb x1) (some (x1, G)))) else (zk [2] G t <| (fX2_firstsFrom_0 t x2 0 G).bind fun G7 => (zgR G7 2 t 15).bind fun r8 => (zgR G7 2 t 0).bind fun r10 => r10.bind fun a12 => (zaI G7 50 a12 x2).bind fun v14 => zk [2] G7 t <| zb2 (fX2_adds_0 t r8 (183 * (v14 - 20)) 0 G7) fun v18 G19 => if x1 = 0 then (if v18 = 0 then (fX2_addsFirsts_54 t x2 0 G19) else (fX2_addsFirsts_49 t x2 G19)) else (fX2_addsFirsts_49 t x2 G19))
def flX2_addsFirsts_4 (t : Nat) (x1 : Int32) (x2 : Int32) (G : GS) : Option ((Int32) × GS) := zloop (fun s : Int32 × Int32 × GS => fbX2_addsFirsts_4 t s.1 s.2.1 s.2.2) (x1, x2, G)
theorem wfbX2_addsFirsts_4 {F : zF} (hd : 5 ≤ F.2.2.2) (t : Nat) (x1 : Int32) (x2 : Int32) (G : GS) {a : (Int32 × Int32 × GS) ⊕ ((Int32) × GS)} (h : fbX2_addsFirsts_4 t x1 x2 G = some a) (hk : (zcase (fun s : Int32 × Int32 × GS => J mX2_addsFirsts F s.2.2 4 [(0, vR (some t)), (1, vI s.1), (2, vI s.2.1)] []) (zKI F)) a) : J mX2_addsFirsts F G 4 [(0, vR (some t)), (1, vI x1), (2, vI x2)] [] := by
  unfold fbX2_addsFirsts_4 at h
  refine j_iload_n (j := 2) dX2_addsFirsts_4 rfl rfl ?_
  refine j_aload_n (j := 0) dX2_addsFirsts_5 rfl rfl ?_
  replace h := zbE h
  obtain ⟨v1, e2, h⟩ := h
  refine j_getI fgX2_113 (fun _ _ _ => rfl) dX2_addsFirsts_6 e2 ?_
  refine j_icmp_ge (tgt := 61) dX2_addsFirsts_9 (by decide) (fun c3 => ?_) (fun c3 => ?_)
  · rw [if_pos c3] at h
    replace h := zoE h
    obtain ⟨a, h, rfl⟩ := h
    replace hk := hk
    refine j_iload_n (j := 1) dX2_addsFirsts_61 rfl rfl ?_
    replace h := zcondE h
    obtain ⟨e4, h⟩ := h
    obtain rfl := Option.some.inj h
    exact j_zret hk.1 hk.2 rfl (zbb_n e4) dX2_addsFirsts_62
  · rw [if_neg c3] at h
    refine j_aload_n (j := 0) dX2_addsFirsts_12 rfl rfl ?_
    refine j_iload_n (j := 2) dX2_addsFirsts_13 rfl rfl ?_
    refine j_iconst (v := 0) dX2_addsFirsts_14 (by decide) ?_
    replace h := zkE h
    obtain ⟨e5, h⟩ := h
    replace h := zbE h
    obtain ⟨G7, e6, h⟩ := h
    refine j_cont (zrV (As := [vI x2, vI 0]) msX2_259 (yX2_firstsFrom_ok e6) (Nat.le_trans (Nat.le_of_ble_eq_true rfl) hd) (zk_2 _ e5) rfl rfl (Nat.le_of_ble_eq_true rfl) dX2_addsFirsts_15) ?_
    refine j_aload_n (j := 0) dX2_addsFirsts_18 rfl rfl ?_
    refine j_aload_n (j := 0) dX2_addsFirsts_19 rfl rfl ?_
    replace h := zbE h
    obtain ⟨r8, e9, h⟩ := h
    refine j_getR fgX2_37 (fun _ _ _ => rfl) dX2_addsFirsts_20 e9 ?_
    refine j_sipush (v := 183) dX2_addsFirsts_23 (by decide) ?_
    refine j_aload_n (j := 0) dX2_addsFirsts_26 rfl rfl ?_
    replace h := zbE h
    obtain ⟨r10, e11, h⟩ := h
    refine j_getR fgX2_7 (fun _ _ _ => rfl) dX2_addsFirsts_27 e11 ?_
    refine j_iload_n (j := 2) dX2_addsFirsts_30 rfl rfl ?_
    replace h := zbE h
    obtain ⟨a12, e13, h⟩ := h
    subst e13
    replace h := zbE h
    obtain ⟨v14, e15, h⟩ := h
    refine j_iald (Or.inl rfl) e15 dX2_addsFirsts_31 ?_
    refine j_bipush (v := 20) dX2_addsFirsts_32 (by decide) ?_
    refine j_isub dX2_addsFirsts_34 ?_
    refine j_imul dX2_addsFirsts_35 ?_
    refine j_iconst (v := 0) dX2_addsFirsts_36 (by decide) ?_
    replace h := zkE h
    obtain ⟨e16, h⟩ := h
    replace h := zb2E h
    obtain ⟨v18, G19, e17, h⟩ := h
    refine j_cont (zrV (As := [vR r8, vI (183 * (v14 - 20)), vI 0]) msX2_262 (yX2_adds_ok e17) (Nat.le_trans (Nat.le_of_ble_eq_true rfl) hd) (zk_2 _ e16) rfl rfl (Nat.le_of_ble_eq_true rfl) dX2_addsFirsts_37) ?_
    refine j_istore_n (lv' := [(3, vI v18), (0, vR (some t)), (1, vI x1), (2, vI x2)]) dX2_addsFirsts_40 rfl (Nat.le_of_ble_eq_true rfl) rfl ?_
    refine j_iload_n (j := 2) dX2_addsFirsts_41 rfl rfl ?_
    refine j_if_ne (tgt := 49) dX2_addsFirsts_42 (by decide) (fun c20 => ?_) (fun c20 => ?_)
    · rw [if_pos c20] at h
      refine j_iload_n (j := 0) dX2_addsFirsts_45 rfl rfl ?_
      refine j_if_eq (tgt := 53) dX2_addsFirsts_46 (by decide) (fun c21 => ?_) (fun c21 => ?_)
      · rw [if_pos c21] at h
        refine j_iconst (v := 0) dX2_addsFirsts_53 (by decide) ?_
        exact J.sub (zall [1, 3] rfl) (wfX2_addsFirsts_54 hd t x2 0 G19 h hk)
      · rw [if_neg c21] at h
        exact J.sub (zall [1, 3] rfl) (wfX2_addsFirsts_49 hd t x2  G19 h hk)
    · rw [if_neg c20] at h
      exact J.sub (zall [1, 3] rfl) (wfX2_addsFirsts_49 hd t x2  G19 h hk)
theorem wflX2_addsFirsts_4 {F : zF} (hd : 5 ≤ F.2.2.2) (t : Nat) (x1 : Int32) (x2 : Int32) (G : GS) {a : (Int32) × GS} (h : flX2_addsFirsts_4 t x1 x2 G = some a) (hk : zKI F a) : J mX2_addsFirsts F G 4 [(0, vR (some t)), (1, vI x1), (2, vI x2)] [] := by
  unfold flX2_addsFirsts_4 at h
  exact zloop_walk (P := (fun s : Int32 × Int32 × GS => J mX2_addsFirsts F s.2.2 4 [(0, vR (some t)), (1, vI s.1), (2, vI s.2.1)] [])) (fun s b e hk => wfbX2_addsFirsts_4 hd t s.1 s.2.1 s.2.2 e hk) (x1, x2, G) _ h hk
def fX2_addsFirsts_0 (t : Nat)  (G : GS) : Option ((Int32) × GS) :=
  flX2_addsFirsts_4 t 0 0 G
theorem wfX2_addsFirsts_0 {F : zF} (hd : 5 ≤ F.2.2.2) (t : Nat)  (G : GS) {a : (Int32) × GS} (h : fX2_addsFirsts_0 t  G = some a) (hk : zKI F a) : J mX2_addsFirsts F G 0 [(0, vR (some t))] [] := by
  unfold fX2_addsFirsts_0 at h
  refine j_iconst (v := 0) dX2_addsFirsts_0 (by decide) ?_
  refine j_istore_n (lv' := [(1, vI 0), (0, vR (some t))]) dX2_addsFirsts_1 rfl (Nat.le_of_ble_eq_true rfl) rfl ?_
  refine j_iconst (v := 0) dX2_addsFirsts_2 (by decide) ?_
  refine j_istore_n (lv' := [(2, vI 0), (1, vI 0), (0, vR (some t))]) dX2_addsFirsts_3 rfl (Nat.le_of_ble_eq_true rfl) rfl ?_
  exact J.sub (zall [2, 1, 0] rfl) (wflX2_addsFirsts_4 hd t 0 0  G h hk)
theorem yX2_addsFirsts_ok {t : Nat} {G : GS} {r : Int32} {G1 : GS} (h : fX2_addsFirsts_0 t G = some (r, G1)) : zRuns yX2_addsFirsts (ws_ yX2_addsFirsts cX2_addsFirsts 4 (some Jvm.ClassFile.FieldType.boolean)) [vR (some t)] (.inl (some (vI r)), G, G1, 5) :=
  zentry (M := mX2_addsFirsts) (plainFor_of_name (by decide +kernel)) ⟨rfl, rfl, rfl, rfl⟩ (Nat.le_of_ble_eq_true rfl) (wfX2_addsFirsts_0 (Nat.le_refl _) t G h ⟨rfl, rfl⟩)
abbrev mX2_areEmptyable : zM := (cX2_areEmptyable, RX2, 4, (some Jvm.ClassFile.FieldType.boolean), "areEmptyable", [], "(II)Z")
def fbX2_areEmptyable_2 (t : Nat) (x1 : Int32) (x3 : Int32)  (G : GS) : Option ((Int32) ⊕ (Int32)) :=
  (zgR G 2 t 1).bind fun r1 => r1.bind fun a3 => (zaI G 50 a3 x1).bind fun v5 => if v5 ≤ x3 then (zo (zcond (zbb 1) (some 1))) else (zk [2] G t <| (fX2_at_0 t x1 x3 G).bind fun v11 => zk [2] G t <| (fX2_isEmptyable_0 t v11 G).bind fun v14 => if v14 = 0 then (zo (zcond (zbb 0) (some 0))) else (some (.inl ((x3 + 1)))))
def flX2_areEmptyable_2 (t : Nat) (x1 : Int32) (x3 : Int32) (G : GS) : Option (Int32) := zloop (fun s : Int32 => fbX2_areEmptyable_2 t x1 s G) (x3)
theorem wfbX2_areEmptyable_2 {F : zF} (hd : 4 ≤ F.2.2.2) (t : Nat) (x1 : Int32) (x3 : Int32) (G : GS) {a : (Int32) ⊕ (Int32)} (h : fbX2_areEmptyable_2 t x1 x3 G = some a) (hk : (zcase (fun s : Int32 => J mX2_areEmptyable F G 2 [(0, vR (some t)), (1, vI x1), (3, vI s)] []) (zKPI F G)) a) : J mX2_areEmptyable F G 2 [(0, vR (some t)), (1, vI x1), (3, vI x3)] [] := by
  unfold fbX2_areEmptyable_2 at h
  refine j_iload_n (j := 2) dX2_areEmptyable_2 rfl rfl ?_
  refine j_aload_n (j := 0) dX2_areEmptyable_3 rfl rfl ?_
  replace h := zbE h
  obtain ⟨r1, e2, h⟩ := h
  refine j_getR fgX2_13 (fun _ _ _ => rfl) dX2_areEmptyable_4 e2 ?_
  refine j_iload_n (j := 1) dX2_areEmptyable_7 rfl rfl ?_
  replace h := zbE h
  obtain ⟨a3, e4, h⟩ := h
  subst e4
  replace h := zbE h
  obtain ⟨v5, e6, h⟩ := h
  refine j_iald (Or.inl rfl) e6 dX2_areEmptyable_8 ?_
  refine j_icmp_ge (tgt := 33) dX2_areEmptyable_9 (by decide) (fun c7 => ?_) (fun c7 => ?_)
  · rw [if_pos c7] at h
    replace h := zoE h
    obtain ⟨a, h, rfl⟩ := h
    replace hk := hk
    refine j_iconst (v := 1) dX2_areEmptyable_33 (by decide) ?_
    replace h := zcondE h
    obtain ⟨e8, h⟩ := h
    obtain rfl := Option.some.inj h
    exact j_zret hk.1 hk.2 rfl (zbb_n e8) dX2_areEmptyable_34
  · rw [if_neg c7] at h
    refine j_aload_n (j := 0) dX2_areEmptyable_12 rfl rfl ?_
    refine j_aload_n (j := 0) dX2_areEmptyable_13 rfl rfl ?_
    refine j_iload_n (j := 1) dX2_areEmptyable_14 rfl rfl ?_
    refine j_iload_n (j := 2) dX2_areEmptyable_15 rfl rfl ?_
    replace h := zkE h
    obtain ⟨e9, h⟩ := h
    replace h := zbE h
    obtain ⟨v11, e10, h⟩ := h
    refine j_cont (zrV (As := [vI x1, vI x3]) msX2_187 (yX2_at_ok e10) (Nat.le_trans (Nat.le_of_ble_eq_true rfl) hd) (zk_2 _ e9) rfl rfl (Nat.le_of_ble_eq_true rfl) dX2_areEmptyable_16) ?_
    replace h := zkE h
    obtain ⟨e12, h⟩ := h
    replace h := zbE h
    obtain ⟨v14, e13, h⟩ := h
    refine j_cont (zrV (As := [vI v11]) msX2_202 (yX2_isEmptyable_ok e13) (Nat.le_trans (Nat.le_of_ble_eq_true rfl) hd) (zk_2 _ e12) rfl rfl (Nat.le_of_ble_eq_true rfl) dX2_areEmptyable_19) ?_
    refine j_if_ne (tgt := 27) dX2_areEmptyable_22 (by decide) (fun c15 => ?_) (fun c15 => ?_)
    · rw [if_pos c15] at h
      replace h := zoE h
      obtain ⟨a, h, rfl⟩ := h
      replace hk := hk
      refine j_iconst (v := 0) dX2_areEmptyable_25 (by decide) ?_
      replace h := zcondE h
      obtain ⟨e16, h⟩ := h
      obtain rfl := Option.some.inj h
      exact j_zret hk.1 hk.2 rfl (zbb_n e16) dX2_areEmptyable_26
    · rw [if_neg c15] at h
      refine j_iinc (j := 2) (v := (x3 + 1)) (lv' := [(3, vI (x3 + 1)), (0, vR (some t)), (1, vI x1)]) dX2_areEmptyable_27 rfl rfl (Nat.le_of_ble_eq_true rfl) rfl ?_
      refine j_goto (tgt := 2) dX2_areEmptyable_30 (by decide) ?_
      obtain rfl := Option.some.inj h
      exact J.sub (zall [1, 2, 0] rfl) hk
theorem wflX2_areEmptyable_2 {F : zF} (hd : 4 ≤ F.2.2.2) (t : Nat) (x1 : Int32) (x3 : Int32) (G : GS) {a : Int32} (h : flX2_areEmptyable_2 t x1 x3 G = some a) (hk : zKPI F G a) : J mX2_areEmptyable F G 2 [(0, vR (some t)), (1, vI x1), (3, vI x3)] [] := by
  unfold flX2_areEmptyable_2 at h
  exact zloop_walk (P := (fun s : Int32 => J mX2_areEmptyable F G 2 [(0, vR (some t)), (1, vI x1), (3, vI s)] [])) (fun s b e hk => wfbX2_areEmptyable_2 hd t x1 s G e hk) (x3) _ h hk
def fX2_areEmptyable_0 (t : Nat) (x1 : Int32) (x2 : Int32)  (G : GS) : Option (Int32) :=
  flX2_areEmptyable_2 t x1 x2 G
theorem wfX2_areEmptyable_0 {F : zF} (hd : 4 ≤ F.2.2.2) (t : Nat) (x1 : Int32) (x2 : Int32)  (G : GS) {a : Int32} (h : fX2_areEmptyable_0 t x1 x2  G = some a) (hk : zKPI F G a) : J mX2_areEmptyable F G 0 [(0, vR (some t)), (1, vI x1), (2, vI x2)] [] := by
  unfold fX2_areEmptyable_0 at h
  refine j_iload_n (j := 2) dX2_areEmptyable_0 rfl rfl ?_
  refine j_istore_n (lv' := [(3, vI x2), (0, vR (some t)), (1, vI x1), (2, vI x2)]) dX2_areEmptyable_1 rfl (Nat.le_of_ble_eq_true rfl) rfl ?_
  exact J.sub (zall [1, 2, 0] rfl) (wflX2_areEmptyable_2 hd t x1 x2  G h hk)
theorem yX2_areEmptyable_ok {t : Nat} {x1 : Int32} {x2 : Int32} {G : GS} {r : Int32} (h : fX2_areEmptyable_0 t x1 x2 G = some r) : zRuns yX2_areEmptyable (ws_ yX2_areEmptyable cX2_areEmptyable 4 (some Jvm.ClassFile.FieldType.boolean)) [vR (some t), vI x1, vI x2] (.inl (some (vI r)), G, G, 4) :=
  zentry (M := mX2_areEmptyable) (plainFor_of_name (by decide +kernel)) ⟨rfl, rfl, rfl, rfl⟩ (Nat.le_of_ble_eq_true rfl) (wfX2_areEmptyable_0 (Nat.le_refl _) t x1 x2 G h ⟨rfl, rfl⟩)
theorem fgX2_31 : zFG RX2 31 1 10 (.array (.int)) := ⟨(RX2, TX2, 42, tyX2), rfl, by decide, in_X2, rfl, "SelahGeneratorModel", Or.inl rfl, Or.inl q2682⟩
theorem msX2_208 : zSV RX2 208 RX2 yX2_areEmptyable cX2_areEmptyable 4 (some Jvm.ClassFile.FieldType.boolean) 2 := ⟨lw_V q2915 q2917 qs73 q131 q2918, (by decide +kernel), (by decide)⟩
abbrev mX2_followBy : zM := (cX2_followBy, RX2, 3, (some Jvm.ClassFile.FieldType.int), "followBy", [], "(II)I")
def fX2_followBy_0 (t : Nat) (x1 : Int32) (x2 : Int32)  (G : GS) : Option (Int32) :=
  zk [2] G t <| (fX2_firstFrom_0 t x1 (x2 + 1) G).bind fun v3 => zk [2] G t <| (fX2_areEmptyable_0 t x1 (x2 + 1) G).bind fun v6 => if v6 = 0 then (some (v3 ||| 0)) else ((zgR G 2 t 10).bind fun r8 => (zgR G 2 t 0).bind fun r10 => r10.bind fun a12 => (zaI G 50 a12 x1).bind fun v14 => r8.bind fun a16 => (zaI G 50 a16 (v14 - 20)).bind fun v18 => some (v3 ||| v18))
theorem wfX2_followBy_0 {F : zF} (hd : 5 ≤ F.2.2.2) (t : Nat) (x1 : Int32) (x2 : Int32)  (G : GS) {a : Int32} (h : fX2_followBy_0 t x1 x2  G = some a) (hk : zKPI F G a) : J mX2_followBy F G 0 [(0, vR (some t)), (1, vI x1), (2, vI x2)] [] := by
  unfold fX2_followBy_0 at h
  refine j_aload_n (j := 0) dX2_followBy_0 rfl rfl ?_
  refine j_iload_n (j := 1) dX2_followBy_1 rfl rfl ?_
  refine j_iload_n (j := 2) dX2_followBy_2 rfl rfl ?_
  refine j_iconst (v := 1) dX2_followBy_3 (by decide) ?_
  refine j_iadd dX2_followBy_4 ?_
  replace h := zkE h
  obtain ⟨e1, h⟩ := h
  replace h := zbE h
  obtain ⟨v3, e2, h⟩ := h
  refine j_cont (zrV (As := [vI x1, vI (x2 + 1)]) msX2_205 (yX2_firstFrom_ok e2) (Nat.le_trans (Nat.le_of_ble_eq_true rfl) hd) (zk_2 _ e1) rfl rfl (Nat.le_of_ble_eq_true rfl) dX2_followBy_5) ?_
  refine j_aload_n (j := 0) dX2_followBy_8 rfl rfl ?_
  refine j_iload_n (j := 1) dX2_followBy_9 rfl rfl ?_
  refine j_iload_n (j := 2) dX2_followBy_10 rfl rfl ?_
  refine j_iconst (v := 1) dX2_followBy_11 (by decide) ?_
  refine j_iadd dX2_followBy_12 ?_
  replace h := zkE h
  obtain ⟨e4, h⟩ := h
  replace h := zbE h
  obtain ⟨v6, e5, h⟩ := h
  refine j_cont (zrV (As := [vI x1, vI (x2 + 1)]) msX2_208 (yX2_areEmptyable_ok e5) (Nat.le_trans (Nat.le_of_ble_eq_true rfl) hd) (zk_2 _ e4) rfl rfl (Nat.le_of_ble_eq_true rfl) dX2_followBy_13) ?_
  refine j_if_eq (tgt := 36) dX2_followBy_16 (by decide) (fun c7 => ?_) (fun c7 => ?_)
  · rw [if_pos c7] at h
    refine j_iconst (v := 0) dX2_followBy_36 (by decide) ?_
    refine j_ior dX2_followBy_37 ?_
    obtain rfl := Option.some.inj h
    exact j_iret hk.1 hk.2 rfl dX2_followBy_38
  · rw [if_neg c7] at h
    refine j_aload_n (j := 0) dX2_followBy_19 rfl rfl ?_
    replace h := zbE h
    obtain ⟨r8, e9, h⟩ := h
    refine j_getR fgX2_31 (fun _ _ _ => rfl) dX2_followBy_20 e9 ?_
    refine j_aload_n (j := 0) dX2_followBy_23 rfl rfl ?_
    replace h := zbE h
    obtain ⟨r10, e11, h⟩ := h
    refine j_getR fgX2_7 (fun _ _ _ => rfl) dX2_followBy_24 e11 ?_
    refine j_iload_n (j := 1) dX2_followBy_27 rfl rfl ?_
    replace h := zbE h
    obtain ⟨a12, e13, h⟩ := h
    subst e13
    replace h := zbE h
    obtain ⟨v14, e15, h⟩ := h
    refine j_iald (Or.inl rfl) e15 dX2_followBy_28 ?_
    refine j_bipush (v := 20) dX2_followBy_29 (by decide) ?_
    refine j_isub dX2_followBy_31 ?_
    replace h := zbE h
    obtain ⟨a16, e17, h⟩ := h
    subst e17
    replace h := zbE h
    obtain ⟨v18, e19, h⟩ := h
    refine j_iald (Or.inl rfl) e19 dX2_followBy_32 ?_
    refine j_goto (tgt := 37) dX2_followBy_33 (by decide) ?_
    refine j_ior dX2_followBy_37 ?_
    obtain rfl := Option.some.inj h
    exact j_iret hk.1 hk.2 rfl dX2_followBy_38
theorem yX2_followBy_ok {t : Nat} {x1 : Int32} {x2 : Int32} {G : GS} {r : Int32} (h : fX2_followBy_0 t x1 x2 G = some r) : zRuns yX2_followBy (ws_ yX2_followBy cX2_followBy 3 (some Jvm.ClassFile.FieldType.int)) [vR (some t), vI x1, vI x2] (.inl (some (vI r)), G, G, 5) :=
  zentry (M := mX2_followBy) (plainFor_of_name (by decide +kernel)) ⟨rfl, rfl, rfl, rfl⟩ (Nat.le_of_ble_eq_true rfl) (wfX2_followBy_0 (Nat.le_refl _) t x1 x2 G h ⟨rfl, rfl⟩)
theorem msX2_211 : zSV RX2 211 RX2 yX2_followBy cX2_followBy 3 (some Jvm.ClassFile.FieldType.int) 2 := ⟨lw_V q2938 q2940 qs78 q131 q2941, (by decide +kernel), (by decide)⟩
abbrev mX2_addsFollow : zM := (cX2_addsFollow, RX2, 6, (some Jvm.ClassFile.FieldType.boolean), "addsFollow", [], "()Z")
def fX2_addsFollow_103 (t : Nat) (x1 : Int32) (x2 : Int32)  (G : GS) : Option ((Int32 × Int32 × GS) ⊕ ((Int32) × GS)) :=
  some (.inl (x1, (x2 + 1), G))
theorem wfX2_addsFollow_103 {F : zF} (hd : 6 ≤ F.2.2.2) (t : Nat) (x1 : Int32) (x2 : Int32)  (G : GS) {a : (Int32 × Int32 × GS) ⊕ ((Int32) × GS)} (h : fX2_addsFollow_103 t x1 x2  G = some a) (hk : (zcase (fun s : Int32 × Int32 × GS => J mX2_addsFollow F s.2.2 4 [(0, vR (some t)), (1, vI s.1), (2, vI s.2.1)] []) (zKI F)) a) : J mX2_addsFollow F G 103 [(0, vR (some t)), (1, vI x1), (2, vI x2)] [] := by
  unfold fX2_addsFollow_103 at h
  refine j_iinc (j := 2) (v := (x2 + 1)) (lv' := [(2, vI (x2 + 1)), (0, vR (some t)), (1, vI x1)]) dX2_addsFollow_103 rfl rfl (Nat.le_of_ble_eq_true rfl) rfl ?_
  refine j_goto (tgt := 4) dX2_addsFollow_106 (by decide) ?_
  obtain rfl := Option.some.inj h
  exact J.sub (zall [1, 2, 0] rfl) hk
def fX2_addsFollow_97 (t : Nat) (x1 : Int32) (x2 : Int32) (x3 : Int32)  (G : GS) : Option ((Int32 × Int32 × GS) ⊕ ((Int32 × Int32 × GS) ⊕ ((Int32) × GS))) :=
  some (.inl (x1, (x3 + 1), G))
theorem wfX2_addsFollow_97 {F : zF} (hd : 6 ≤ F.2.2.2) (t : Nat) (x1 : Int32) (x2 : Int32) (x3 : Int32)  (G : GS) {a : (Int32 × Int32 × GS) ⊕ ((Int32 × Int32 × GS) ⊕ ((Int32) × GS))} (h : fX2_addsFollow_97 t x1 x2 x3  G = some a) (hk : (zcase (fun s : Int32 × Int32 × GS => J mX2_addsFollow F s.2.2 14 [(0, vR (some t)), (1, vI s.1), (2, vI x2), (3, vI s.2.1)] []) ((zcase (fun s : Int32 × Int32 × GS => J mX2_addsFollow F s.2.2 4 [(0, vR (some t)), (1, vI s.1), (2, vI s.2.1)] []) (zKI F)))) a) : J mX2_addsFollow F G 97 [(0, vR (some t)), (1, vI x1), (2, vI x2), (3, vI x3)] [] := by
  unfold fX2_addsFollow_97 at h
  refine j_iinc (j := 3) (v := (x3 + 1)) (lv' := [(3, vI (x3 + 1)), (0, vR (some t)), (1, vI x1), (2, vI x2)]) dX2_addsFollow_97 rfl rfl (Nat.le_of_ble_eq_true rfl) rfl ?_
  refine j_goto (tgt := 14) dX2_addsFollow_100 (by decide) ?_
  obtain rfl := Option.some.inj h
  exact J.sub (zall [1, 2, 3, 0] rfl) hk
def fX2_addsFollow_87 (t : Nat) (x2 : Int32) (x3 : Int32) (x4 : Int32) (x5 : Int32) (s0 : Int32) (G : GS) : Option ((Int32 × Int32 × GS) ⊕ ((Int32 × Int32 × GS) ⊕ ((Int32) × GS))) :=
  (zgR G 2 t 10).bind fun r1 => r1.bind fun a3 => (zsI G 50 a3 x4 x5).bind fun G5 => fX2_addsFollow_97 t s0 x2 x3 G5
theorem wfX2_addsFollow_87 {F : zF} (hd : 6 ≤ F.2.2.2) (t : Nat) (x2 : Int32) (x3 : Int32) (x4 : Int32) (x5 : Int32) (s0 : Int32) (G : GS) {a : (Int32 × Int32 × GS) ⊕ ((Int32 × Int32 × GS) ⊕ ((Int32) × GS))} (h : fX2_addsFollow_87 t x2 x3 x4 x5 s0 G = some a) (hk : (zcase (fun s : Int32 × Int32 × GS => J mX2_addsFollow F s.2.2 14 [(0, vR (some t)), (1, vI s.1), (2, vI x2), (3, vI s.2.1)] []) ((zcase (fun s : Int32 × Int32 × GS => J mX2_addsFollow F s.2.2 4 [(0, vR (some t)), (1, vI s.1), (2, vI s.2.1)] []) (zKI F)))) a) : J mX2_addsFollow F G 87 [(0, vR (some t)), (2, vI x2), (3, vI x3), (4, vI x4), (5, vI x5)] [vI s0] := by
  unfold fX2_addsFollow_87 at h
  refine j_istore_n (lv' := [(1, vI s0), (0, vR (some t)), (2, vI x2), (3, vI x3), (4, vI x4), (5, vI x5)]) dX2_addsFollow_87 rfl (Nat.le_of_ble_eq_true rfl) rfl ?_
  refine j_aload_n (j := 1) dX2_addsFollow_88 rfl rfl ?_
  replace h := zbE h
  obtain ⟨r1, e2, h⟩ := h
  refine j_getR fgX2_31 (fun _ _ _ => rfl) dX2_addsFollow_89 e2 ?_
  refine j_iload (j := 4) dX2_addsFollow_92 rfl ?_
  refine j_iload (j := 5) dX2_addsFollow_94 rfl ?_
  replace h := zbE h
  obtain ⟨a3, e4, h⟩ := h
  subst e4
  replace h := zbE h
  obtain ⟨G5, e6, h⟩ := h
  refine j_iast e6 dX2_addsFollow_96 ?_
  exact J.sub (zall [1, 0, 2, 3] rfl) (wfX2_addsFollow_97 hd t s0 x2 x3  G5 h hk)
def fX2_addsFollow_82 (t : Nat) (x2 : Int32) (x3 : Int32) (x4 : Int32) (x5 : Int32)  (G : GS) : Option ((Int32 × Int32 × GS) ⊕ ((Int32 × Int32 × GS) ⊕ ((Int32) × GS))) :=
  fX2_addsFollow_87 t x2 x3 x4 x5 1 G
theorem wfX2_addsFollow_82 {F : zF} (hd : 6 ≤ F.2.2.2) (t : Nat) (x2 : Int32) (x3 : Int32) (x4 : Int32) (x5 : Int32)  (G : GS) {a : (Int32 × Int32 × GS) ⊕ ((Int32 × Int32 × GS) ⊕ ((Int32) × GS))} (h : fX2_addsFollow_82 t x2 x3 x4 x5  G = some a) (hk : (zcase (fun s : Int32 × Int32 × GS => J mX2_addsFollow F s.2.2 14 [(0, vR (some t)), (1, vI s.1), (2, vI x2), (3, vI s.2.1)] []) ((zcase (fun s : Int32 × Int32 × GS => J mX2_addsFollow F s.2.2 4 [(0, vR (some t)), (1, vI s.1), (2, vI s.2.1)] []) (zKI F)))) a) : J mX2_addsFollow F G 82 [(0, vR (some t)), (2, vI x2), (3, vI x3), (4, vI x4), (5, vI x5)] [] := by
  unfold fX2_addsFollow_82 at h
  refine j_iconst (v := 1) dX2_addsFollow_82 (by decide) ?_
  refine j_goto (tgt := 87) dX2_addsFollow_83 (by decide) ?_
  exact J.sub (zall [0, 1, 2, 3, 4] rfl) (wfX2_addsFollow_87 hd t x2 x3 x4 x5 1 G h hk)
def fbX2_addsFollow_14 (t : Nat) (x1 : Int32) (x2 : Int32) (x3 : Int32)  (G : GS) : Option ((Int32 × Int32 × GS) ⊕ ((Int32 × Int32 × GS) ⊕ ((Int32) × GS))) :=
  (zgR G 2 t 1).bind fun r1 => r1.bind fun a3 => (zaI G 50 a3 x2).bind fun v5 => if v5 ≤ x3 then (zo (fX2_addsFollow_103 t x1 x2 G)) else (zk [2] G t <| (fX2_at_0 t x2 x3 G).bind fun v10 => (fX2_isTerminal_0 v10 G).bind fun v12 => if v12 = 0 then (zk [2] G t <| (fX2_at_0 t x2 x3 G).bind fun v16 => (zgR G 2 t 10).bind fun r17 => r17.bind fun a19 => (zaI G 50 a19 (v16 - 20)).bind fun v21 => zk [2] G t <| (fX2_followBy_0 t x2 x3 G).bind fun v25 => if x1 = 0 then ((zgR G 2 t 10).bind fun r27 => r27.bind fun a29 => (zaI G 50 a29 (v16 - 20)).bind fun v31 => if (v21 ||| v25) = v31 then (fX2_addsFollow_87 t x2 x3 (v16 - 20) (v21 ||| v25) 0 G) else (fX2_addsFollow_82 t x2 x3 (v16 - 20) (v21 ||| v25) G)) else (fX2_addsFollow_82 t x2 x3 (v16 - 20) (v21 ||| v25) G)) else (fX2_addsFollow_97 t x1 x2 x3 G))
def flX2_addsFollow_14 (t : Nat) (x1 : Int32) (x2 : Int32) (x3 : Int32) (G : GS) : Option ((Int32 × Int32 × GS) ⊕ ((Int32) × GS)) := zloop (fun s : Int32 × Int32 × GS => fbX2_addsFollow_14 t s.1 x2 s.2.1 s.2.2) (x1, x3, G)
theorem wfbX2_addsFollow_14 {F : zF} (hd : 6 ≤ F.2.2.2) (t : Nat) (x1 : Int32) (x2 : Int32) (x3 : Int32) (G : GS) {a : (Int32 × Int32 × GS) ⊕ ((Int32 × Int32 × GS) ⊕ ((Int32) × GS))} (h : fbX2_addsFollow_14 t x1 x2 x3 G = some a) (hk : (zcase (fun s : Int32 × Int32 × GS => J mX2_addsFollow F s.2.2 14 [(0, vR (some t)), (1, vI s.1), (2, vI x2), (3, vI s.2.1)] []) ((zcase (fun s : Int32 × Int32 × GS => J mX2_addsFollow F s.2.2 4 [(0, vR (some t)), (1, vI s.1), (2, vI s.2.1)] []) (zKI F)))) a) : J mX2_addsFollow F G 14 [(0, vR (some t)), (1, vI x1), (2, vI x2), (3, vI x3)] [] := by
  unfold fbX2_addsFollow_14 at h
  refine j_iload_n (j := 3) dX2_addsFollow_14 rfl rfl ?_
  refine j_aload_n (j := 0) dX2_addsFollow_15 rfl rfl ?_
  replace h := zbE h
  obtain ⟨r1, e2, h⟩ := h
  refine j_getR fgX2_13 (fun _ _ _ => rfl) dX2_addsFollow_16 e2 ?_
  refine j_iload_n (j := 2) dX2_addsFollow_19 rfl rfl ?_
  replace h := zbE h
  obtain ⟨a3, e4, h⟩ := h
  subst e4
  replace h := zbE h
  obtain ⟨v5, e6, h⟩ := h
  refine j_iald (Or.inl rfl) e6 dX2_addsFollow_20 ?_
  refine j_icmp_ge (tgt := 103) dX2_addsFollow_21 (by decide) (fun c7 => ?_) (fun c7 => ?_)
  · rw [if_pos c7] at h
    replace h := zoE h
    obtain ⟨a, h, rfl⟩ := h
    replace hk := hk
    exact J.sub (zall [0, 1, 2] rfl) (wfX2_addsFollow_103 hd t x1 x2  G h hk)
  · rw [if_neg c7] at h
    refine j_aload_n (j := 0) dX2_addsFollow_24 rfl rfl ?_
    refine j_iload_n (j := 2) dX2_addsFollow_25 rfl rfl ?_
    refine j_iload_n (j := 3) dX2_addsFollow_26 rfl rfl ?_
    replace h := zkE h
    obtain ⟨e8, h⟩ := h
    replace h := zbE h
    obtain ⟨v10, e9, h⟩ := h
    refine j_cont (zrV (As := [vI x2, vI x3]) msX2_187 (yX2_at_ok e9) (Nat.le_trans (Nat.le_of_ble_eq_true rfl) hd) (zk_2 _ e8) rfl rfl (Nat.le_of_ble_eq_true rfl) dX2_addsFollow_27) ?_
    replace h := zbE h
    obtain ⟨v12, e11, h⟩ := h
    refine j_cont (zrS (As := [vI v10]) msX2_167 (yX2_isTerminal_ok e11) (Nat.le_trans (Nat.le_of_ble_eq_true rfl) hd) rfl rfl (Nat.le_of_ble_eq_true rfl) dX2_addsFollow_30) ?_
    refine j_if_eq (tgt := 39) dX2_addsFollow_33 (by decide) (fun c13 => ?_) (fun c13 => ?_)
    · rw [if_pos c13] at h
      refine j_aload_n (j := 0) dX2_addsFollow_39 rfl rfl ?_
      refine j_iload_n (j := 2) dX2_addsFollow_40 rfl rfl ?_
      refine j_iload_n (j := 3) dX2_addsFollow_41 rfl rfl ?_
      replace h := zkE h
      obtain ⟨e14, h⟩ := h
      replace h := zbE h
      obtain ⟨v16, e15, h⟩ := h
      refine j_cont (zrV (As := [vI x2, vI x3]) msX2_187 (yX2_at_ok e15) (Nat.le_trans (Nat.le_of_ble_eq_true rfl) hd) (zk_2 _ e14) rfl rfl (Nat.le_of_ble_eq_true rfl) dX2_addsFollow_42) ?_
      refine j_bipush (v := 20) dX2_addsFollow_45 (by decide) ?_
      refine j_isub dX2_addsFollow_47 ?_
      refine j_istore (lv' := [(4, vI (v16 - 20)), (0, vR (some t)), (1, vI x1), (2, vI x2), (3, vI x3)]) dX2_addsFollow_48 (Nat.le_of_ble_eq_true rfl) rfl ?_
      refine j_aload_n (j := 1) dX2_addsFollow_50 rfl rfl ?_
      replace h := zbE h
      obtain ⟨r17, e18, h⟩ := h
      refine j_getR fgX2_31 (fun _ _ _ => rfl) dX2_addsFollow_51 e18 ?_
      refine j_iload (j := 0) dX2_addsFollow_54 rfl ?_
      replace h := zbE h
      obtain ⟨a19, e20, h⟩ := h
      subst e20
      replace h := zbE h
      obtain ⟨v21, e22, h⟩ := h
      refine j_iald (Or.inl rfl) e22 dX2_addsFollow_56 ?_
      refine j_aload_n (j := 1) dX2_addsFollow_57 rfl rfl ?_
      refine j_iload_n (j := 3) dX2_addsFollow_58 rfl rfl ?_
      refine j_iload_n (j := 4) dX2_addsFollow_59 rfl rfl ?_
      replace h := zkE h
      obtain ⟨e23, h⟩ := h
      replace h := zbE h
      obtain ⟨v25, e24, h⟩ := h
      refine j_cont (zrV (As := [vI x2, vI x3]) msX2_211 (yX2_followBy_ok e24) (Nat.le_trans (Nat.le_of_ble_eq_true rfl) hd) (zk_2 _ e23) rfl rfl (Nat.le_of_ble_eq_true rfl) dX2_addsFollow_60) ?_
      refine j_ior dX2_addsFollow_63 ?_
      refine j_istore (lv' := [(5, vI (v21 ||| v25)), (4, vI (v16 - 20)), (0, vR (some t)), (1, vI x1), (2, vI x2), (3, vI x3)]) dX2_addsFollow_64 (Nat.le_of_ble_eq_true rfl) rfl ?_
      refine j_iload_n (j := 3) dX2_addsFollow_66 rfl rfl ?_
      refine j_if_ne (tgt := 82) dX2_addsFollow_67 (by decide) (fun c26 => ?_) (fun c26 => ?_)
      · rw [if_pos c26] at h
        refine j_iload (j := 0) dX2_addsFollow_70 rfl ?_
        refine j_aload_n (j := 2) dX2_addsFollow_72 rfl rfl ?_
        replace h := zbE h
        obtain ⟨r27, e28, h⟩ := h
        refine j_getR fgX2_31 (fun _ _ _ => rfl) dX2_addsFollow_73 e28 ?_
        refine j_iload (j := 1) dX2_addsFollow_76 rfl ?_
        replace h := zbE h
        obtain ⟨a29, e30, h⟩ := h
        subst e30
        replace h := zbE h
        obtain ⟨v31, e32, h⟩ := h
        refine j_iald (Or.inl rfl) e32 dX2_addsFollow_78 ?_
        refine j_icmp_eq (tgt := 86) dX2_addsFollow_79 (by decide) (fun c33 => ?_) (fun c33 => ?_)
        · rw [if_pos c33] at h
          refine j_iconst (v := 0) dX2_addsFollow_86 (by decide) ?_
          exact J.sub (zall [2, 4, 5, 1, 0] rfl) (wfX2_addsFollow_87 hd t x2 x3 (v16 - 20) (v21 ||| v25) 0 G h hk)
        · rw [if_neg c33] at h
          exact J.sub (zall [2, 4, 5, 1, 0] rfl) (wfX2_addsFollow_82 hd t x2 x3 (v16 - 20) (v21 ||| v25)  G h hk)
      · rw [if_neg c26] at h
        exact J.sub (zall [2, 4, 5, 1, 0] rfl) (wfX2_addsFollow_82 hd t x2 x3 (v16 - 20) (v21 ||| v25)  G h hk)
    · rw [if_neg c13] at h
      refine j_goto (tgt := 97) dX2_addsFollow_36 (by decide) ?_
      exact J.sub (zall [0, 1, 2, 3] rfl) (wfX2_addsFollow_97 hd t x1 x2 x3  G h hk)
theorem wflX2_addsFollow_14 {F : zF} (hd : 6 ≤ F.2.2.2) (t : Nat) (x1 : Int32) (x2 : Int32) (x3 : Int32) (G : GS) {a : (Int32 × Int32 × GS) ⊕ ((Int32) × GS)} (h : flX2_addsFollow_14 t x1 x2 x3 G = some a) (hk : (zcase (fun s : Int32 × Int32 × GS => J mX2_addsFollow F s.2.2 4 [(0, vR (some t)), (1, vI s.1), (2, vI s.2.1)] []) (zKI F)) a) : J mX2_addsFollow F G 14 [(0, vR (some t)), (1, vI x1), (2, vI x2), (3, vI x3)] [] := by
  unfold flX2_addsFollow_14 at h
  exact zloop_walk (P := (fun s : Int32 × Int32 × GS => J mX2_addsFollow F s.2.2 14 [(0, vR (some t)), (1, vI s.1), (2, vI x2), (3, vI s.2.1)] [])) (fun s b e hk => wfbX2_addsFollow_14 hd t s.1 x2 s.2.1 s.2.2 e hk) (x1, x3, G) _ h hk
def fbX2_addsFollow_4 (t : Nat) (x1 : Int32) (x2 : Int32)  (G : GS) : Option ((Int32 × Int32 × GS) ⊕ ((Int32) × GS)) :=
  (zgI G 2 t 6).bind fun v1 => if v1 ≤ x2 then (zo (zcond (zbb x1) (some (x1, G)))) else (flX2_addsFollow_14 t x1 x2 0 G)
def flX2_addsFollow_4 (t : Nat) (x1 : Int32) (x2 : Int32) (G : GS) : Option ((Int32) × GS) := zloop (fun s : Int32 × Int32 × GS => fbX2_addsFollow_4 t s.1 s.2.1 s.2.2) (x1, x2, G)
theorem wfbX2_addsFollow_4 {F : zF} (hd : 6 ≤ F.2.2.2) (t : Nat) (x1 : Int32) (x2 : Int32) (G : GS) {a : (Int32 × Int32 × GS) ⊕ ((Int32) × GS)} (h : fbX2_addsFollow_4 t x1 x2 G = some a) (hk : (zcase (fun s : Int32 × Int32 × GS => J mX2_addsFollow F s.2.2 4 [(0, vR (some t)), (1, vI s.1), (2, vI s.2.1)] []) (zKI F)) a) : J mX2_addsFollow F G 4 [(0, vR (some t)), (1, vI x1), (2, vI x2)] [] := by
  unfold fbX2_addsFollow_4 at h
  refine j_iload_n (j := 2) dX2_addsFollow_4 rfl rfl ?_
  refine j_aload_n (j := 0) dX2_addsFollow_5 rfl rfl ?_
  replace h := zbE h
  obtain ⟨v1, e2, h⟩ := h
  refine j_getI fgX2_113 (fun _ _ _ => rfl) dX2_addsFollow_6 e2 ?_
  refine j_icmp_ge (tgt := 109) dX2_addsFollow_9 (by decide) (fun c3 => ?_) (fun c3 => ?_)
  · rw [if_pos c3] at h
    replace h := zoE h
    obtain ⟨a, h, rfl⟩ := h
    replace hk := hk
    refine j_iload_n (j := 1) dX2_addsFollow_109 rfl rfl ?_
    replace h := zcondE h
    obtain ⟨e4, h⟩ := h
    obtain rfl := Option.some.inj h
    exact j_zret hk.1 hk.2 rfl (zbb_n e4) dX2_addsFollow_110
  · rw [if_neg c3] at h
    refine j_iconst (v := 0) dX2_addsFollow_12 (by decide) ?_
    refine j_istore_n (lv' := [(3, vI 0), (0, vR (some t)), (1, vI x1), (2, vI x2)]) dX2_addsFollow_13 rfl (Nat.le_of_ble_eq_true rfl) rfl ?_
    exact J.sub (zall [1, 2, 3, 0] rfl) (wflX2_addsFollow_14 hd t x1 x2 0  G h hk)
theorem wflX2_addsFollow_4 {F : zF} (hd : 6 ≤ F.2.2.2) (t : Nat) (x1 : Int32) (x2 : Int32) (G : GS) {a : (Int32) × GS} (h : flX2_addsFollow_4 t x1 x2 G = some a) (hk : zKI F a) : J mX2_addsFollow F G 4 [(0, vR (some t)), (1, vI x1), (2, vI x2)] [] := by
  unfold flX2_addsFollow_4 at h
  exact zloop_walk (P := (fun s : Int32 × Int32 × GS => J mX2_addsFollow F s.2.2 4 [(0, vR (some t)), (1, vI s.1), (2, vI s.2.1)] [])) (fun s b e hk => wfbX2_addsFollow_4 hd t s.1 s.2.1 s.2.2 e hk) (x1, x2, G) _ h hk
def fX2_addsFollow_0 (t : Nat)  (G : GS) : Option ((Int32) × GS) :=
  flX2_addsFollow_4 t 0 0 G
theorem wfX2_addsFollow_0 {F : zF} (hd : 6 ≤ F.2.2.2) (t : Nat)  (G : GS) {a : (Int32) × GS} (h : fX2_addsFollow_0 t  G = some a) (hk : zKI F a) : J mX2_addsFollow F G 0 [(0, vR (some t))] [] := by
  unfold fX2_addsFollow_0 at h
  refine j_iconst (v := 0) dX2_addsFollow_0 (by decide) ?_
  refine j_istore_n (lv' := [(1, vI 0), (0, vR (some t))]) dX2_addsFollow_1 rfl (Nat.le_of_ble_eq_true rfl) rfl ?_
  refine j_iconst (v := 0) dX2_addsFollow_2 (by decide) ?_
  refine j_istore_n (lv' := [(2, vI 0), (1, vI 0), (0, vR (some t))]) dX2_addsFollow_3 rfl (Nat.le_of_ble_eq_true rfl) rfl ?_
  exact J.sub (zall [2, 1, 0] rfl) (wflX2_addsFollow_4 hd t 0 0  G h hk)
theorem yX2_addsFollow_ok {t : Nat} {G : GS} {r : Int32} {G1 : GS} (h : fX2_addsFollow_0 t G = some (r, G1)) : zRuns yX2_addsFollow (ws_ yX2_addsFollow cX2_addsFollow 6 (some Jvm.ClassFile.FieldType.boolean)) [vR (some t)] (.inl (some (vI r)), G, G1, 6) :=
  zentry (M := mX2_addsFollow) (plainFor_of_name (by decide +kernel)) ⟨rfl, rfl, rfl, rfl⟩ (Nat.le_of_ble_eq_true rfl) (wfX2_addsFollow_0 (Nat.le_refl _) t G h ⟨rfl, rfl⟩)
theorem fgX2_41 : zFG RX2 41 1 16 (.array (.boolean)) := ⟨(RX2, TX2, 42, tyX2), rfl, by decide, in_X2, rfl, "SelahGeneratorModel", Or.inl rfl, Or.inl q2688⟩
abbrev mX2_pairsFrom : zM := (cX2_pairsFrom, RX2, 3, none, "pairsFrom", [], "(II)V")
def fX2_pairsFrom_0 (t : Nat) (x1 : Int32) (x2 : Int32)  (G : GS) : Option (GS) :=
  zk [2] G t <| (fX2_firstsFrom_0 t x1 x2 G).bind fun G3 => (zgR G3 2 t 16).bind fun r4 => (zgR G3 2 t 0).bind fun r6 => r6.bind fun a8 => (zaI G3 50 a8 x1).bind fun v10 => zk [2] G3 t <| (fX2_continues_0 t r4 (183 * (v10 - 20)) G3).bind fun G14 => some G14
theorem wfX2_pairsFrom_0 {F : zF} (hd : 5 ≤ F.2.2.2) (t : Nat) (x1 : Int32) (x2 : Int32)  (G : GS) {a : GS} (h : fX2_pairsFrom_0 t x1 x2  G = some a) (hk : zKV F a) : J mX2_pairsFrom F G 0 [(0, vR (some t)), (1, vI x1), (2, vI x2)] [] := by
  unfold fX2_pairsFrom_0 at h
  refine j_aload_n (j := 0) dX2_pairsFrom_0 rfl rfl ?_
  refine j_iload_n (j := 1) dX2_pairsFrom_1 rfl rfl ?_
  refine j_iload_n (j := 2) dX2_pairsFrom_2 rfl rfl ?_
  replace h := zkE h
  obtain ⟨e1, h⟩ := h
  replace h := zbE h
  obtain ⟨G3, e2, h⟩ := h
  refine j_cont (zrV (As := [vI x1, vI x2]) msX2_259 (yX2_firstsFrom_ok e2) (Nat.le_trans (Nat.le_of_ble_eq_true rfl) hd) (zk_2 _ e1) rfl rfl (Nat.le_of_ble_eq_true rfl) dX2_pairsFrom_3) ?_
  refine j_aload_n (j := 0) dX2_pairsFrom_6 rfl rfl ?_
  refine j_aload_n (j := 0) dX2_pairsFrom_7 rfl rfl ?_
  replace h := zbE h
  obtain ⟨r4, e5, h⟩ := h
  refine j_getR fgX2_41 (fun _ _ _ => rfl) dX2_pairsFrom_8 e5 ?_
  refine j_sipush (v := 183) dX2_pairsFrom_11 (by decide) ?_
  refine j_aload_n (j := 0) dX2_pairsFrom_14 rfl rfl ?_
  replace h := zbE h
  obtain ⟨r6, e7, h⟩ := h
  refine j_getR fgX2_7 (fun _ _ _ => rfl) dX2_pairsFrom_15 e7 ?_
  refine j_iload_n (j := 1) dX2_pairsFrom_18 rfl rfl ?_
  replace h := zbE h
  obtain ⟨a8, e9, h⟩ := h
  subst e9
  replace h := zbE h
  obtain ⟨v10, e11, h⟩ := h
  refine j_iald (Or.inl rfl) e11 dX2_pairsFrom_19 ?_
  refine j_bipush (v := 20) dX2_pairsFrom_20 (by decide) ?_
  refine j_isub dX2_pairsFrom_22 ?_
  refine j_imul dX2_pairsFrom_23 ?_
  replace h := zkE h
  obtain ⟨e12, h⟩ := h
  replace h := zbE h
  obtain ⟨G14, e13, h⟩ := h
  refine j_cont (zrV (As := [vR r4, vI (183 * (v10 - 20))]) msX2_255 (yX2_continues_ok e13) (Nat.le_trans (Nat.le_of_ble_eq_true rfl) hd) (zk_2 _ e12) rfl rfl (Nat.le_of_ble_eq_true rfl) dX2_pairsFrom_24) ?_
  obtain rfl := Option.some.inj h
  exact j_vret hk.1 hk.2 rfl dX2_pairsFrom_27
theorem yX2_pairsFrom_ok {t : Nat} {x1 : Int32} {x2 : Int32} {G : GS} {G1 : GS} (h : fX2_pairsFrom_0 t x1 x2 G = some G1) : zRuns yX2_pairsFrom (ws_ yX2_pairsFrom cX2_pairsFrom 3 none) [vR (some t), vI x1, vI x2] (.inl none, G, G1, 5) :=
  zentry (M := mX2_pairsFrom) (plainFor_of_name (by decide +kernel)) ⟨rfl, rfl, rfl, rfl⟩ (Nat.le_of_ble_eq_true rfl) (wfX2_pairsFrom_0 (Nat.le_refl _) t x1 x2 G h ⟨rfl, rfl⟩)
theorem msX2_266 : zSV RX2 266 RX2 yX2_pairsFrom cX2_pairsFrom 3 none 2 := ⟨lw_V q3033 q3035 qs90 q131 q3036, (by decide +kernel), (by decide)⟩
abbrev mX2_addsFollows : zM := (cX2_addsFollows, RX2, 5, (some Jvm.ClassFile.FieldType.boolean), "addsFollows", [], "()Z")
def fX2_addsFollows_93 (t : Nat) (x1 : Int32) (x2 : Int32)  (G : GS) : Option ((Int32 × Int32 × GS) ⊕ ((Int32) × GS)) :=
  some (.inl (x1, (x2 + 1), G))
theorem wfX2_addsFollows_93 {F : zF} (hd : 6 ≤ F.2.2.2) (t : Nat) (x1 : Int32) (x2 : Int32)  (G : GS) {a : (Int32 × Int32 × GS) ⊕ ((Int32) × GS)} (h : fX2_addsFollows_93 t x1 x2  G = some a) (hk : (zcase (fun s : Int32 × Int32 × GS => J mX2_addsFollows F s.2.2 4 [(0, vR (some t)), (1, vI s.1), (2, vI s.2.1)] []) (zKI F)) a) : J mX2_addsFollows F G 93 [(0, vR (some t)), (1, vI x1), (2, vI x2)] [] := by
  unfold fX2_addsFollows_93 at h
  refine j_iinc (j := 2) (v := (x2 + 1)) (lv' := [(2, vI (x2 + 1)), (0, vR (some t)), (1, vI x1)]) dX2_addsFollows_93 rfl rfl (Nat.le_of_ble_eq_true rfl) rfl ?_
  refine j_goto (tgt := 4) dX2_addsFollows_96 (by decide) ?_
  obtain rfl := Option.some.inj h
  exact J.sub (zall [1, 2, 0] rfl) hk
def fX2_addsFollows_87 (t : Nat) (x1 : Int32) (x2 : Int32) (x3 : Int32)  (G : GS) : Option ((Int32 × Int32 × GS) ⊕ ((Int32 × Int32 × GS) ⊕ ((Int32) × GS))) :=
  some (.inl (x1, (x3 + 1), G))
theorem wfX2_addsFollows_87 {F : zF} (hd : 6 ≤ F.2.2.2) (t : Nat) (x1 : Int32) (x2 : Int32) (x3 : Int32)  (G : GS) {a : (Int32 × Int32 × GS) ⊕ ((Int32 × Int32 × GS) ⊕ ((Int32) × GS))} (h : fX2_addsFollows_87 t x1 x2 x3  G = some a) (hk : (zcase (fun s : Int32 × Int32 × GS => J mX2_addsFollows F s.2.2 14 [(0, vR (some t)), (1, vI s.1), (2, vI x2), (3, vI s.2.1)] []) ((zcase (fun s : Int32 × Int32 × GS => J mX2_addsFollows F s.2.2 4 [(0, vR (some t)), (1, vI s.1), (2, vI s.2.1)] []) (zKI F)))) a) : J mX2_addsFollows F G 87 [(0, vR (some t)), (1, vI x1), (2, vI x2), (3, vI x3)] [] := by
  unfold fX2_addsFollows_87 at h
  refine j_iinc (j := 3) (v := (x3 + 1)) (lv' := [(3, vI (x3 + 1)), (0, vR (some t)), (1, vI x1), (2, vI x2)]) dX2_addsFollows_87 rfl rfl (Nat.le_of_ble_eq_true rfl) rfl ?_
  refine j_goto (tgt := 14) dX2_addsFollows_90 (by decide) ?_
  obtain rfl := Option.some.inj h
  exact J.sub (zall [1, 2, 3, 0] rfl) hk
def fX2_addsFollows_86 (t : Nat) (x2 : Int32) (x3 : Int32) (s0 : Int32) (G : GS) : Option ((Int32 × Int32 × GS) ⊕ ((Int32 × Int32 × GS) ⊕ ((Int32) × GS))) :=
  fX2_addsFollows_87 t s0 x2 x3 G
theorem wfX2_addsFollows_86 {F : zF} (hd : 6 ≤ F.2.2.2) (t : Nat) (x2 : Int32) (x3 : Int32) (s0 : Int32) (G : GS) {a : (Int32 × Int32 × GS) ⊕ ((Int32 × Int32 × GS) ⊕ ((Int32) × GS))} (h : fX2_addsFollows_86 t x2 x3 s0 G = some a) (hk : (zcase (fun s : Int32 × Int32 × GS => J mX2_addsFollows F s.2.2 14 [(0, vR (some t)), (1, vI s.1), (2, vI x2), (3, vI s.2.1)] []) ((zcase (fun s : Int32 × Int32 × GS => J mX2_addsFollows F s.2.2 4 [(0, vR (some t)), (1, vI s.1), (2, vI s.2.1)] []) (zKI F)))) a) : J mX2_addsFollows F G 86 [(0, vR (some t)), (2, vI x2), (3, vI x3)] [vI s0] := by
  unfold fX2_addsFollows_86 at h
  refine j_istore_n (lv' := [(1, vI s0), (0, vR (some t)), (2, vI x2), (3, vI x3)]) dX2_addsFollows_86 rfl (Nat.le_of_ble_eq_true rfl) rfl ?_
  exact J.sub (zall [1, 0, 2, 3] rfl) (wfX2_addsFollows_87 hd t s0 x2 x3  G h hk)
def fX2_addsFollows_81 (t : Nat) (x2 : Int32) (x3 : Int32)  (G : GS) : Option ((Int32 × Int32 × GS) ⊕ ((Int32 × Int32 × GS) ⊕ ((Int32) × GS))) :=
  fX2_addsFollows_86 t x2 x3 1 G
theorem wfX2_addsFollows_81 {F : zF} (hd : 6 ≤ F.2.2.2) (t : Nat) (x2 : Int32) (x3 : Int32)  (G : GS) {a : (Int32 × Int32 × GS) ⊕ ((Int32 × Int32 × GS) ⊕ ((Int32) × GS))} (h : fX2_addsFollows_81 t x2 x3  G = some a) (hk : (zcase (fun s : Int32 × Int32 × GS => J mX2_addsFollows F s.2.2 14 [(0, vR (some t)), (1, vI s.1), (2, vI x2), (3, vI s.2.1)] []) ((zcase (fun s : Int32 × Int32 × GS => J mX2_addsFollows F s.2.2 4 [(0, vR (some t)), (1, vI s.1), (2, vI s.2.1)] []) (zKI F)))) a) : J mX2_addsFollows F G 81 [(0, vR (some t)), (2, vI x2), (3, vI x3)] [] := by
  unfold fX2_addsFollows_81 at h
  refine j_iconst (v := 1) dX2_addsFollows_81 (by decide) ?_
  refine j_goto (tgt := 86) dX2_addsFollows_82 (by decide) ?_
  exact J.sub (zall [0, 1, 2] rfl) (wfX2_addsFollows_86 hd t x2 x3 1 G h hk)
def fbX2_addsFollows_14 (t : Nat) (x1 : Int32) (x2 : Int32) (x3 : Int32)  (G : GS) : Option ((Int32 × Int32 × GS) ⊕ ((Int32 × Int32 × GS) ⊕ ((Int32) × GS))) :=
  (zgR G 2 t 1).bind fun r1 => r1.bind fun a3 => (zaI G 50 a3 x2).bind fun v5 => if v5 ≤ x3 then (zo (fX2_addsFollows_93 t x1 x2 G)) else (zk [2] G t <| (fX2_at_0 t x2 x3 G).bind fun v10 => (fX2_isTerminal_0 v10 G).bind fun v12 => if v12 = 0 then (zk [2] G t <| (fX2_pairsFrom_0 t x2 (x3 + 1) G).bind fun G16 => (zgR G16 2 t 16).bind fun r17 => zk [2] G16 t <| (fX2_at_0 t x2 x3 G16).bind fun v21 => zk [2] G16 t <| zb2 (fX2_adds_0 t r17 (183 * (v21 - 20)) 14 G16) fun v24 G25 => if x1 = 0 then (if v24 = 0 then (fX2_addsFollows_86 t x2 x3 0 G25) else (fX2_addsFollows_81 t x2 x3 G25)) else (fX2_addsFollows_81 t x2 x3 G25)) else (fX2_addsFollows_87 t x1 x2 x3 G))
def flX2_addsFollows_14 (t : Nat) (x1 : Int32) (x2 : Int32) (x3 : Int32) (G : GS) : Option ((Int32 × Int32 × GS) ⊕ ((Int32) × GS)) := zloop (fun s : Int32 × Int32 × GS => fbX2_addsFollows_14 t s.1 x2 s.2.1 s.2.2) (x1, x3, G)
theorem wfbX2_addsFollows_14 {F : zF} (hd : 6 ≤ F.2.2.2) (t : Nat) (x1 : Int32) (x2 : Int32) (x3 : Int32) (G : GS) {a : (Int32 × Int32 × GS) ⊕ ((Int32 × Int32 × GS) ⊕ ((Int32) × GS))} (h : fbX2_addsFollows_14 t x1 x2 x3 G = some a) (hk : (zcase (fun s : Int32 × Int32 × GS => J mX2_addsFollows F s.2.2 14 [(0, vR (some t)), (1, vI s.1), (2, vI x2), (3, vI s.2.1)] []) ((zcase (fun s : Int32 × Int32 × GS => J mX2_addsFollows F s.2.2 4 [(0, vR (some t)), (1, vI s.1), (2, vI s.2.1)] []) (zKI F)))) a) : J mX2_addsFollows F G 14 [(0, vR (some t)), (1, vI x1), (2, vI x2), (3, vI x3)] [] := by
  unfold fbX2_addsFollows_14 at h
  refine j_iload_n (j := 3) dX2_addsFollows_14 rfl rfl ?_
  refine j_aload_n (j := 0) dX2_addsFollows_15 rfl rfl ?_
  replace h := zbE h
  obtain ⟨r1, e2, h⟩ := h
  refine j_getR fgX2_13 (fun _ _ _ => rfl) dX2_addsFollows_16 e2 ?_
  refine j_iload_n (j := 2) dX2_addsFollows_19 rfl rfl ?_
  replace h := zbE h
  obtain ⟨a3, e4, h⟩ := h
  subst e4
  replace h := zbE h
  obtain ⟨v5, e6, h⟩ := h
  refine j_iald (Or.inl rfl) e6 dX2_addsFollows_20 ?_
  refine j_icmp_ge (tgt := 93) dX2_addsFollows_21 (by decide) (fun c7 => ?_) (fun c7 => ?_)
  · rw [if_pos c7] at h
    replace h := zoE h
    obtain ⟨a, h, rfl⟩ := h
    replace hk := hk
    exact J.sub (zall [0, 1, 2] rfl) (wfX2_addsFollows_93 hd t x1 x2  G h hk)
  · rw [if_neg c7] at h
    refine j_aload_n (j := 0) dX2_addsFollows_24 rfl rfl ?_
    refine j_iload_n (j := 2) dX2_addsFollows_25 rfl rfl ?_
    refine j_iload_n (j := 3) dX2_addsFollows_26 rfl rfl ?_
    replace h := zkE h
    obtain ⟨e8, h⟩ := h
    replace h := zbE h
    obtain ⟨v10, e9, h⟩ := h
    refine j_cont (zrV (As := [vI x2, vI x3]) msX2_187 (yX2_at_ok e9) (Nat.le_trans (Nat.le_of_ble_eq_true rfl) hd) (zk_2 _ e8) rfl rfl (Nat.le_of_ble_eq_true rfl) dX2_addsFollows_27) ?_
    replace h := zbE h
    obtain ⟨v12, e11, h⟩ := h
    refine j_cont (zrS (As := [vI v10]) msX2_167 (yX2_isTerminal_ok e11) (Nat.le_trans (Nat.le_of_ble_eq_true rfl) hd) rfl rfl (Nat.le_of_ble_eq_true rfl) dX2_addsFollows_30) ?_
    refine j_if_eq (tgt := 39) dX2_addsFollows_33 (by decide) (fun c13 => ?_) (fun c13 => ?_)
    · rw [if_pos c13] at h
      refine j_aload_n (j := 0) dX2_addsFollows_39 rfl rfl ?_
      refine j_iload_n (j := 2) dX2_addsFollows_40 rfl rfl ?_
      refine j_iload_n (j := 3) dX2_addsFollows_41 rfl rfl ?_
      refine j_iconst (v := 1) dX2_addsFollows_42 (by decide) ?_
      refine j_iadd dX2_addsFollows_43 ?_
      replace h := zkE h
      obtain ⟨e14, h⟩ := h
      replace h := zbE h
      obtain ⟨G16, e15, h⟩ := h
      refine j_cont (zrV (As := [vI x2, vI (x3 + 1)]) msX2_266 (yX2_pairsFrom_ok e15) (Nat.le_trans (Nat.le_of_ble_eq_true rfl) hd) (zk_2 _ e14) rfl rfl (Nat.le_of_ble_eq_true rfl) dX2_addsFollows_44) ?_
      refine j_aload_n (j := 0) dX2_addsFollows_47 rfl rfl ?_
      refine j_aload_n (j := 0) dX2_addsFollows_48 rfl rfl ?_
      replace h := zbE h
      obtain ⟨r17, e18, h⟩ := h
      refine j_getR fgX2_41 (fun _ _ _ => rfl) dX2_addsFollows_49 e18 ?_
      refine j_sipush (v := 183) dX2_addsFollows_52 (by decide) ?_
      refine j_aload_n (j := 0) dX2_addsFollows_55 rfl rfl ?_
      refine j_iload_n (j := 2) dX2_addsFollows_56 rfl rfl ?_
      refine j_iload_n (j := 3) dX2_addsFollows_57 rfl rfl ?_
      replace h := zkE h
      obtain ⟨e19, h⟩ := h
      replace h := zbE h
      obtain ⟨v21, e20, h⟩ := h
      refine j_cont (zrV (As := [vI x2, vI x3]) msX2_187 (yX2_at_ok e20) (Nat.le_trans (Nat.le_of_ble_eq_true rfl) hd) (zk_2 _ e19) rfl rfl (Nat.le_of_ble_eq_true rfl) dX2_addsFollows_58) ?_
      refine j_bipush (v := 20) dX2_addsFollows_61 (by decide) ?_
      refine j_isub dX2_addsFollows_63 ?_
      refine j_imul dX2_addsFollows_64 ?_
      refine j_bipush (v := 14) dX2_addsFollows_65 (by decide) ?_
      replace h := zkE h
      obtain ⟨e22, h⟩ := h
      replace h := zb2E h
      obtain ⟨v24, G25, e23, h⟩ := h
      refine j_cont (zrV (As := [vR r17, vI (183 * (v21 - 20)), vI 14]) msX2_262 (yX2_adds_ok e23) (Nat.le_trans (Nat.le_of_ble_eq_true rfl) hd) (zk_2 _ e22) rfl rfl (Nat.le_of_ble_eq_true rfl) dX2_addsFollows_67) ?_
      refine j_istore (lv' := [(4, vI v24), (0, vR (some t)), (1, vI x1), (2, vI x2), (3, vI x3)]) dX2_addsFollows_70 (Nat.le_of_ble_eq_true rfl) rfl ?_
      refine j_iload_n (j := 2) dX2_addsFollows_72 rfl rfl ?_
      refine j_if_ne (tgt := 81) dX2_addsFollows_73 (by decide) (fun c26 => ?_) (fun c26 => ?_)
      · rw [if_pos c26] at h
        refine j_iload (j := 0) dX2_addsFollows_76 rfl ?_
        refine j_if_eq (tgt := 85) dX2_addsFollows_78 (by decide) (fun c27 => ?_) (fun c27 => ?_)
        · rw [if_pos c27] at h
          refine j_iconst (v := 0) dX2_addsFollows_85 (by decide) ?_
          exact J.sub (zall [1, 3, 4] rfl) (wfX2_addsFollows_86 hd t x2 x3 0 G25 h hk)
        · rw [if_neg c27] at h
          exact J.sub (zall [1, 3, 4] rfl) (wfX2_addsFollows_81 hd t x2 x3  G25 h hk)
      · rw [if_neg c26] at h
        exact J.sub (zall [1, 3, 4] rfl) (wfX2_addsFollows_81 hd t x2 x3  G25 h hk)
    · rw [if_neg c13] at h
      refine j_goto (tgt := 87) dX2_addsFollows_36 (by decide) ?_
      exact J.sub (zall [0, 1, 2, 3] rfl) (wfX2_addsFollows_87 hd t x1 x2 x3  G h hk)
theorem wflX2_addsFollows_14 {F : zF} (hd : 6 ≤ F.2.2.2) (t : Nat) (x1 : Int32) (x2 : Int32) (x3 : Int32) (G : GS) {a : (Int32 × Int32 × GS) ⊕ ((Int32) × GS)} (h : flX2_addsFollows_14 t x1 x2 x3 G = some a) (hk : (zcase (fun s : Int32 × Int32 × GS => J mX2_addsFollows F s.2.2 4 [(0, vR (some t)), (1, vI s.1), (2, vI s.2.1)] []) (zKI F)) a) : J mX2_addsFollows F G 14 [(0, vR (some t)), (1, vI x1), (2, vI x2), (3, vI x3)] [] := by
  unfold flX2_addsFollows_14 at h
  exact zloop_walk (P := (fun s : Int32 × Int32 × GS => J mX2_addsFollows F s.2.2 14 [(0, vR (some t)), (1, vI s.1), (2, vI x2), (3, vI s.2.1)] [])) (fun s b e hk => wfbX2_addsFollows_14 hd t s.1 x2 s.2.1 s.2.2 e hk) (x1, x3, G) _ h hk
def fbX2_addsFollows_4 (t : Nat) (x1 : Int32) (x2 : Int32)  (G : GS) : Option ((Int32 × Int32 × GS) ⊕ ((Int32) × GS)) :=
  (zgI G 2 t 6).bind fun v1 => if v1 ≤ x2 then (zo (zcond (zbb x1) (some (x1, G)))) else (flX2_addsFollows_14 t x1 x2 0 G)
def flX2_addsFollows_4 (t : Nat) (x1 : Int32) (x2 : Int32) (G : GS) : Option ((Int32) × GS) := zloop (fun s : Int32 × Int32 × GS => fbX2_addsFollows_4 t s.1 s.2.1 s.2.2) (x1, x2, G)
theorem wfbX2_addsFollows_4 {F : zF} (hd : 6 ≤ F.2.2.2) (t : Nat) (x1 : Int32) (x2 : Int32) (G : GS) {a : (Int32 × Int32 × GS) ⊕ ((Int32) × GS)} (h : fbX2_addsFollows_4 t x1 x2 G = some a) (hk : (zcase (fun s : Int32 × Int32 × GS => J mX2_addsFollows F s.2.2 4 [(0, vR (some t)), (1, vI s.1), (2, vI s.2.1)] []) (zKI F)) a) : J mX2_addsFollows F G 4 [(0, vR (some t)), (1, vI x1), (2, vI x2)] [] := by
  unfold fbX2_addsFollows_4 at h
  refine j_iload_n (j := 2) dX2_addsFollows_4 rfl rfl ?_
  refine j_aload_n (j := 0) dX2_addsFollows_5 rfl rfl ?_
  replace h := zbE h
  obtain ⟨v1, e2, h⟩ := h
  refine j_getI fgX2_113 (fun _ _ _ => rfl) dX2_addsFollows_6 e2 ?_
  refine j_icmp_ge (tgt := 99) dX2_addsFollows_9 (by decide) (fun c3 => ?_) (fun c3 => ?_)
  · rw [if_pos c3] at h
    replace h := zoE h
    obtain ⟨a, h, rfl⟩ := h
    replace hk := hk
    refine j_iload_n (j := 1) dX2_addsFollows_99 rfl rfl ?_
    replace h := zcondE h
    obtain ⟨e4, h⟩ := h
    obtain rfl := Option.some.inj h
    exact j_zret hk.1 hk.2 rfl (zbb_n e4) dX2_addsFollows_100
  · rw [if_neg c3] at h
    refine j_iconst (v := 0) dX2_addsFollows_12 (by decide) ?_
    refine j_istore_n (lv' := [(3, vI 0), (0, vR (some t)), (1, vI x1), (2, vI x2)]) dX2_addsFollows_13 rfl (Nat.le_of_ble_eq_true rfl) rfl ?_
    exact J.sub (zall [1, 2, 3, 0] rfl) (wflX2_addsFollows_14 hd t x1 x2 0  G h hk)
theorem wflX2_addsFollows_4 {F : zF} (hd : 6 ≤ F.2.2.2) (t : Nat) (x1 : Int32) (x2 : Int32) (G : GS) {a : (Int32) × GS} (h : flX2_addsFollows_4 t x1 x2 G = some a) (hk : zKI F a) : J mX2_addsFollows F G 4 [(0, vR (some t)), (1, vI x1), (2, vI x2)] [] := by
  unfold flX2_addsFollows_4 at h
  exact zloop_walk (P := (fun s : Int32 × Int32 × GS => J mX2_addsFollows F s.2.2 4 [(0, vR (some t)), (1, vI s.1), (2, vI s.2.1)] [])) (fun s b e hk => wfbX2_addsFollows_4 hd t s.1 s.2.1 s.2.2 e hk) (x1, x2, G) _ h hk
def fX2_addsFollows_0 (t : Nat)  (G : GS) : Option ((Int32) × GS) :=
  flX2_addsFollows_4 t 0 0 G
theorem wfX2_addsFollows_0 {F : zF} (hd : 6 ≤ F.2.2.2) (t : Nat)  (G : GS) {a : (Int32) × GS} (h : fX2_addsFollows_0 t  G = some a) (hk : zKI F a) : J mX2_addsFollows F G 0 [(0, vR (some t))] [] := by
  unfold fX2_addsFollows_0 at h
  refine j_iconst (v := 0) dX2_addsFollows_0 (by decide) ?_
  refine j_istore_n (lv' := [(1, vI 0), (0, vR (some t))]) dX2_addsFollows_1 rfl (Nat.le_of_ble_eq_true rfl) rfl ?_
  refine j_iconst (v := 0) dX2_addsFollows_2 (by decide) ?_
  refine j_istore_n (lv' := [(2, vI 0), (1, vI 0), (0, vR (some t))]) dX2_addsFollows_3 rfl (Nat.le_of_ble_eq_true rfl) rfl ?_
  exact J.sub (zall [2, 1, 0] rfl) (wflX2_addsFollows_4 hd t 0 0  G h hk)
theorem yX2_addsFollows_ok {t : Nat} {G : GS} {r : Int32} {G1 : GS} (h : fX2_addsFollows_0 t G = some (r, G1)) : zRuns yX2_addsFollows (ws_ yX2_addsFollows cX2_addsFollows 5 (some Jvm.ClassFile.FieldType.boolean)) [vR (some t)] (.inl (some (vI r)), G, G1, 6) :=
  zentry (M := mX2_addsFollows) (plainFor_of_name (by decide +kernel)) ⟨rfl, rfl, rfl, rfl⟩ (Nat.le_of_ble_eq_true rfl) (wfX2_addsFollows_0 (Nat.le_refl _) t G h ⟨rfl, rfl⟩)
theorem fpX2_195_X2 : zFP RX2 195 1 11 (.int) false := ⟨(RX2, TX2, 42, tyX2), rfl, by decide, in_X2, tyX2_ok, nmX2, rfl, rfl, (by decide), "SelahGeneratorModel", Or.inl rfl, q2683⟩
abbrev mX2_addsNullable : zM := (cX2_addsNullable, RX2, 3, (some Jvm.ClassFile.FieldType.boolean), "addsNullable", [], "()Z")
def fX2_addsNullable_50 (t : Nat) (x1 : Int32)  (G : GS) : Option ((Int32) × GS) :=
  (zgI G 2 t 11).bind fun v1 => if v1 = x1 then (zcond (zbb 0) (some (0, G))) else (zcond (zbb 1) (some (1, G)))
theorem wfX2_addsNullable_50 {F : zF} (hd : 5 ≤ F.2.2.2) (t : Nat) (x1 : Int32)  (G : GS) {a : (Int32) × GS} (h : fX2_addsNullable_50 t x1  G = some a) (hk : zKI F a) : J mX2_addsNullable F G 50 [(0, vR (some t)), (1, vI x1)] [] := by
  unfold fX2_addsNullable_50 at h
  refine j_aload_n (j := 0) dX2_addsNullable_50 rfl rfl ?_
  replace h := zbE h
  obtain ⟨v1, e2, h⟩ := h
  refine j_getI fgX2_195 (fun _ _ _ => rfl) dX2_addsNullable_51 e2 ?_
  refine j_iload_n (j := 1) dX2_addsNullable_54 rfl rfl ?_
  refine j_icmp_eq (tgt := 62) dX2_addsNullable_55 (by decide) (fun c3 => ?_) (fun c3 => ?_)
  · rw [if_pos c3] at h
    refine j_iconst (v := 0) dX2_addsNullable_62 (by decide) ?_
    replace h := zcondE h
    obtain ⟨e4, h⟩ := h
    obtain rfl := Option.some.inj h
    exact j_zret hk.1 hk.2 rfl (zbb_n e4) dX2_addsNullable_63
  · rw [if_neg c3] at h
    refine j_iconst (v := 1) dX2_addsNullable_58 (by decide) ?_
    refine j_goto (tgt := 63) dX2_addsNullable_59 (by decide) ?_
    replace h := zcondE h
    obtain ⟨e5, h⟩ := h
    obtain rfl := Option.some.inj h
    exact j_zret hk.1 hk.2 rfl (zbb_n e5) dX2_addsNullable_63
def fX2_addsNullable_44 (t : Nat) (x1 : Int32) (x2 : Int32)  (G : GS) : Option ((Int32 × GS) ⊕ ((Int32) × GS)) :=
  some (.inl ((x2 + 1), G))
theorem wfX2_addsNullable_44 {F : zF} (hd : 5 ≤ F.2.2.2) (t : Nat) (x1 : Int32) (x2 : Int32)  (G : GS) {a : (Int32 × GS) ⊕ ((Int32) × GS)} (h : fX2_addsNullable_44 t x1 x2  G = some a) (hk : (zcase (fun s : Int32 × GS => J mX2_addsNullable F s.2 7 [(0, vR (some t)), (1, vI x1), (2, vI s.1)] []) (zKI F)) a) : J mX2_addsNullable F G 44 [(0, vR (some t)), (1, vI x1), (2, vI x2)] [] := by
  unfold fX2_addsNullable_44 at h
  refine j_iinc (j := 2) (v := (x2 + 1)) (lv' := [(2, vI (x2 + 1)), (0, vR (some t)), (1, vI x1)]) dX2_addsNullable_44 rfl rfl (Nat.le_of_ble_eq_true rfl) rfl ?_
  refine j_goto (tgt := 7) dX2_addsNullable_47 (by decide) ?_
  obtain rfl := Option.some.inj h
  exact J.sub (zall [1, 2, 0] rfl) hk
def fbX2_addsNullable_7 (t : Nat) (x1 : Int32) (x2 : Int32)  (G : GS) : Option ((Int32 × GS) ⊕ ((Int32) × GS)) :=
  (zgI G 2 t 6).bind fun v1 => if v1 ≤ x2 then (zo (fX2_addsNullable_50 t x1 G)) else (zk [2] G t <| (fX2_areEmptyable_0 t x2 0 G).bind fun v6 => if v6 = 0 then (fX2_addsNullable_44 t x1 x2 G) else ((zgI G 2 t 11).bind fun v8 => (zgR G 2 t 0).bind fun r10 => r10.bind fun a12 => (zaI G 50 a12 x2).bind fun v14 => (zpI G 2 t 11 (v8 ||| ((1 : Int32) <<< ((v14 - 20) &&& 31)))).bind fun G16 => fX2_addsNullable_44 t x1 x2 G16))
def flX2_addsNullable_7 (t : Nat) (x1 : Int32) (x2 : Int32) (G : GS) : Option ((Int32) × GS) := zloop (fun s : Int32 × GS => fbX2_addsNullable_7 t x1 s.1 s.2) (x2, G)
theorem wfbX2_addsNullable_7 {F : zF} (hd : 5 ≤ F.2.2.2) (t : Nat) (x1 : Int32) (x2 : Int32) (G : GS) {a : (Int32 × GS) ⊕ ((Int32) × GS)} (h : fbX2_addsNullable_7 t x1 x2 G = some a) (hk : (zcase (fun s : Int32 × GS => J mX2_addsNullable F s.2 7 [(0, vR (some t)), (1, vI x1), (2, vI s.1)] []) (zKI F)) a) : J mX2_addsNullable F G 7 [(0, vR (some t)), (1, vI x1), (2, vI x2)] [] := by
  unfold fbX2_addsNullable_7 at h
  refine j_iload_n (j := 2) dX2_addsNullable_7 rfl rfl ?_
  refine j_aload_n (j := 0) dX2_addsNullable_8 rfl rfl ?_
  replace h := zbE h
  obtain ⟨v1, e2, h⟩ := h
  refine j_getI fgX2_113 (fun _ _ _ => rfl) dX2_addsNullable_9 e2 ?_
  refine j_icmp_ge (tgt := 50) dX2_addsNullable_12 (by decide) (fun c3 => ?_) (fun c3 => ?_)
  · rw [if_pos c3] at h
    replace h := zoE h
    obtain ⟨a, h, rfl⟩ := h
    replace hk := hk
    exact J.sub (zall [0, 1] rfl) (wfX2_addsNullable_50 hd t x1  G h hk)
  · rw [if_neg c3] at h
    refine j_aload_n (j := 0) dX2_addsNullable_15 rfl rfl ?_
    refine j_iload_n (j := 2) dX2_addsNullable_16 rfl rfl ?_
    refine j_iconst (v := 0) dX2_addsNullable_17 (by decide) ?_
    replace h := zkE h
    obtain ⟨e4, h⟩ := h
    replace h := zbE h
    obtain ⟨v6, e5, h⟩ := h
    refine j_cont (zrV (As := [vI x2, vI 0]) msX2_208 (yX2_areEmptyable_ok e5) (Nat.le_trans (Nat.le_of_ble_eq_true rfl) hd) (zk_2 _ e4) rfl rfl (Nat.le_of_ble_eq_true rfl) dX2_addsNullable_18) ?_
    refine j_if_eq (tgt := 44) dX2_addsNullable_21 (by decide) (fun c7 => ?_) (fun c7 => ?_)
    · rw [if_pos c7] at h
      exact J.sub (zall [0, 1, 2] rfl) (wfX2_addsNullable_44 hd t x1 x2  G h hk)
    · rw [if_neg c7] at h
      refine j_aload_n (j := 0) dX2_addsNullable_24 rfl rfl ?_
      refine j_dup dX2_addsNullable_25 rfl ?_
      replace h := zbE h
      obtain ⟨v8, e9, h⟩ := h
      refine j_getI fgX2_195 (fun _ _ _ => rfl) dX2_addsNullable_26 e9 ?_
      refine j_iconst (v := 1) dX2_addsNullable_29 (by decide) ?_
      refine j_aload_n (j := 0) dX2_addsNullable_30 rfl rfl ?_
      replace h := zbE h
      obtain ⟨r10, e11, h⟩ := h
      refine j_getR fgX2_7 (fun _ _ _ => rfl) dX2_addsNullable_31 e11 ?_
      refine j_iload_n (j := 2) dX2_addsNullable_34 rfl rfl ?_
      replace h := zbE h
      obtain ⟨a12, e13, h⟩ := h
      subst e13
      replace h := zbE h
      obtain ⟨v14, e15, h⟩ := h
      refine j_iald (Or.inl rfl) e15 dX2_addsNullable_35 ?_
      refine j_bipush (v := 20) dX2_addsNullable_36 (by decide) ?_
      refine j_isub dX2_addsNullable_38 ?_
      refine j_ishl dX2_addsNullable_39 ?_
      refine j_ior dX2_addsNullable_40 ?_
      replace h := zbE h
      obtain ⟨G16, e17, h⟩ := h
      refine j_putI fpX2_195_X2 (Or.inl rfl) rfl dX2_addsNullable_41 e17 ?_
      exact J.sub (zall [0, 1, 2] rfl) (wfX2_addsNullable_44 hd t x1 x2  G16 h hk)
theorem wflX2_addsNullable_7 {F : zF} (hd : 5 ≤ F.2.2.2) (t : Nat) (x1 : Int32) (x2 : Int32) (G : GS) {a : (Int32) × GS} (h : flX2_addsNullable_7 t x1 x2 G = some a) (hk : zKI F a) : J mX2_addsNullable F G 7 [(0, vR (some t)), (1, vI x1), (2, vI x2)] [] := by
  unfold flX2_addsNullable_7 at h
  exact zloop_walk (P := (fun s : Int32 × GS => J mX2_addsNullable F s.2 7 [(0, vR (some t)), (1, vI x1), (2, vI s.1)] [])) (fun s b e hk => wfbX2_addsNullable_7 hd t x1 s.1 s.2 e hk) (x2, G) _ h hk
def fX2_addsNullable_0 (t : Nat)  (G : GS) : Option ((Int32) × GS) :=
  (zgI G 2 t 11).bind fun v1 => flX2_addsNullable_7 t v1 0 G
theorem wfX2_addsNullable_0 {F : zF} (hd : 5 ≤ F.2.2.2) (t : Nat)  (G : GS) {a : (Int32) × GS} (h : fX2_addsNullable_0 t  G = some a) (hk : zKI F a) : J mX2_addsNullable F G 0 [(0, vR (some t))] [] := by
  unfold fX2_addsNullable_0 at h
  refine j_aload_n (j := 0) dX2_addsNullable_0 rfl rfl ?_
  replace h := zbE h
  obtain ⟨v1, e2, h⟩ := h
  refine j_getI fgX2_195 (fun _ _ _ => rfl) dX2_addsNullable_1 e2 ?_
  refine j_istore_n (lv' := [(1, vI v1), (0, vR (some t))]) dX2_addsNullable_4 rfl (Nat.le_of_ble_eq_true rfl) rfl ?_
  refine j_iconst (v := 0) dX2_addsNullable_5 (by decide) ?_
  refine j_istore_n (lv' := [(2, vI 0), (1, vI v1), (0, vR (some t))]) dX2_addsNullable_6 rfl (Nat.le_of_ble_eq_true rfl) rfl ?_
  exact J.sub (zall [2, 1, 0] rfl) (wflX2_addsNullable_7 hd t v1 0  G h hk)
theorem yX2_addsNullable_ok {t : Nat} {G : GS} {r : Int32} {G1 : GS} (h : fX2_addsNullable_0 t G = some (r, G1)) : zRuns yX2_addsNullable (ws_ yX2_addsNullable cX2_addsNullable 3 (some Jvm.ClassFile.FieldType.boolean)) [vR (some t)] (.inl (some (vI r)), G, G1, 5) :=
  zentry (M := mX2_addsNullable) (plainFor_of_name (by decide +kernel)) ⟨rfl, rfl, rfl, rfl⟩ (Nat.le_of_ble_eq_true rfl) (wfX2_addsNullable_0 (Nat.le_refl _) t G h ⟨rfl, rfl⟩)
abbrev mX2_isRule : zM := (cX2_isRule, RX2, 2, (some Jvm.ClassFile.FieldType.boolean), "isRule", [], "(I)Z")
def fX2_isRule_0 (t : Nat) (x1 : Int32)  (G : GS) : Option (Int32) :=
  (zgI G 2 t 6).bind fun v1 => (fX2_isIn_0 x1.toInt64 0 ((v1 - 1).toInt64) G).bind fun v4 => zcond (zbb v4) (some v4)
theorem wfX2_isRule_0 {F : zF} (hd : 2 ≤ F.2.2.2) (t : Nat) (x1 : Int32)  (G : GS) {a : Int32} (h : fX2_isRule_0 t x1  G = some a) (hk : zKPI F G a) : J mX2_isRule F G 0 [(0, vR (some t)), (1, vI x1)] [] := by
  unfold fX2_isRule_0 at h
  refine j_iload_n (j := 1) dX2_isRule_0 rfl rfl ?_
  refine j_i2l dX2_isRule_1 ?_
  refine j_lconst (v := 0) dX2_isRule_2 rfl ?_
  refine j_aload_n (j := 0) dX2_isRule_3 rfl rfl ?_
  replace h := zbE h
  obtain ⟨v1, e2, h⟩ := h
  refine j_getI fgX2_113 (fun _ _ _ => rfl) dX2_isRule_4 e2 ?_
  refine j_iconst (v := 1) dX2_isRule_7 (by decide) ?_
  refine j_isub dX2_isRule_8 ?_
  refine j_i2l dX2_isRule_9 ?_
  replace h := zbE h
  obtain ⟨v4, e3, h⟩ := h
  refine j_cont (zrS (As := [vL x1.toInt64, vL 0, vL ((v1 - 1).toInt64)]) msX2_103 (yX2_isIn_ok e3) (Nat.le_trans (Nat.le_of_ble_eq_true rfl) hd) rfl rfl (Nat.le_of_ble_eq_true rfl) dX2_isRule_10) ?_
  replace h := zcondE h
  obtain ⟨e5, h⟩ := h
  obtain rfl := Option.some.inj h
  exact j_zret hk.1 hk.2 rfl (zbb_n e5) dX2_isRule_13
theorem yX2_isRule_ok {t : Nat} {x1 : Int32} {G : GS} {r : Int32} (h : fX2_isRule_0 t x1 G = some r) : zRuns yX2_isRule (ws_ yX2_isRule cX2_isRule 2 (some Jvm.ClassFile.FieldType.boolean)) [vR (some t), vI x1] (.inl (some (vI r)), G, G, 2) :=
  zentry (M := mX2_isRule) (plainFor_of_name (by decide +kernel)) ⟨rfl, rfl, rfl, rfl⟩ (Nat.le_of_ble_eq_true rfl) (wfX2_isRule_0 (Nat.le_refl _) t x1 G h ⟨rfl, rfl⟩)
end
