/-! printed: functions and walks -/
set_option maxRecDepth 100000
noncomputable section
abbrev mX2_goesThree : zM := (cX2_goesThree, RX2, 4, (some Jvm.ClassFile.FieldType.boolean), "goesThree", [], "(ZZZ)Z")
def fX2_goesThree_26 (t : Nat) (s0 : Option Nat) (s1 : Int32) (G : GS) : Option ((Int32) × GS) :=
  s0.bind fun a1 => (zpI G 2 a1 8 s1).bind fun G3 => (zgI G3 2 t 8).bind fun v5 => if v5 = 0 then (zcond (zbb 1) (some (1, G3))) else (zcond (zbb 0) (some (0, G3)))
theorem wfX2_goesThree_26 {F : zF} (hd : 1 ≤ F.2.2.2) (t : Nat) (s0 : Option Nat) (s1 : Int32) (G : GS) {a : (Int32) × GS} (h : fX2_goesThree_26 t s0 s1 G = some a) (hk : zKI F a) : J mX2_goesThree F G 26 [(0, vR (some t))] [vI s1, vR s0] := by
  unfold fX2_goesThree_26 at h
  replace h := zbE h
  obtain ⟨a1, e2, h⟩ := h
  subst e2
  replace h := zbE h
  obtain ⟨G3, e4, h⟩ := h
  refine j_putI fpX2_93_X2 (Or.inl rfl) rfl dX2_goesThree_26 e4 ?_
  refine j_aload_n (j := 0) dX2_goesThree_29 rfl rfl ?_
  replace h := zbE h
  obtain ⟨v5, e6, h⟩ := h
  refine j_getI fgX2_93 (fun _ _ _ => rfl) dX2_goesThree_30 e6 ?_
  refine j_if_ne (tgt := 40) dX2_goesThree_33 (by decide) (fun c7 => ?_) (fun c7 => ?_)
  · rw [if_pos c7] at h
    refine j_iconst (v := 1) dX2_goesThree_36 (by decide) ?_
    refine j_goto (tgt := 41) dX2_goesThree_37 (by decide) ?_
    replace h := zcondE h
    obtain ⟨e8, h⟩ := h
    obtain rfl := Option.some.inj h
    exact j_zret hk.1 hk.2 rfl (zbb_n e8) dX2_goesThree_41
  · rw [if_neg c7] at h
    refine j_iconst (v := 0) dX2_goesThree_40 (by decide) ?_
    replace h := zcondE h
    obtain ⟨e9, h⟩ := h
    obtain rfl := Option.some.inj h
    exact j_zret hk.1 hk.2 rfl (zbb_n e9) dX2_goesThree_41
def fX2_goesThree_0 (t : Nat) (x1 : Int32) (x2 : Int32) (x3 : Int32)  (G : GS) : Option ((Int32) × GS) :=
  if x1 = 0 then (fX2_goesThree_26 t (some t) 1 G) else (if x2 = 0 then (fX2_goesThree_26 t (some t) 2 G) else (if x3 = 0 then (fX2_goesThree_26 t (some t) 3 G) else (fX2_goesThree_26 t (some t) 0 G)))
theorem wfX2_goesThree_0 {F : zF} (hd : 1 ≤ F.2.2.2) (t : Nat) (x1 : Int32) (x2 : Int32) (x3 : Int32)  (G : GS) {a : (Int32) × GS} (h : fX2_goesThree_0 t x1 x2 x3  G = some a) (hk : zKI F a) : J mX2_goesThree F G 0 [(0, vR (some t)), (1, vI x1), (2, vI x2), (3, vI x3)] [] := by
  unfold fX2_goesThree_0 at h
  refine j_aload_n (j := 0) dX2_goesThree_0 rfl rfl ?_
  refine j_iload_n (j := 1) dX2_goesThree_1 rfl rfl ?_
  refine j_if_ne (tgt := 9) dX2_goesThree_2 (by decide) (fun c1 => ?_) (fun c1 => ?_)
  · rw [if_pos c1] at h
    refine j_iconst (v := 1) dX2_goesThree_5 (by decide) ?_
    refine j_goto (tgt := 26) dX2_goesThree_6 (by decide) ?_
    exact J.sub (zall [0] rfl) (wfX2_goesThree_26 hd t (some t) 1 G h hk)
  · rw [if_neg c1] at h
    refine j_iload_n (j := 2) dX2_goesThree_9 rfl rfl ?_
    refine j_if_ne (tgt := 17) dX2_goesThree_10 (by decide) (fun c2 => ?_) (fun c2 => ?_)
    · rw [if_pos c2] at h
      refine j_iconst (v := 2) dX2_goesThree_13 (by decide) ?_
      refine j_goto (tgt := 26) dX2_goesThree_14 (by decide) ?_
      exact J.sub (zall [0] rfl) (wfX2_goesThree_26 hd t (some t) 2 G h hk)
    · rw [if_neg c2] at h
      refine j_iload_n (j := 3) dX2_goesThree_17 rfl rfl ?_
      refine j_if_ne (tgt := 25) dX2_goesThree_18 (by decide) (fun c3 => ?_) (fun c3 => ?_)
      · rw [if_pos c3] at h
        refine j_iconst (v := 3) dX2_goesThree_21 (by decide) ?_
        refine j_goto (tgt := 26) dX2_goesThree_22 (by decide) ?_
        exact J.sub (zall [0] rfl) (wfX2_goesThree_26 hd t (some t) 3 G h hk)
      · rw [if_neg c3] at h
        refine j_iconst (v := 0) dX2_goesThree_25 (by decide) ?_
        exact J.sub (zall [0] rfl) (wfX2_goesThree_26 hd t (some t) 0 G h hk)
theorem yX2_goesThree_ok {t : Nat} {x1 : Int32} {x2 : Int32} {x3 : Int32} {G : GS} {r : Int32} {G1 : GS} (h : fX2_goesThree_0 t x1 x2 x3 G = some (r, G1)) : zRuns yX2_goesThree (ws_ yX2_goesThree cX2_goesThree 4 (some Jvm.ClassFile.FieldType.boolean)) [vR (some t), vI x1, vI x2, vI x3] (.inl (some (vI r)), G, G1, 1) :=
  zentry (M := mX2_goesThree) (plainFor_of_name (by decide +kernel)) ⟨rfl, rfl, rfl, rfl⟩ (Nat.le_of_ble_eq_true rfl) (wfX2_goesThree_0 (Nat.le_refl _) t x1 x2 x3 G h ⟨rfl, rfl⟩)
abbrev mX2_puts : zM := (cX2_puts, RX2, 3, none, "puts", [], "(II)V")
def fX2_puts_0 (t : Nat) (x1 : Int32) (x2 : Int32)  (G : GS) : Option (GS) :=
  (zgR G 2 t 2).bind fun r1 => (zgR G 2 t 1).bind fun r3 => r3.bind fun a5 => (zaI G 50 a5 x1).bind fun v7 => r1.bind fun a9 => (zsI G 50 a9 ((20 * x1) + v7) x2).bind fun G11 => (zgR G11 2 t 1).bind fun r13 => r13.bind fun a15 => (zaI G11 50 a15 x1).bind fun v17 => (zsI G11 50 a15 x1 (v17 + 1)).bind fun G19 => some G19
theorem wfX2_puts_0 {F : zF} (hd : 1 ≤ F.2.2.2) (t : Nat) (x1 : Int32) (x2 : Int32)  (G : GS) {a : GS} (h : fX2_puts_0 t x1 x2  G = some a) (hk : zKV F a) : J mX2_puts F G 0 [(0, vR (some t)), (1, vI x1), (2, vI x2)] [] := by
  unfold fX2_puts_0 at h
  refine j_aload_n (j := 0) dX2_puts_0 rfl rfl ?_
  replace h := zbE h
  obtain ⟨r1, e2, h⟩ := h
  refine j_getR fgX2_16 (fun _ _ _ => rfl) dX2_puts_1 e2 ?_
  refine j_bipush (v := 20) dX2_puts_4 (by decide) ?_
  refine j_iload_n (j := 1) dX2_puts_6 rfl rfl ?_
  refine j_imul dX2_puts_7 ?_
  refine j_aload_n (j := 0) dX2_puts_8 rfl rfl ?_
  replace h := zbE h
  obtain ⟨r3, e4, h⟩ := h
  refine j_getR fgX2_13 (fun _ _ _ => rfl) dX2_puts_9 e4 ?_
  refine j_iload_n (j := 1) dX2_puts_12 rfl rfl ?_
  replace h := zbE h
  obtain ⟨a5, e6, h⟩ := h
  subst e6
  replace h := zbE h
  obtain ⟨v7, e8, h⟩ := h
  refine j_iald (Or.inl rfl) e8 dX2_puts_13 ?_
  refine j_iadd dX2_puts_14 ?_
  refine j_iload_n (j := 2) dX2_puts_15 rfl rfl ?_
  replace h := zbE h
  obtain ⟨a9, e10, h⟩ := h
  subst e10
  replace h := zbE h
  obtain ⟨G11, e12, h⟩ := h
  refine j_iast e12 dX2_puts_16 ?_
  refine j_aload_n (j := 0) dX2_puts_17 rfl rfl ?_
  replace h := zbE h
  obtain ⟨r13, e14, h⟩ := h
  refine j_getR fgX2_13 (fun _ _ _ => rfl) dX2_puts_18 e14 ?_
  refine j_iload_n (j := 1) dX2_puts_21 rfl rfl ?_
  refine j_dup2_11 dX2_puts_22 rfl rfl ?_
  replace h := zbE h
  obtain ⟨a15, e16, h⟩ := h
  subst e16
  replace h := zbE h
  obtain ⟨v17, e18, h⟩ := h
  refine j_iald (Or.inl rfl) e18 dX2_puts_23 ?_
  refine j_iconst (v := 1) dX2_puts_24 (by decide) ?_
  refine j_iadd dX2_puts_25 ?_
  replace h := zbE h
  obtain ⟨G19, e20, h⟩ := h
  refine j_iast e20 dX2_puts_26 ?_
  obtain rfl := Option.some.inj h
  exact j_vret hk.1 hk.2 rfl dX2_puts_27
theorem yX2_puts_ok {t : Nat} {x1 : Int32} {x2 : Int32} {G : GS} {G1 : GS} (h : fX2_puts_0 t x1 x2 G = some G1) : zRuns yX2_puts (ws_ yX2_puts cX2_puts 3 none) [vR (some t), vI x1, vI x2] (.inl none, G, G1, 1) :=
  zentry (M := mX2_puts) (plainFor_of_name (by decide +kernel)) ⟨rfl, rfl, rfl, rfl⟩ (Nat.le_of_ble_eq_true rfl) (wfX2_puts_0 (Nat.le_refl _) t x1 x2 G h ⟨rfl, rfl⟩)
theorem msX2_164 : zSV RX2 164 RX2 yX2_isRule cX2_isRule 2 (some Jvm.ClassFile.FieldType.boolean) 1 := ⟨lw_V q2840 q2842 qs63 q131 q2843, (by decide +kernel), (by decide)⟩
theorem msX2_170 : zSV RX2 170 RX2 yX2_goesThree cX2_goesThree 4 (some Jvm.ClassFile.FieldType.boolean) 3 := ⟨lw_V q2848 q2850 qs64 q131 q2851, (by decide +kernel), (by decide)⟩
theorem msX2_174 : zSV RX2 174 RX2 yX2_puts cX2_puts 3 none 2 := ⟨lw_V q2852 q2854 qs65 q131 q2855, (by decide +kernel), (by decide)⟩
abbrev mX2_append : zM := (cX2_append, RX2, 3, (some Jvm.ClassFile.FieldType.int), "append", [], "(II)I")
def fX2_append_49 (t : Nat) (x1 : Int32) (x2 : Int32) (s0 : Option Nat) (s1 : Int32) (s2 : Int32) (s3 : Int32) (G : GS) : Option ((Int32) × GS) :=
  s0.bind fun a1 => zk [2] G a1 <| zb2 (fX2_goesThree_0 a1 s1 s2 s3 G) fun v5 G6 => if v5 = 0 then (some (0, G6)) else (zk [2] G6 t <| (fX2_changes_0 t G6).bind fun G10 => zk [2] G10 t <| (fX2_puts_0 t x1 x2 G10).bind fun G13 => (zgR G13 2 t 1).bind fun r14 => r14.bind fun a16 => (zaI G13 50 a16 x1).bind fun v18 => some (v18, G13))
theorem wfX2_append_49 {F : zF} (hd : 3 ≤ F.2.2.2) (t : Nat) (x1 : Int32) (x2 : Int32) (s0 : Option Nat) (s1 : Int32) (s2 : Int32) (s3 : Int32) (G : GS) {a : (Int32) × GS} (h : fX2_append_49 t x1 x2 s0 s1 s2 s3 G = some a) (hk : zKI F a) : J mX2_append F G 49 [(0, vR (some t)), (1, vI x1), (2, vI x2)] [vI s3, vI s2, vI s1, vR s0] := by
  unfold fX2_append_49 at h
  replace h := zbE h
  obtain ⟨a1, e2, h⟩ := h
  subst e2
  replace h := zkE h
  obtain ⟨e3, h⟩ := h
  replace h := zb2E h
  obtain ⟨v5, G6, e4, h⟩ := h
  refine j_cont (zrV (As := [vI s1, vI s2, vI s3]) msX2_170 (yX2_goesThree_ok e4) (Nat.le_trans (Nat.le_of_ble_eq_true rfl) hd) (zk_2 _ e3) rfl rfl (Nat.le_of_ble_eq_true rfl) dX2_append_49) ?_
  refine j_if_ne (tgt := 57) dX2_append_52 (by decide) (fun c7 => ?_) (fun c7 => ?_)
  · rw [if_pos c7] at h
    refine j_iconst (v := 0) dX2_append_55 (by decide) ?_
    obtain rfl := Option.some.inj h
    exact j_iret hk.1 hk.2 rfl dX2_append_56
  · rw [if_neg c7] at h
    refine j_aload_n (j := 0) dX2_append_57 rfl rfl ?_
    replace h := zkE h
    obtain ⟨e8, h⟩ := h
    replace h := zbE h
    obtain ⟨G10, e9, h⟩ := h
    refine j_cont (zrV (As := []) msX2_157 (yX2_changes_ok e9) (Nat.le_trans (Nat.le_of_ble_eq_true rfl) hd) (zk_2 _ e8) rfl rfl (Nat.le_of_ble_eq_true rfl) dX2_append_58) ?_
    refine j_aload_n (j := 0) dX2_append_61 rfl rfl ?_
    refine j_iload_n (j := 1) dX2_append_62 rfl rfl ?_
    refine j_iload_n (j := 2) dX2_append_63 rfl rfl ?_
    replace h := zkE h
    obtain ⟨e11, h⟩ := h
    replace h := zbE h
    obtain ⟨G13, e12, h⟩ := h
    refine j_cont (zrV (As := [vI x1, vI x2]) msX2_174 (yX2_puts_ok e12) (Nat.le_trans (Nat.le_of_ble_eq_true rfl) hd) (zk_2 _ e11) rfl rfl (Nat.le_of_ble_eq_true rfl) dX2_append_64) ?_
    refine j_aload_n (j := 0) dX2_append_67 rfl rfl ?_
    replace h := zbE h
    obtain ⟨r14, e15, h⟩ := h
    refine j_getR fgX2_13 (fun _ _ _ => rfl) dX2_append_68 e15 ?_
    refine j_iload_n (j := 1) dX2_append_71 rfl rfl ?_
    replace h := zbE h
    obtain ⟨a16, e17, h⟩ := h
    subst e17
    replace h := zbE h
    obtain ⟨v18, e19, h⟩ := h
    refine j_iald (Or.inl rfl) e19 dX2_append_72 ?_
    obtain rfl := Option.some.inj h
    exact j_iret hk.1 hk.2 rfl dX2_append_73
def fX2_append_48 (t : Nat) (x1 : Int32) (x2 : Int32) (s0 : Option Nat) (s1 : Int32) (s2 : Int32) (G : GS) : Option ((Int32) × GS) :=
  fX2_append_49 t x1 x2 s0 s1 s2 0 G
theorem wfX2_append_48 {F : zF} (hd : 3 ≤ F.2.2.2) (t : Nat) (x1 : Int32) (x2 : Int32) (s0 : Option Nat) (s1 : Int32) (s2 : Int32) (G : GS) {a : (Int32) × GS} (h : fX2_append_48 t x1 x2 s0 s1 s2 G = some a) (hk : zKI F a) : J mX2_append F G 48 [(0, vR (some t)), (1, vI x1), (2, vI x2)] [vI s2, vI s1, vR s0] := by
  unfold fX2_append_48 at h
  refine j_iconst (v := 0) dX2_append_48 (by decide) ?_
  exact J.sub (zall [0, 1, 2] rfl) (wfX2_append_49 hd t x1 x2 s0 s1 s2 0 G h hk)
def fX2_append_25 (t : Nat) (x1 : Int32) (x2 : Int32) (s0 : Option Nat) (s1 : Int32) (s2 : Int32) (G : GS) : Option ((Int32) × GS) :=
  zk [2] G t <| (fX2_isRule_0 t x1 G).bind fun v3 => if v3 = 0 then (fX2_append_48 t x1 x2 s0 s1 s2 G) else ((zgR G 2 t 1).bind fun r5 => r5.bind fun a7 => (zaI G 50 a7 x1).bind fun v9 => if 10 ≤ v9 then (fX2_append_48 t x1 x2 s0 s1 s2 G) else (fX2_append_49 t x1 x2 s0 s1 s2 1 G))
theorem wfX2_append_25 {F : zF} (hd : 3 ≤ F.2.2.2) (t : Nat) (x1 : Int32) (x2 : Int32) (s0 : Option Nat) (s1 : Int32) (s2 : Int32) (G : GS) {a : (Int32) × GS} (h : fX2_append_25 t x1 x2 s0 s1 s2 G = some a) (hk : zKI F a) : J mX2_append F G 25 [(0, vR (some t)), (1, vI x1), (2, vI x2)] [vI s2, vI s1, vR s0] := by
  unfold fX2_append_25 at h
  refine j_aload_n (j := 0) dX2_append_25 rfl rfl ?_
  refine j_iload_n (j := 1) dX2_append_26 rfl rfl ?_
  replace h := zkE h
  obtain ⟨e1, h⟩ := h
  replace h := zbE h
  obtain ⟨v3, e2, h⟩ := h
  refine j_cont (zrV (As := [vI x1]) msX2_164 (yX2_isRule_ok e2) (Nat.le_trans (Nat.le_of_ble_eq_true rfl) hd) (zk_2 _ e1) rfl rfl (Nat.le_of_ble_eq_true rfl) dX2_append_27) ?_
  refine j_if_eq (tgt := 48) dX2_append_30 (by decide) (fun c4 => ?_) (fun c4 => ?_)
  · rw [if_pos c4] at h
    exact J.sub (zall [0, 1, 2] rfl) (wfX2_append_48 hd t x1 x2 s0 s1 s2 G h hk)
  · rw [if_neg c4] at h
    refine j_aload_n (j := 0) dX2_append_33 rfl rfl ?_
    replace h := zbE h
    obtain ⟨r5, e6, h⟩ := h
    refine j_getR fgX2_13 (fun _ _ _ => rfl) dX2_append_34 e6 ?_
    refine j_iload_n (j := 1) dX2_append_37 rfl rfl ?_
    replace h := zbE h
    obtain ⟨a7, e8, h⟩ := h
    subst e8
    replace h := zbE h
    obtain ⟨v9, e10, h⟩ := h
    refine j_iald (Or.inl rfl) e10 dX2_append_38 ?_
    refine j_bipush (v := 10) dX2_append_39 (by decide) ?_
    refine j_icmp_ge (tgt := 48) dX2_append_41 (by decide) (fun c11 => ?_) (fun c11 => ?_)
    · rw [if_pos c11] at h
      exact J.sub (zall [0, 1, 2] rfl) (wfX2_append_48 hd t x1 x2 s0 s1 s2 G h hk)
    · rw [if_neg c11] at h
      refine j_iconst (v := 1) dX2_append_44 (by decide) ?_
      refine j_goto (tgt := 49) dX2_append_45 (by decide) ?_
      exact J.sub (zall [0, 1, 2] rfl) (wfX2_append_49 hd t x1 x2 s0 s1 s2 1 G h hk)
def fX2_append_20 (t : Nat) (x1 : Int32) (x2 : Int32) (s0 : Option Nat) (s1 : Int32) (G : GS) : Option ((Int32) × GS) :=
  fX2_append_25 t x1 x2 s0 s1 1 G
theorem wfX2_append_20 {F : zF} (hd : 3 ≤ F.2.2.2) (t : Nat) (x1 : Int32) (x2 : Int32) (s0 : Option Nat) (s1 : Int32) (G : GS) {a : (Int32) × GS} (h : fX2_append_20 t x1 x2 s0 s1 G = some a) (hk : zKI F a) : J mX2_append F G 20 [(0, vR (some t)), (1, vI x1), (2, vI x2)] [vI s1, vR s0] := by
  unfold fX2_append_20 at h
  refine j_iconst (v := 1) dX2_append_20 (by decide) ?_
  refine j_goto (tgt := 25) dX2_append_21 (by decide) ?_
  exact J.sub (zall [0, 1, 2] rfl) (wfX2_append_25 hd t x1 x2 s0 s1 1 G h hk)
def fX2_append_0 (t : Nat) (x1 : Int32) (x2 : Int32)  (G : GS) : Option ((Int32) × GS) :=
  zk [2] G t <| (fX2_isRule_0 t x1 G).bind fun v3 => (fX2_isTerminal_0 x2 G).bind fun v5 => if v5 = 0 then ((fX2_isNonterminal_0 x2 G).bind fun v8 => if v8 = 0 then (fX2_append_25 t x1 x2 (some t) v3 0 G) else (fX2_append_20 t x1 x2 (some t) v3 G)) else (fX2_append_20 t x1 x2 (some t) v3 G)
theorem wfX2_append_0 {F : zF} (hd : 3 ≤ F.2.2.2) (t : Nat) (x1 : Int32) (x2 : Int32)  (G : GS) {a : (Int32) × GS} (h : fX2_append_0 t x1 x2  G = some a) (hk : zKI F a) : J mX2_append F G 0 [(0, vR (some t)), (1, vI x1), (2, vI x2)] [] := by
  unfold fX2_append_0 at h
  refine j_aload_n (j := 0) dX2_append_0 rfl rfl ?_
  refine j_aload_n (j := 0) dX2_append_1 rfl rfl ?_
  refine j_iload_n (j := 1) dX2_append_2 rfl rfl ?_
  replace h := zkE h
  obtain ⟨e1, h⟩ := h
  replace h := zbE h
  obtain ⟨v3, e2, h⟩ := h
  refine j_cont (zrV (As := [vI x1]) msX2_164 (yX2_isRule_ok e2) (Nat.le_trans (Nat.le_of_ble_eq_true rfl) hd) (zk_2 _ e1) rfl rfl (Nat.le_of_ble_eq_true rfl) dX2_append_3) ?_
  refine j_iload_n (j := 2) dX2_append_6 rfl rfl ?_
  replace h := zbE h
  obtain ⟨v5, e4, h⟩ := h
  refine j_cont (zrS (As := [vI x2]) msX2_167 (yX2_isTerminal_ok e4) (Nat.le_trans (Nat.le_of_ble_eq_true rfl) hd) rfl rfl (Nat.le_of_ble_eq_true rfl) dX2_append_7) ?_
  refine j_if_ne (tgt := 20) dX2_append_10 (by decide) (fun c6 => ?_) (fun c6 => ?_)
  · rw [if_pos c6] at h
    refine j_iload_n (j := 2) dX2_append_13 rfl rfl ?_
    replace h := zbE h
    obtain ⟨v8, e7, h⟩ := h
    refine j_cont (zrS (As := [vI x2]) msX2_149 (yX2_isNonterminal_ok e7) (Nat.le_trans (Nat.le_of_ble_eq_true rfl) hd) rfl rfl (Nat.le_of_ble_eq_true rfl) dX2_append_14) ?_
    refine j_if_eq (tgt := 24) dX2_append_17 (by decide) (fun c9 => ?_) (fun c9 => ?_)
    · rw [if_pos c9] at h
      refine j_iconst (v := 0) dX2_append_24 (by decide) ?_
      exact J.sub (zall [0, 1, 2] rfl) (wfX2_append_25 hd t x1 x2 (some t) v3 0 G h hk)
    · rw [if_neg c9] at h
      exact J.sub (zall [0, 1, 2] rfl) (wfX2_append_20 hd t x1 x2 (some t) v3 G h hk)
  · rw [if_neg c6] at h
    exact J.sub (zall [0, 1, 2] rfl) (wfX2_append_20 hd t x1 x2 (some t) v3 G h hk)
theorem yX2_append_ok {t : Nat} {x1 : Int32} {x2 : Int32} {G : GS} {r : Int32} {G1 : GS} (h : fX2_append_0 t x1 x2 G = some (r, G1)) : zRuns yX2_append (ws_ yX2_append cX2_append 3 (some Jvm.ClassFile.FieldType.int)) [vR (some t), vI x1, vI x2] (.inl (some (vI r)), G, G1, 3) :=
  zentry (M := mX2_append) (plainFor_of_name (by decide +kernel)) ⟨rfl, rfl, rfl, rfl⟩ (Nat.le_of_ble_eq_true rfl) (wfX2_append_0 (Nat.le_refl _) t x1 x2 G h ⟨rfl, rfl⟩)
abbrev mX2_tellsOf : zM := (cX2_tellsOf, RX2, 2, (some Jvm.ClassFile.FieldType.int), "tellsOf", [], "(I)I")
def fX2_tellsOf_0 (t : Nat) (x1 : Int32)  (G : GS) : Option ((Int32) × GS) :=
  (zpI G 2 t 8 0).bind fun G1 => some (x1, G1)
theorem wfX2_tellsOf_0 {F : zF} (hd : 1 ≤ F.2.2.2) (t : Nat) (x1 : Int32)  (G : GS) {a : (Int32) × GS} (h : fX2_tellsOf_0 t x1  G = some a) (hk : zKI F a) : J mX2_tellsOf F G 0 [(0, vR (some t)), (1, vI x1)] [] := by
  unfold fX2_tellsOf_0 at h
  refine j_aload_n (j := 0) dX2_tellsOf_0 rfl rfl ?_
  refine j_iconst (v := 0) dX2_tellsOf_1 (by decide) ?_
  replace h := zbE h
  obtain ⟨G1, e2, h⟩ := h
  refine j_putI fpX2_93_X2 (Or.inl rfl) rfl dX2_tellsOf_2 e2 ?_
  refine j_iload_n (j := 1) dX2_tellsOf_5 rfl rfl ?_
  obtain rfl := Option.some.inj h
  exact j_iret hk.1 hk.2 rfl dX2_tellsOf_6
theorem yX2_tellsOf_ok {t : Nat} {x1 : Int32} {G : GS} {r : Int32} {G1 : GS} (h : fX2_tellsOf_0 t x1 G = some (r, G1)) : zRuns yX2_tellsOf (ws_ yX2_tellsOf cX2_tellsOf 2 (some Jvm.ClassFile.FieldType.int)) [vR (some t), vI x1] (.inl (some (vI r)), G, G1, 1) :=
  zentry (M := mX2_tellsOf) (plainFor_of_name (by decide +kernel)) ⟨rfl, rfl, rfl, rfl⟩ (Nat.le_of_ble_eq_true rfl) (wfX2_tellsOf_0 (Nat.le_refl _) t x1 G h ⟨rfl, rfl⟩)
theorem fgX2_143 : zFG RX2 143 1 34 (.int) := ⟨(RX2, TX2, 42, tyX2), rfl, by decide, in_X2, rfl, "SelahGeneratorModel", Or.inl rfl, Or.inl q2706⟩
theorem msX2_184 : zSV RX2 184 RX2 yX2_tellsOf cX2_tellsOf 2 (some Jvm.ClassFile.FieldType.int) 1 := ⟨lw_V q2875 q2877 qs68 q131 q2878, (by decide +kernel), (by decide)⟩
abbrev mX2_appliedCount : zM := (cX2_appliedCount, RX2, 1, (some Jvm.ClassFile.FieldType.int), "appliedCount", [], "()I")
def fX2_appliedCount_0 (t : Nat)  (G : GS) : Option ((Int32) × GS) :=
  (zgI G 2 t 34).bind fun v1 => zk [2] G t <| zb2 (fX2_tellsOf_0 t v1 G) fun v5 G6 => some (v5, G6)
theorem wfX2_appliedCount_0 {F : zF} (hd : 2 ≤ F.2.2.2) (t : Nat)  (G : GS) {a : (Int32) × GS} (h : fX2_appliedCount_0 t  G = some a) (hk : zKI F a) : J mX2_appliedCount F G 0 [(0, vR (some t))] [] := by
  unfold fX2_appliedCount_0 at h
  refine j_aload_n (j := 0) dX2_appliedCount_0 rfl rfl ?_
  refine j_aload_n (j := 0) dX2_appliedCount_1 rfl rfl ?_
  replace h := zbE h
  obtain ⟨v1, e2, h⟩ := h
  refine j_getI fgX2_143 (fun _ _ _ => rfl) dX2_appliedCount_2 e2 ?_
  replace h := zkE h
  obtain ⟨e3, h⟩ := h
  replace h := zb2E h
  obtain ⟨v5, G6, e4, h⟩ := h
  refine j_cont (zrV (As := [vI v1]) msX2_184 (yX2_tellsOf_ok e4) (Nat.le_trans (Nat.le_of_ble_eq_true rfl) hd) (zk_2 _ e3) rfl rfl (Nat.le_of_ble_eq_true rfl) dX2_appliedCount_5) ?_
  obtain rfl := Option.some.inj h
  exact j_iret hk.1 hk.2 rfl dX2_appliedCount_8
theorem yX2_appliedCount_ok {t : Nat} {G : GS} {r : Int32} {G1 : GS} (h : fX2_appliedCount_0 t G = some (r, G1)) : zRuns yX2_appliedCount (ws_ yX2_appliedCount cX2_appliedCount 1 (some Jvm.ClassFile.FieldType.int)) [vR (some t)] (.inl (some (vI r)), G, G1, 2) :=
  zentry (M := mX2_appliedCount) (plainFor_of_name (by decide +kernel)) ⟨rfl, rfl, rfl, rfl⟩ (Nat.le_of_ble_eq_true rfl) (wfX2_appliedCount_0 (Nat.le_refl _) t G h ⟨rfl, rfl⟩)
theorem fgX2_68 : zFG RX2 68 1 26 (.array (.int)) := ⟨(RX2, TX2, 42, tyX2), rfl, by decide, in_X2, rfl, "SelahGeneratorModel", Or.inl rfl, Or.inl q2698⟩
abbrev mX2_appliedRule : zM := (cX2_appliedRule, RX2, 2, (some Jvm.ClassFile.FieldType.int), "appliedRule", [], "(I)I")
def fX2_appliedRule_0 (t : Nat) (x1 : Int32)  (G : GS) : Option ((Int32) × GS) :=
  (zgI G 2 t 34).bind fun v1 => (fX2_isIn_0 x1.toInt64 0 ((v1 - 1).toInt64) G).bind fun v4 => if v4 = 0 then (zk [2] G t <| zb2 (fX2_tellsOf_0 t (-1) G) fun v8 G9 => some (v8, G9)) else ((zgR G 2 t 26).bind fun r10 => r10.bind fun a12 => (zaI G 50 a12 x1).bind fun v14 => zk [2] G t <| zb2 (fX2_tellsOf_0 t v14 G) fun v18 G19 => some (v18, G19))
theorem wfX2_appliedRule_0 {F : zF} (hd : 2 ≤ F.2.2.2) (t : Nat) (x1 : Int32)  (G : GS) {a : (Int32) × GS} (h : fX2_appliedRule_0 t x1  G = some a) (hk : zKI F a) : J mX2_appliedRule F G 0 [(0, vR (some t)), (1, vI x1)] [] := by
  unfold fX2_appliedRule_0 at h
  refine j_aload_n (j := 0) dX2_appliedRule_0 rfl rfl ?_
  refine j_iload_n (j := 1) dX2_appliedRule_1 rfl rfl ?_
  refine j_i2l dX2_appliedRule_2 ?_
  refine j_lconst (v := 0) dX2_appliedRule_3 rfl ?_
  refine j_aload_n (j := 0) dX2_appliedRule_4 rfl rfl ?_
  replace h := zbE h
  obtain ⟨v1, e2, h⟩ := h
  refine j_getI fgX2_143 (fun _ _ _ => rfl) dX2_appliedRule_5 e2 ?_
  refine j_iconst (v := 1) dX2_appliedRule_8 (by decide) ?_
  refine j_isub dX2_appliedRule_9 ?_
  refine j_i2l dX2_appliedRule_10 ?_
  replace h := zbE h
  obtain ⟨v4, e3, h⟩ := h
  refine j_cont (zrS (As := [vL x1.toInt64, vL 0, vL ((v1 - 1).toInt64)]) msX2_103 (yX2_isIn_ok e3) (Nat.le_trans (Nat.le_of_ble_eq_true rfl) hd) rfl rfl (Nat.le_of_ble_eq_true rfl) dX2_appliedRule_11) ?_
  refine j_if_eq (tgt := 26) dX2_appliedRule_14 (by decide) (fun c5 => ?_) (fun c5 => ?_)
  · rw [if_pos c5] at h
    refine j_iconst (v := (-1)) dX2_appliedRule_26 (by decide) ?_
    replace h := zkE h
    obtain ⟨e6, h⟩ := h
    replace h := zb2E h
    obtain ⟨v8, G9, e7, h⟩ := h
    refine j_cont (zrV (As := [vI (-1)]) msX2_184 (yX2_tellsOf_ok e7) (Nat.le_trans (Nat.le_of_ble_eq_true rfl) hd) (zk_2 _ e6) rfl rfl (Nat.le_of_ble_eq_true rfl) dX2_appliedRule_27) ?_
    obtain rfl := Option.some.inj h
    exact j_iret hk.1 hk.2 rfl dX2_appliedRule_30
  · rw [if_neg c5] at h
    refine j_aload_n (j := 0) dX2_appliedRule_17 rfl rfl ?_
    replace h := zbE h
    obtain ⟨r10, e11, h⟩ := h
    refine j_getR fgX2_68 (fun _ _ _ => rfl) dX2_appliedRule_18 e11 ?_
    refine j_iload_n (j := 1) dX2_appliedRule_21 rfl rfl ?_
    replace h := zbE h
    obtain ⟨a12, e13, h⟩ := h
    subst e13
    replace h := zbE h
    obtain ⟨v14, e15, h⟩ := h
    refine j_iald (Or.inl rfl) e15 dX2_appliedRule_22 ?_
    refine j_goto (tgt := 27) dX2_appliedRule_23 (by decide) ?_
    replace h := zkE h
    obtain ⟨e16, h⟩ := h
    replace h := zb2E h
    obtain ⟨v18, G19, e17, h⟩ := h
    refine j_cont (zrV (As := [vI v14]) msX2_184 (yX2_tellsOf_ok e17) (Nat.le_trans (Nat.le_of_ble_eq_true rfl) hd) (zk_2 _ e16) rfl rfl (Nat.le_of_ble_eq_true rfl) dX2_appliedRule_27) ?_
    obtain rfl := Option.some.inj h
    exact j_iret hk.1 hk.2 rfl dX2_appliedRule_30
theorem yX2_appliedRule_ok {t : Nat} {x1 : Int32} {G : GS} {r : Int32} {G1 : GS} (h : fX2_appliedRule_0 t x1 G = some (r, G1)) : zRuns yX2_appliedRule (ws_ yX2_appliedRule cX2_appliedRule 2 (some Jvm.ClassFile.FieldType.int)) [vR (some t), vI x1] (.inl (some (vI r)), G, G1, 2) :=
  zentry (M := mX2_appliedRule) (plainFor_of_name (by decide +kernel)) ⟨rfl, rfl, rfl, rfl⟩ (Nat.le_of_ble_eq_true rfl) (wfX2_appliedRule_0 (Nat.le_refl _) t x1 G h ⟨rfl, rfl⟩)
theorem fgX2_140 : zFG RX2 140 1 33 (.int) := ⟨(RX2, TX2, 42, tyX2), rfl, by decide, in_X2, rfl, "SelahGeneratorModel", Or.inl rfl, Or.inl q2705⟩
theorem fgX2_62 : zFG RX2 62 1 24 (.array (.int)) := ⟨(RX2, TX2, 42, tyX2), rfl, by decide, in_X2, rfl, "SelahGeneratorModel", Or.inl rfl, Or.inl q2696⟩
abbrev mX2_applies : zM := (cX2_applies, RX2, 3, none, "applies", [], "(I)V")
def fX2_applies_54 (t : Nat) (x1 : Int32)  (G : GS) : Option (GS) :=
  (zgR G 2 t 26).bind fun r1 => (zgI G 2 t 34).bind fun v3 => r1.bind fun a5 => (zsI G 50 a5 v3 x1).bind fun G7 => (zgI G7 2 t 34).bind fun v9 => (zpI G7 2 t 34 (v9 + 1)).bind fun G11 => some G11
theorem wfX2_applies_54 {F : zF} (hd : 2 ≤ F.2.2.2) (t : Nat) (x1 : Int32)  (G : GS) {a : GS} (h : fX2_applies_54 t x1  G = some a) (hk : zKV F a) : J mX2_applies F G 54 [(0, vR (some t)), (1, vI x1)] [] := by
  unfold fX2_applies_54 at h
  refine j_aload_n (j := 0) dX2_applies_54 rfl rfl ?_
  replace h := zbE h
  obtain ⟨r1, e2, h⟩ := h
  refine j_getR fgX2_68 (fun _ _ _ => rfl) dX2_applies_55 e2 ?_
  refine j_aload_n (j := 0) dX2_applies_58 rfl rfl ?_
  replace h := zbE h
  obtain ⟨v3, e4, h⟩ := h
  refine j_getI fgX2_143 (fun _ _ _ => rfl) dX2_applies_59 e4 ?_
  refine j_iload_n (j := 1) dX2_applies_62 rfl rfl ?_
  replace h := zbE h
  obtain ⟨a5, e6, h⟩ := h
  subst e6
  replace h := zbE h
  obtain ⟨G7, e8, h⟩ := h
  refine j_iast e8 dX2_applies_63 ?_
  refine j_aload_n (j := 0) dX2_applies_64 rfl rfl ?_
  refine j_dup dX2_applies_65 rfl ?_
  replace h := zbE h
  obtain ⟨v9, e10, h⟩ := h
  refine j_getI fgX2_143 (fun _ _ _ => rfl) dX2_applies_66 e10 ?_
  refine j_iconst (v := 1) dX2_applies_69 (by decide) ?_
  refine j_iadd dX2_applies_70 ?_
  replace h := zbE h
  obtain ⟨G11, e12, h⟩ := h
  refine j_putI fpX2_143_X2 (Or.inl rfl) rfl dX2_applies_71 e12 ?_
  obtain rfl := Option.some.inj h
  exact j_vret hk.1 hk.2 rfl dX2_applies_74
def fbX2_applies_19 (t : Nat) (x1 : Int32) (x2 : Int32)  (G : GS) : Option ((Int32 × GS) ⊕ (GS)) :=
  if x2 < 0 then (zo (fX2_applies_54 t x1 G)) else ((zgR G 2 t 24).bind fun r2 => (zgI G 2 t 33).bind fun v4 => zk [2] G t <| (fX2_at_0 t x1 x2 G).bind fun v8 => r2.bind fun a9 => (zsI G 50 a9 v4 v8).bind fun G11 => (zgI G11 2 t 33).bind fun v13 => (zpI G11 2 t 33 (v13 + 1)).bind fun G15 => some (.inl ((x2 + (-1)), G15)))
def flX2_applies_19 (t : Nat) (x1 : Int32) (x2 : Int32) (G : GS) : Option (GS) := zloop (fun s : Int32 × GS => fbX2_applies_19 t x1 s.1 s.2) (x2, G)
theorem wfbX2_applies_19 {F : zF} (hd : 2 ≤ F.2.2.2) (t : Nat) (x1 : Int32) (x2 : Int32) (G : GS) {a : (Int32 × GS) ⊕ (GS)} (h : fbX2_applies_19 t x1 x2 G = some a) (hk : (zcase (fun s : Int32 × GS => J mX2_applies F s.2 19 [(0, vR (some t)), (1, vI x1), (2, vI s.1)] []) (zKV F)) a) : J mX2_applies F G 19 [(0, vR (some t)), (1, vI x1), (2, vI x2)] [] := by
  unfold fbX2_applies_19 at h
  refine j_iload_n (j := 2) dX2_applies_19 rfl rfl ?_
  refine j_if_lt (tgt := 54) dX2_applies_20 (by decide) (fun c1 => ?_) (fun c1 => ?_)
  · rw [if_pos c1] at h
    replace h := zoE h
    obtain ⟨a, h, rfl⟩ := h
    replace hk := hk
    exact J.sub (zall [0, 1] rfl) (wfX2_applies_54 hd t x1  G h hk)
  · rw [if_neg c1] at h
    refine j_aload_n (j := 0) dX2_applies_23 rfl rfl ?_
    replace h := zbE h
    obtain ⟨r2, e3, h⟩ := h
    refine j_getR fgX2_62 (fun _ _ _ => rfl) dX2_applies_24 e3 ?_
    refine j_aload_n (j := 0) dX2_applies_27 rfl rfl ?_
    replace h := zbE h
    obtain ⟨v4, e5, h⟩ := h
    refine j_getI fgX2_140 (fun _ _ _ => rfl) dX2_applies_28 e5 ?_
    refine j_aload_n (j := 0) dX2_applies_31 rfl rfl ?_
    refine j_iload_n (j := 1) dX2_applies_32 rfl rfl ?_
    refine j_iload_n (j := 2) dX2_applies_33 rfl rfl ?_
    replace h := zkE h
    obtain ⟨e6, h⟩ := h
    replace h := zbE h
    obtain ⟨v8, e7, h⟩ := h
    refine j_cont (zrV (As := [vI x1, vI x2]) msX2_187 (yX2_at_ok e7) (Nat.le_trans (Nat.le_of_ble_eq_true rfl) hd) (zk_2 _ e6) rfl rfl (Nat.le_of_ble_eq_true rfl) dX2_applies_34) ?_
    replace h := zbE h
    obtain ⟨a9, e10, h⟩ := h
    subst e10
    replace h := zbE h
    obtain ⟨G11, e12, h⟩ := h
    refine j_iast e12 dX2_applies_37 ?_
    refine j_aload_n (j := 0) dX2_applies_38 rfl rfl ?_
    refine j_dup dX2_applies_39 rfl ?_
    replace h := zbE h
    obtain ⟨v13, e14, h⟩ := h
    refine j_getI fgX2_140 (fun _ _ _ => rfl) dX2_applies_40 e14 ?_
    refine j_iconst (v := 1) dX2_applies_43 (by decide) ?_
    refine j_iadd dX2_applies_44 ?_
    replace h := zbE h
    obtain ⟨G15, e16, h⟩ := h
    refine j_putI fpX2_140_X2 (Or.inl rfl) rfl dX2_applies_45 e16 ?_
    refine j_iinc (j := 2) (v := (x2 + (-1))) (lv' := [(2, vI (x2 + (-1))), (0, vR (some t)), (1, vI x1)]) dX2_applies_48 rfl rfl (Nat.le_of_ble_eq_true rfl) rfl ?_
    refine j_goto (tgt := 19) dX2_applies_51 (by decide) ?_
    obtain rfl := Option.some.inj h
    exact J.sub (zall [1, 2, 0] rfl) hk
theorem wflX2_applies_19 {F : zF} (hd : 2 ≤ F.2.2.2) (t : Nat) (x1 : Int32) (x2 : Int32) (G : GS) {a : GS} (h : flX2_applies_19 t x1 x2 G = some a) (hk : zKV F a) : J mX2_applies F G 19 [(0, vR (some t)), (1, vI x1), (2, vI x2)] [] := by
  unfold flX2_applies_19 at h
  exact zloop_walk (P := (fun s : Int32 × GS => J mX2_applies F s.2 19 [(0, vR (some t)), (1, vI x1), (2, vI s.1)] [])) (fun s b e hk => wfbX2_applies_19 hd t x1 s.1 s.2 e hk) (x2, G) _ h hk
def fX2_applies_0 (t : Nat) (x1 : Int32)  (G : GS) : Option (GS) :=
  (zgI G 2 t 33).bind fun v1 => (zpI G 2 t 33 (v1 - 1)).bind fun G3 => (zgR G3 2 t 1).bind fun r5 => r5.bind fun a7 => (zaI G3 50 a7 x1).bind fun v9 => flX2_applies_19 t x1 (v9 - 1) G3
theorem wfX2_applies_0 {F : zF} (hd : 2 ≤ F.2.2.2) (t : Nat) (x1 : Int32)  (G : GS) {a : GS} (h : fX2_applies_0 t x1  G = some a) (hk : zKV F a) : J mX2_applies F G 0 [(0, vR (some t)), (1, vI x1)] [] := by
  unfold fX2_applies_0 at h
  refine j_aload_n (j := 0) dX2_applies_0 rfl rfl ?_
  refine j_dup dX2_applies_1 rfl ?_
  replace h := zbE h
  obtain ⟨v1, e2, h⟩ := h
  refine j_getI fgX2_140 (fun _ _ _ => rfl) dX2_applies_2 e2 ?_
  refine j_iconst (v := 1) dX2_applies_5 (by decide) ?_
  refine j_isub dX2_applies_6 ?_
  replace h := zbE h
  obtain ⟨G3, e4, h⟩ := h
  refine j_putI fpX2_140_X2 (Or.inl rfl) rfl dX2_applies_7 e4 ?_
  refine j_aload_n (j := 0) dX2_applies_10 rfl rfl ?_
  replace h := zbE h
  obtain ⟨r5, e6, h⟩ := h
  refine j_getR fgX2_13 (fun _ _ _ => rfl) dX2_applies_11 e6 ?_
  refine j_iload_n (j := 1) dX2_applies_14 rfl rfl ?_
  replace h := zbE h
  obtain ⟨a7, e8, h⟩ := h
  subst e8
  replace h := zbE h
  obtain ⟨v9, e10, h⟩ := h
  refine j_iald (Or.inl rfl) e10 dX2_applies_15 ?_
  refine j_iconst (v := 1) dX2_applies_16 (by decide) ?_
  refine j_isub dX2_applies_17 ?_
  refine j_istore_n (lv' := [(2, vI (v9 - 1)), (0, vR (some t)), (1, vI x1)]) dX2_applies_18 rfl (Nat.le_of_ble_eq_true rfl) rfl ?_
  exact J.sub (zall [1, 2, 0] rfl) (wflX2_applies_19 hd t x1 (v9 - 1)  G3 h hk)
theorem yX2_applies_ok {t : Nat} {x1 : Int32} {G : GS} {G1 : GS} (h : fX2_applies_0 t x1 G = some G1) : zRuns yX2_applies (ws_ yX2_applies cX2_applies 3 none) [vR (some t), vI x1] (.inl none, G, G1, 2) :=
  zentry (M := mX2_applies) (plainFor_of_name (by decide +kernel)) ⟨rfl, rfl, rfl, rfl⟩ (Nat.le_of_ble_eq_true rfl) (wfX2_applies_0 (Nat.le_refl _) t x1 G h ⟨rfl, rfl⟩)
theorem fgX2_50 : zFG RX2 50 1 20 (.array (.boolean)) := ⟨(RX2, TX2, 42, tyX2), rfl, by decide, in_X2, rfl, "SelahGeneratorModel", Or.inl rfl, Or.inl q2692⟩
abbrev mX2_areInConflict : zM := (cX2_areInConflict, RX2, 4, (some Jvm.ClassFile.FieldType.boolean), "areInConflict", [], "(II)Z")
def fX2_areInConflict_59 (t : Nat) (x1 : Int32) (x2 : Int32) (x3 : Int32)  (G : GS) : Option ((Int32) ⊕ (Int32)) :=
  some (.inl ((x3 + 1)))
theorem wfX2_areInConflict_59 {F : zF} (hd : 1 ≤ F.2.2.2) (t : Nat) (x1 : Int32) (x2 : Int32) (x3 : Int32)  (G : GS) {a : (Int32) ⊕ (Int32)} (h : fX2_areInConflict_59 t x1 x2 x3  G = some a) (hk : (zcase (fun s : Int32 => J mX2_areInConflict F G 20 [(0, vR (some t)), (1, vI x1), (2, vI x2), (3, vI s)] []) (zKPI F G)) a) : J mX2_areInConflict F G 59 [(0, vR (some t)), (1, vI x1), (2, vI x2), (3, vI x3)] [] := by
  unfold fX2_areInConflict_59 at h
  refine j_iinc (j := 3) (v := (x3 + 1)) (lv' := [(3, vI (x3 + 1)), (0, vR (some t)), (1, vI x1), (2, vI x2)]) dX2_areInConflict_59 rfl rfl (Nat.le_of_ble_eq_true rfl) rfl ?_
  refine j_goto (tgt := 20) dX2_areInConflict_62 (by decide) ?_
  obtain rfl := Option.some.inj h
  exact J.sub (zall [1, 2, 3, 0] rfl) hk
def fbX2_areInConflict_20 (t : Nat) (x1 : Int32) (x2 : Int32) (x3 : Int32)  (G : GS) : Option ((Int32) ⊕ (Int32)) :=
  if 183 ≤ x3 then (zo (zcond (zbb 0) (some 0))) else ((zgR G 2 t 20).bind fun r3 => r3.bind fun a5 => (zaI G 52 a5 ((183 * x1) + x3)).bind fun v7 => if v7 = 0 then (fX2_areInConflict_59 t x1 x2 x3 G) else ((zgR G 2 t 20).bind fun r10 => r10.bind fun a12 => (zaI G 52 a12 ((183 * x2) + x3)).bind fun v14 => if v14 = 0 then (fX2_areInConflict_59 t x1 x2 x3 G) else (zo (zcond (zbb 1) (some 1)))))
def flX2_areInConflict_20 (t : Nat) (x1 : Int32) (x2 : Int32) (x3 : Int32) (G : GS) : Option (Int32) := zloop (fun s : Int32 => fbX2_areInConflict_20 t x1 x2 s G) (x3)
theorem wfbX2_areInConflict_20 {F : zF} (hd : 1 ≤ F.2.2.2) (t : Nat) (x1 : Int32) (x2 : Int32) (x3 : Int32) (G : GS) {a : (Int32) ⊕ (Int32)} (h : fbX2_areInConflict_20 t x1 x2 x3 G = some a) (hk : (zcase (fun s : Int32 => J mX2_areInConflict F G 20 [(0, vR (some t)), (1, vI x1), (2, vI x2), (3, vI s)] []) (zKPI F G)) a) : J mX2_areInConflict F G 20 [(0, vR (some t)), (1, vI x1), (2, vI x2), (3, vI x3)] [] := by
  unfold fbX2_areInConflict_20 at h
  refine j_iload_n (j := 3) dX2_areInConflict_20 rfl rfl ?_
  refine j_sipush (v := 183) dX2_areInConflict_21 (by decide) ?_
  refine j_icmp_ge (tgt := 65) dX2_areInConflict_24 (by decide) (fun c1 => ?_) (fun c1 => ?_)
  · rw [if_pos c1] at h
    replace h := zoE h
    obtain ⟨a, h, rfl⟩ := h
    replace hk := hk
    refine j_iconst (v := 0) dX2_areInConflict_65 (by decide) ?_
    replace h := zcondE h
    obtain ⟨e2, h⟩ := h
    obtain rfl := Option.some.inj h
    exact j_zret hk.1 hk.2 rfl (zbb_n e2) dX2_areInConflict_66
  · rw [if_neg c1] at h
    refine j_aload_n (j := 0) dX2_areInConflict_27 rfl rfl ?_
    replace h := zbE h
    obtain ⟨r3, e4, h⟩ := h
    refine j_getR fgX2_50 (fun _ _ _ => rfl) dX2_areInConflict_28 e4 ?_
    refine j_sipush (v := 183) dX2_areInConflict_31 (by decide) ?_
    refine j_iload_n (j := 1) dX2_areInConflict_34 rfl rfl ?_
    refine j_imul dX2_areInConflict_35 ?_
    refine j_iload_n (j := 3) dX2_areInConflict_36 rfl rfl ?_
    refine j_iadd dX2_areInConflict_37 ?_
    replace h := zbE h
    obtain ⟨a5, e6, h⟩ := h
    subst e6
    replace h := zbE h
    obtain ⟨v7, e8, h⟩ := h
    refine j_zald rfl e8 dX2_areInConflict_38 ?_
    refine j_if_eq (tgt := 59) dX2_areInConflict_39 (by decide) (fun c9 => ?_) (fun c9 => ?_)
    · rw [if_pos c9] at h
      exact J.sub (zall [0, 1, 2, 3] rfl) (wfX2_areInConflict_59 hd t x1 x2 x3  G h hk)
    · rw [if_neg c9] at h
      refine j_aload_n (j := 0) dX2_areInConflict_42 rfl rfl ?_
      replace h := zbE h
      obtain ⟨r10, e11, h⟩ := h
      refine j_getR fgX2_50 (fun _ _ _ => rfl) dX2_areInConflict_43 e11 ?_
      refine j_sipush (v := 183) dX2_areInConflict_46 (by decide) ?_
      refine j_iload_n (j := 2) dX2_areInConflict_49 rfl rfl ?_
      refine j_imul dX2_areInConflict_50 ?_
      refine j_iload_n (j := 3) dX2_areInConflict_51 rfl rfl ?_
      refine j_iadd dX2_areInConflict_52 ?_
      replace h := zbE h
      obtain ⟨a12, e13, h⟩ := h
      subst e13
      replace h := zbE h
      obtain ⟨v14, e15, h⟩ := h
      refine j_zald rfl e15 dX2_areInConflict_53 ?_
      refine j_if_eq (tgt := 59) dX2_areInConflict_54 (by decide) (fun c16 => ?_) (fun c16 => ?_)
      · rw [if_pos c16] at h
        exact J.sub (zall [0, 1, 2, 3] rfl) (wfX2_areInConflict_59 hd t x1 x2 x3  G h hk)
      · rw [if_neg c16] at h
        replace h := zoE h
        obtain ⟨a, h, rfl⟩ := h
        replace hk := hk
        refine j_iconst (v := 1) dX2_areInConflict_57 (by decide) ?_
        replace h := zcondE h
        obtain ⟨e17, h⟩ := h
        obtain rfl := Option.some.inj h
        exact j_zret hk.1 hk.2 rfl (zbb_n e17) dX2_areInConflict_58
theorem wflX2_areInConflict_20 {F : zF} (hd : 1 ≤ F.2.2.2) (t : Nat) (x1 : Int32) (x2 : Int32) (x3 : Int32) (G : GS) {a : Int32} (h : flX2_areInConflict_20 t x1 x2 x3 G = some a) (hk : zKPI F G a) : J mX2_areInConflict F G 20 [(0, vR (some t)), (1, vI x1), (2, vI x2), (3, vI x3)] [] := by
  unfold flX2_areInConflict_20 at h
  exact zloop_walk (P := (fun s : Int32 => J mX2_areInConflict F G 20 [(0, vR (some t)), (1, vI x1), (2, vI x2), (3, vI s)] [])) (fun s b e hk => wfbX2_areInConflict_20 hd t x1 x2 s G e hk) (x3) _ h hk
def fX2_areInConflict_0 (t : Nat) (x1 : Int32) (x2 : Int32)  (G : GS) : Option (Int32) :=
  (zgR G 2 t 0).bind fun r1 => r1.bind fun a3 => (zaI G 50 a3 x1).bind fun v5 => (zgR G 2 t 0).bind fun r7 => r7.bind fun a9 => (zaI G 50 a9 x2).bind fun v11 => if v5 = v11 then (flX2_areInConflict_20 t x1 x2 14 G) else (zcond (zbb 0) (some 0))
theorem wfX2_areInConflict_0 {F : zF} (hd : 1 ≤ F.2.2.2) (t : Nat) (x1 : Int32) (x2 : Int32)  (G : GS) {a : Int32} (h : fX2_areInConflict_0 t x1 x2  G = some a) (hk : zKPI F G a) : J mX2_areInConflict F G 0 [(0, vR (some t)), (1, vI x1), (2, vI x2)] [] := by
  unfold fX2_areInConflict_0 at h
  refine j_aload_n (j := 0) dX2_areInConflict_0 rfl rfl ?_
  replace h := zbE h
  obtain ⟨r1, e2, h⟩ := h
  refine j_getR fgX2_7 (fun _ _ _ => rfl) dX2_areInConflict_1 e2 ?_
  refine j_iload_n (j := 1) dX2_areInConflict_4 rfl rfl ?_
  replace h := zbE h
  obtain ⟨a3, e4, h⟩ := h
  subst e4
  replace h := zbE h
  obtain ⟨v5, e6, h⟩ := h
  refine j_iald (Or.inl rfl) e6 dX2_areInConflict_5 ?_
  refine j_aload_n (j := 0) dX2_areInConflict_6 rfl rfl ?_
  replace h := zbE h
  obtain ⟨r7, e8, h⟩ := h
  refine j_getR fgX2_7 (fun _ _ _ => rfl) dX2_areInConflict_7 e8 ?_
  refine j_iload_n (j := 2) dX2_areInConflict_10 rfl rfl ?_
  replace h := zbE h
  obtain ⟨a9, e10, h⟩ := h
  subst e10
  replace h := zbE h
  obtain ⟨v11, e12, h⟩ := h
  refine j_iald (Or.inl rfl) e12 dX2_areInConflict_11 ?_
  refine j_icmp_eq (tgt := 17) dX2_areInConflict_12 (by decide) (fun c13 => ?_) (fun c13 => ?_)
  · rw [if_pos c13] at h
    refine j_bipush (v := 14) dX2_areInConflict_17 (by decide) ?_
    refine j_istore_n (lv' := [(3, vI 14), (0, vR (some t)), (1, vI x1), (2, vI x2)]) dX2_areInConflict_19 rfl (Nat.le_of_ble_eq_true rfl) rfl ?_
    exact J.sub (zall [1, 2, 3, 0] rfl) (wflX2_areInConflict_20 hd t x1 x2 14  G h hk)
  · rw [if_neg c13] at h
    refine j_iconst (v := 0) dX2_areInConflict_15 (by decide) ?_
    replace h := zcondE h
    obtain ⟨e14, h⟩ := h
    obtain rfl := Option.some.inj h
    exact j_zret hk.1 hk.2 rfl (zbb_n e14) dX2_areInConflict_16
theorem yX2_areInConflict_ok {t : Nat} {x1 : Int32} {x2 : Int32} {G : GS} {r : Int32} (h : fX2_areInConflict_0 t x1 x2 G = some r) : zRuns yX2_areInConflict (ws_ yX2_areInConflict cX2_areInConflict 4 (some Jvm.ClassFile.FieldType.boolean)) [vR (some t), vI x1, vI x2] (.inl (some (vI r)), G, G, 1) :=
  zentry (M := mX2_areInConflict) (plainFor_of_name (by decide +kernel)) ⟨rfl, rfl, rfl, rfl⟩ (Nat.le_of_ble_eq_true rfl) (wfX2_areInConflict_0 (Nat.le_refl _) t x1 x2 G h ⟨rfl, rfl⟩)
abbrev mX2_beginsWithItself : zM := (cX2_beginsWithItself, RX2, 2, (some Jvm.ClassFile.FieldType.boolean), "beginsWithItself", [], "(I)Z")
def fX2_beginsWithItself_28   (G : GS) : Option (Int32) :=
  zcond (zbb 0) (some 0)
theorem wfX2_beginsWithItself_28 {F : zF} (hd : 2 ≤ F.2.2.2)   (G : GS) {a : Int32} (h : fX2_beginsWithItself_28   G = some a) (hk : zKPI F G a) : J mX2_beginsWithItself F G 28 [] [] := by
  unfold fX2_beginsWithItself_28 at h
  refine j_iconst (v := 0) dX2_beginsWithItself_28 (by decide) ?_
  replace h := zcondE h
  obtain ⟨e1, h⟩ := h
  obtain rfl := Option.some.inj h
  exact j_zret hk.1 hk.2 rfl (zbb_n e1) dX2_beginsWithItself_29
def fX2_beginsWithItself_0 (t : Nat) (x1 : Int32)  (G : GS) : Option (Int32) :=
  (zgR G 2 t 1).bind fun r1 => r1.bind fun a3 => (zaI G 50 a3 x1).bind fun v5 => if v5 ≤ 0 then (fX2_beginsWithItself_28 G) else (zk [2] G t <| (fX2_at_0 t x1 0 G).bind fun v10 => (zgR G 2 t 0).bind fun r11 => r11.bind fun a13 => (zaI G 50 a13 x1).bind fun v15 => if v10 = v15 then (zcond (zbb 1) (some 1)) else (fX2_beginsWithItself_28 G))
theorem wfX2_beginsWithItself_0 {F : zF} (hd : 2 ≤ F.2.2.2) (t : Nat) (x1 : Int32)  (G : GS) {a : Int32} (h : fX2_beginsWithItself_0 t x1  G = some a) (hk : zKPI F G a) : J mX2_beginsWithItself F G 0 [(0, vR (some t)), (1, vI x1)] [] := by
  unfold fX2_beginsWithItself_0 at h
  refine j_aload_n (j := 0) dX2_beginsWithItself_0 rfl rfl ?_
  replace h := zbE h
  obtain ⟨r1, e2, h⟩ := h
  refine j_getR fgX2_13 (fun _ _ _ => rfl) dX2_beginsWithItself_1 e2 ?_
  refine j_iload_n (j := 1) dX2_beginsWithItself_4 rfl rfl ?_
  replace h := zbE h
  obtain ⟨a3, e4, h⟩ := h
  subst e4
  replace h := zbE h
  obtain ⟨v5, e6, h⟩ := h
  refine j_iald (Or.inl rfl) e6 dX2_beginsWithItself_5 ?_
  refine j_if_le (tgt := 28) dX2_beginsWithItself_6 (by decide) (fun c7 => ?_) (fun c7 => ?_)
  · rw [if_pos c7] at h
    exact J.sub (zall [] rfl) (wfX2_beginsWithItself_28 hd   G h hk)
  · rw [if_neg c7] at h
    refine j_aload_n (j := 0) dX2_beginsWithItself_9 rfl rfl ?_
    refine j_iload_n (j := 1) dX2_beginsWithItself_10 rfl rfl ?_
    refine j_iconst (v := 0) dX2_beginsWithItself_11 (by decide) ?_
    replace h := zkE h
    obtain ⟨e8, h⟩ := h
    replace h := zbE h
    obtain ⟨v10, e9, h⟩ := h
    refine j_cont (zrV (As := [vI x1, vI 0]) msX2_187 (yX2_at_ok e9) (Nat.le_trans (Nat.le_of_ble_eq_true rfl) hd) (zk_2 _ e8) rfl rfl (Nat.le_of_ble_eq_true rfl) dX2_beginsWithItself_12) ?_
    refine j_aload_n (j := 0) dX2_beginsWithItself_15 rfl rfl ?_
    replace h := zbE h
    obtain ⟨r11, e12, h⟩ := h
    refine j_getR fgX2_7 (fun _ _ _ => rfl) dX2_beginsWithItself_16 e12 ?_
    refine j_iload_n (j := 1) dX2_beginsWithItself_19 rfl rfl ?_
    replace h := zbE h
    obtain ⟨a13, e14, h⟩ := h
    subst e14
    replace h := zbE h
    obtain ⟨v15, e16, h⟩ := h
    refine j_iald (Or.inl rfl) e16 dX2_beginsWithItself_20 ?_
    refine j_icmp_ne (tgt := 28) dX2_beginsWithItself_21 (by decide) (fun c17 => ?_) (fun c17 => ?_)
    · rw [if_pos c17] at h
      refine j_iconst (v := 1) dX2_beginsWithItself_24 (by decide) ?_
      refine j_goto (tgt := 29) dX2_beginsWithItself_25 (by decide) ?_
      replace h := zcondE h
      obtain ⟨e18, h⟩ := h
      obtain rfl := Option.some.inj h
      exact j_zret hk.1 hk.2 rfl (zbb_n e18) dX2_beginsWithItself_29
    · rw [if_neg c17] at h
      exact J.sub (zall [] rfl) (wfX2_beginsWithItself_28 hd   G h hk)
theorem yX2_beginsWithItself_ok {t : Nat} {x1 : Int32} {G : GS} {r : Int32} (h : fX2_beginsWithItself_0 t x1 G = some r) : zRuns yX2_beginsWithItself (ws_ yX2_beginsWithItself cX2_beginsWithItself 2 (some Jvm.ClassFile.FieldType.boolean)) [vR (some t), vI x1] (.inl (some (vI r)), G, G, 2) :=
  zentry (M := mX2_beginsWithItself) (plainFor_of_name (by decide +kernel)) ⟨rfl, rfl, rfl, rfl⟩ (Nat.le_of_ble_eq_true rfl) (wfX2_beginsWithItself_0 (Nat.le_refl _) t x1 G h ⟨rfl, rfl⟩)
abbrev mX2_bits : zM := (cX2_bits, RX2, 3, (some Jvm.ClassFile.FieldType.int), "bits", [], "(I)I")
def fbX2_bits_4 (x0 : Int32) (x1 : Int32) (x2 : Int32)  (G : GS) : Option ((Int32 × Int32) ⊕ (Int32)) :=
  if 12 ≤ x2 then (zo (some x1)) else (some (.inl ((x1 + ((x0 >>> (x2 &&& 31)) &&& 1)), (x2 + 1))))
def flX2_bits_4 (x0 : Int32) (x1 : Int32) (x2 : Int32) (G : GS) : Option (Int32) := zloop (fun s : Int32 × Int32 => fbX2_bits_4 x0 s.1 s.2 G) (x1, x2)
theorem wfbX2_bits_4 {F : zF} (hd : 1 ≤ F.2.2.2) (x0 : Int32) (x1 : Int32) (x2 : Int32) (G : GS) {a : (Int32 × Int32) ⊕ (Int32)} (h : fbX2_bits_4 x0 x1 x2 G = some a) (hk : (zcase (fun s : Int32 × Int32 => J mX2_bits F G 4 [(0, vI x0), (1, vI s.1), (2, vI s.2)] []) (zKPI F G)) a) : J mX2_bits F G 4 [(0, vI x0), (1, vI x1), (2, vI x2)] [] := by
  unfold fbX2_bits_4 at h
  refine j_iload_n (j := 2) dX2_bits_4 rfl rfl ?_
  refine j_bipush (v := 12) dX2_bits_5 (by decide) ?_
  refine j_icmp_ge (tgt := 24) dX2_bits_7 (by decide) (fun c1 => ?_) (fun c1 => ?_)
  · rw [if_pos c1] at h
    replace h := zoE h
    obtain ⟨a, h, rfl⟩ := h
    replace hk := hk
    refine j_iload_n (j := 1) dX2_bits_24 rfl rfl ?_
    obtain rfl := Option.some.inj h
    exact j_iret hk.1 hk.2 rfl dX2_bits_25
  · rw [if_neg c1] at h
    refine j_iload_n (j := 1) dX2_bits_10 rfl rfl ?_
    refine j_iload_n (j := 0) dX2_bits_11 rfl rfl ?_
    refine j_iload_n (j := 2) dX2_bits_12 rfl rfl ?_
    refine j_ishr dX2_bits_13 ?_
    refine j_iconst (v := 1) dX2_bits_14 (by decide) ?_
    refine j_iand dX2_bits_15 ?_
    refine j_iadd dX2_bits_16 ?_
    refine j_istore_n (lv' := [(1, vI (x1 + ((x0 >>> (x2 &&& 31)) &&& 1))), (0, vI x0), (2, vI x2)]) dX2_bits_17 rfl (Nat.le_of_ble_eq_true rfl) rfl ?_
    refine j_iinc (j := 2) (v := (x2 + 1)) (lv' := [(2, vI (x2 + 1)), (1, vI (x1 + ((x0 >>> (x2 &&& 31)) &&& 1))), (0, vI x0)]) dX2_bits_18 rfl rfl (Nat.le_of_ble_eq_true rfl) rfl ?_
    refine j_goto (tgt := 4) dX2_bits_21 (by decide) ?_
    obtain rfl := Option.some.inj h
    exact J.sub (zall [2, 1, 0] rfl) hk
theorem wflX2_bits_4 {F : zF} (hd : 1 ≤ F.2.2.2) (x0 : Int32) (x1 : Int32) (x2 : Int32) (G : GS) {a : Int32} (h : flX2_bits_4 x0 x1 x2 G = some a) (hk : zKPI F G a) : J mX2_bits F G 4 [(0, vI x0), (1, vI x1), (2, vI x2)] [] := by
  unfold flX2_bits_4 at h
  exact zloop_walk (P := (fun s : Int32 × Int32 => J mX2_bits F G 4 [(0, vI x0), (1, vI s.1), (2, vI s.2)] [])) (fun s b e hk => wfbX2_bits_4 hd x0 s.1 s.2 G e hk) (x1, x2) _ h hk
def fX2_bits_0 (x0 : Int32)  (G : GS) : Option (Int32) :=
  flX2_bits_4 x0 0 0 G
theorem wfX2_bits_0 {F : zF} (hd : 1 ≤ F.2.2.2) (x0 : Int32)  (G : GS) {a : Int32} (h : fX2_bits_0 x0  G = some a) (hk : zKPI F G a) : J mX2_bits F G 0 [(0, vI x0)] [] := by
  unfold fX2_bits_0 at h
  refine j_iconst (v := 0) dX2_bits_0 (by decide) ?_
  refine j_istore_n (lv' := [(1, vI 0), (0, vI x0)]) dX2_bits_1 rfl (Nat.le_of_ble_eq_true rfl) rfl ?_
  refine j_iconst (v := 0) dX2_bits_2 (by decide) ?_
  refine j_istore_n (lv' := [(2, vI 0), (1, vI 0), (0, vI x0)]) dX2_bits_3 rfl (Nat.le_of_ble_eq_true rfl) rfl ?_
  exact J.sub (zall [2, 1, 0] rfl) (wflX2_bits_4 hd x0 0 0  G h hk)
theorem yX2_bits_ok {x0 : Int32} {G : GS} {r : Int32} (h : fX2_bits_0 x0 G = some r) : zRuns yX2_bits (ws_ yX2_bits cX2_bits 3 (some Jvm.ClassFile.FieldType.int)) [vI x0] (.inl (some (vI r)), G, G, 1) :=
  zentry (M := mX2_bits) (plainFor_of_name (by decide +kernel)) ⟨rfl, rfl, rfl, rfl⟩ (Nat.le_of_ble_eq_true rfl) (wfX2_bits_0 (Nat.le_refl _) x0 G h ⟨rfl, rfl⟩)
abbrev mX2_capped : zM := (cX2_capped, RX2, 2, (some Jvm.ClassFile.FieldType.long), "capped", [], "(J)J")
def fX2_capped_0 (x0 : Int64)  (G : GS) : Option (Int64) :=
  if (lg_cmp x0 (1000000 : Int64)) ≤ 0 then (some x0) else (some 1000001)
theorem wfX2_capped_0 {F : zF} (hd : 1 ≤ F.2.2.2) (x0 : Int64)  (G : GS) {a : Int64} (h : fX2_capped_0 x0  G = some a) (hk : zKPL F G a) : J mX2_capped F G 0 [(0, vL x0)] [] := by
  unfold fX2_capped_0 at h
  refine j_lload_n (j := 0) dX2_capped_0 rfl rfl ?_
  refine j_ldc2 (v := 1000000) q3248 dX2_capped_1 ?_
  refine j_lcmp dX2_capped_4 ?_
  refine j_if_le (tgt := 14) dX2_capped_5 (by decide) (fun c1 => ?_) (fun c1 => ?_)
  · rw [if_pos c1] at h
    refine j_lload_n (j := 0) dX2_capped_14 rfl rfl ?_
    obtain rfl := Option.some.inj h
    exact j_lret hk.1 hk.2 rfl dX2_capped_15
  · rw [if_neg c1] at h
    refine j_ldc2 (v := 1000001) q3249 dX2_capped_8 ?_
    refine j_goto (tgt := 15) dX2_capped_11 (by decide) ?_
    obtain rfl := Option.some.inj h
    exact j_lret hk.1 hk.2 rfl dX2_capped_15
theorem yX2_capped_ok {x0 : Int64} {G : GS} {r : Int64} (h : fX2_capped_0 x0 G = some r) : zRuns yX2_capped (ws_ yX2_capped cX2_capped 2 (some Jvm.ClassFile.FieldType.long)) [vL x0] (.inl (some (vL r)), G, G, 1) :=
  zentry (M := mX2_capped) (plainFor_of_name (by decide +kernel)) ⟨rfl, rfl, rfl, rfl⟩ (Nat.le_of_ble_eq_true rfl) (wfX2_capped_0 (Nat.le_refl _) x0 G h ⟨rfl, rfl⟩)
theorem fgX2_127 : zFG RX2 127 1 13 (.boolean) := ⟨(RX2, TX2, 42, tyX2), rfl, by decide, in_X2, rfl, "SelahGeneratorModel", Or.inl rfl, Or.inl q2685⟩
theorem fgX2_218 : zFG RX2 218 1 12 (.int) := ⟨(RX2, TX2, 42, tyX2), rfl, by decide, in_X2, rfl, "SelahGeneratorModel", Or.inl rfl, Or.inl q2684⟩
theorem fpX2_218_X2 : zFP RX2 218 1 12 (.int) false := ⟨(RX2, TX2, 42, tyX2), rfl, by decide, in_X2, tyX2_ok, nmX2, rfl, rfl, (by decide), "SelahGeneratorModel", Or.inl rfl, q2684⟩
theorem msX2_214 : zSV RX2 214 RX2 yX2_addsNullable cX2_addsNullable 3 (some Jvm.ClassFile.FieldType.boolean) 0 := ⟨lw_V q2911 q2913 qs72 q131 q2914, (by decide +kernel), (by decide)⟩
theorem msX2_221 : zSV RX2 221 RX2 yX2_addsFirst cX2_addsFirst 5 (some Jvm.ClassFile.FieldType.boolean) 0 := ⟨lw_V q2926 q2928 qs75 q131 q2929, (by decide +kernel), (by decide)⟩
theorem msX2_224 : zSV RX2 224 RX2 yX2_addsFollow cX2_addsFollow 6 (some Jvm.ClassFile.FieldType.boolean) 0 := ⟨lw_V q2934 q2936 qs77 q131 q2937, (by decide +kernel), (by decide)⟩
abbrev mX2_knows : zM := (cX2_knows, RX2, 2, none, "knows", [], "()V")
def fbX2_knows_101 (t : Nat) (x1 : Int32)  (G : GS) : Option ((Int32 × GS) ⊕ (GS)) :=
  if x1 = 0 then (zo (some G)) else (zk [2] G t <| zb2 (fX2_addsFollow_0 t G) fun v4 G5 => some (.inl (v4, G5)))
def flX2_knows_101 (t : Nat) (x1 : Int32) (G : GS) : Option (GS) := zloop (fun s : Int32 × GS => fbX2_knows_101 t s.1 s.2) (x1, G)
theorem wfbX2_knows_101 {F : zF} (hd : 7 ≤ F.2.2.2) (t : Nat) (x1 : Int32) (G : GS) {a : (Int32 × GS) ⊕ (GS)} (h : fbX2_knows_101 t x1 G = some a) (hk : (zcase (fun s : Int32 × GS => J mX2_knows F s.2 101 [(0, vR (some t)), (1, vI s.1)] []) (zKV F)) a) : J mX2_knows F G 101 [(0, vR (some t)), (1, vI x1)] [] := by
  unfold fbX2_knows_101 at h
  refine j_iload_n (j := 1) dX2_knows_101 rfl rfl ?_
  refine j_if_eq (tgt := 113) dX2_knows_102 (by decide) (fun c1 => ?_) (fun c1 => ?_)
  · rw [if_pos c1] at h
    replace h := zoE h
    obtain ⟨a, h, rfl⟩ := h
    replace hk := hk
    obtain rfl := Option.some.inj h
    exact j_vret hk.1 hk.2 rfl dX2_knows_113
  · rw [if_neg c1] at h
    refine j_aload_n (j := 0) dX2_knows_105 rfl rfl ?_
    replace h := zkE h
    obtain ⟨e2, h⟩ := h
    replace h := zb2E h
    obtain ⟨v4, G5, e3, h⟩ := h
    refine j_cont (zrV (As := []) msX2_224 (yX2_addsFollow_ok e3) (Nat.le_trans (Nat.le_of_ble_eq_true rfl) hd) (zk_2 _ e2) rfl rfl (Nat.le_of_ble_eq_true rfl) dX2_knows_106) ?_
    refine j_istore_n (lv' := [(1, vI v4), (0, vR (some t))]) dX2_knows_109 rfl (Nat.le_of_ble_eq_true rfl) rfl ?_
    refine j_goto (tgt := 101) dX2_knows_110 (by decide) ?_
    obtain rfl := Option.some.inj h
    exact J.sub (zall [1, 0] rfl) hk
theorem wflX2_knows_101 {F : zF} (hd : 7 ≤ F.2.2.2) (t : Nat) (x1 : Int32) (G : GS) {a : GS} (h : flX2_knows_101 t x1 G = some a) (hk : zKV F a) : J mX2_knows F G 101 [(0, vR (some t)), (1, vI x1)] [] := by
  unfold flX2_knows_101 at h
  exact zloop_walk (P := (fun s : Int32 × GS => J mX2_knows F s.2 101 [(0, vR (some t)), (1, vI s.1)] [])) (fun s b e hk => wfbX2_knows_101 hd t s.1 s.2 e hk) (x1, G) _ h hk
def fX2_knows_99 (t : Nat)  (G : GS) : Option (GS) :=
  flX2_knows_101 t 1 G
theorem wfX2_knows_99 {F : zF} (hd : 7 ≤ F.2.2.2) (t : Nat)  (G : GS) {a : GS} (h : fX2_knows_99 t  G = some a) (hk : zKV F a) : J mX2_knows F G 99 [(0, vR (some t))] [] := by
  unfold fX2_knows_99 at h
  refine j_iconst (v := 1) dX2_knows_99 (by decide) ?_
  refine j_istore_n (lv' := [(1, vI 1), (0, vR (some t))]) dX2_knows_100 rfl (Nat.le_of_ble_eq_true rfl) rfl ?_
  exact J.sub (zall [1, 0] rfl) (wflX2_knows_101 hd t 1  G h hk)
def fbX2_knows_77 (t : Nat) (x1 : Int32)  (G : GS) : Option ((Int32 × GS) ⊕ (GS)) :=
  if x1 = 0 then (zo (fX2_knows_99 t G)) else (zk [2] G t <| zb2 (fX2_addsFirst_0 t G) fun v4 G5 => (zgI G5 2 t 12).bind fun v6 => (zpI G5 2 t 12 (v6 + 1)).bind fun G8 => some (.inl (v4, G8)))
def flX2_knows_77 (t : Nat) (x1 : Int32) (G : GS) : Option (GS) := zloop (fun s : Int32 × GS => fbX2_knows_77 t s.1 s.2) (x1, G)
theorem wfbX2_knows_77 {F : zF} (hd : 7 ≤ F.2.2.2) (t : Nat) (x1 : Int32) (G : GS) {a : (Int32 × GS) ⊕ (GS)} (h : fbX2_knows_77 t x1 G = some a) (hk : (zcase (fun s : Int32 × GS => J mX2_knows F s.2 77 [(0, vR (some t)), (1, vI s.1)] []) (zKV F)) a) : J mX2_knows F G 77 [(0, vR (some t)), (1, vI x1)] [] := by
  unfold fbX2_knows_77 at h
  refine j_iload_n (j := 1) dX2_knows_77 rfl rfl ?_
  refine j_if_eq (tgt := 99) dX2_knows_78 (by decide) (fun c1 => ?_) (fun c1 => ?_)
  · rw [if_pos c1] at h
    replace h := zoE h
    obtain ⟨a, h, rfl⟩ := h
    replace hk := hk
    exact J.sub (zall [0] rfl) (wfX2_knows_99 hd t  G h hk)
  · rw [if_neg c1] at h
    refine j_aload_n (j := 0) dX2_knows_81 rfl rfl ?_
    replace h := zkE h
    obtain ⟨e2, h⟩ := h
    replace h := zb2E h
    obtain ⟨v4, G5, e3, h⟩ := h
    refine j_cont (zrV (As := []) msX2_221 (yX2_addsFirst_ok e3) (Nat.le_trans (Nat.le_of_ble_eq_true rfl) hd) (zk_2 _ e2) rfl rfl (Nat.le_of_ble_eq_true rfl) dX2_knows_82) ?_
    refine j_istore_n (lv' := [(1, vI v4), (0, vR (some t))]) dX2_knows_85 rfl (Nat.le_of_ble_eq_true rfl) rfl ?_
    refine j_aload_n (j := 1) dX2_knows_86 rfl rfl ?_
    refine j_dup dX2_knows_87 rfl ?_
    replace h := zbE h
    obtain ⟨v6, e7, h⟩ := h
    refine j_getI fgX2_218 (fun _ _ _ => rfl) dX2_knows_88 e7 ?_
    refine j_iconst (v := 1) dX2_knows_91 (by decide) ?_
    refine j_iadd dX2_knows_92 ?_
    replace h := zbE h
    obtain ⟨G8, e9, h⟩ := h
    refine j_putI fpX2_218_X2 (Or.inl rfl) rfl dX2_knows_93 e9 ?_
    refine j_goto (tgt := 77) dX2_knows_96 (by decide) ?_
    obtain rfl := Option.some.inj h
    exact J.sub (zall [1, 0] rfl) hk
theorem wflX2_knows_77 {F : zF} (hd : 7 ≤ F.2.2.2) (t : Nat) (x1 : Int32) (G : GS) {a : GS} (h : flX2_knows_77 t x1 G = some a) (hk : zKV F a) : J mX2_knows F G 77 [(0, vR (some t)), (1, vI x1)] [] := by
  unfold flX2_knows_77 at h
  exact zloop_walk (P := (fun s : Int32 × GS => J mX2_knows F s.2 77 [(0, vR (some t)), (1, vI s.1)] [])) (fun s b e hk => wfbX2_knows_77 hd t s.1 s.2 e hk) (x1, G) _ h hk
def fX2_knows_70 (t : Nat)  (G : GS) : Option (GS) :=
  (zpI G 2 t 12 0).bind fun G1 => flX2_knows_77 t 1 G1
theorem wfX2_knows_70 {F : zF} (hd : 7 ≤ F.2.2.2) (t : Nat)  (G : GS) {a : GS} (h : fX2_knows_70 t  G = some a) (hk : zKV F a) : J mX2_knows F G 70 [(0, vR (some t))] [] := by
  unfold fX2_knows_70 at h
  refine j_aload_n (j := 0) dX2_knows_70 rfl rfl ?_
  refine j_iconst (v := 0) dX2_knows_71 (by decide) ?_
  replace h := zbE h
  obtain ⟨G1, e2, h⟩ := h
  refine j_putI fpX2_218_X2 (Or.inl rfl) rfl dX2_knows_72 e2 ?_
  refine j_iconst (v := 1) dX2_knows_75 (by decide) ?_
  refine j_istore_n (lv' := [(1, vI 1), (0, vR (some t))]) dX2_knows_76 rfl (Nat.le_of_ble_eq_true rfl) rfl ?_
  exact J.sub (zall [1, 0] rfl) (wflX2_knows_77 hd t 1  G1 h hk)
def fbX2_knows_58 (t : Nat) (x1 : Int32)  (G : GS) : Option ((Int32 × GS) ⊕ (GS)) :=
  if x1 = 0 then (zo (fX2_knows_70 t G)) else (zk [2] G t <| zb2 (fX2_addsNullable_0 t G) fun v4 G5 => some (.inl (v4, G5)))
def flX2_knows_58 (t : Nat) (x1 : Int32) (G : GS) : Option (GS) := zloop (fun s : Int32 × GS => fbX2_knows_58 t s.1 s.2) (x1, G)
theorem wfbX2_knows_58 {F : zF} (hd : 7 ≤ F.2.2.2) (t : Nat) (x1 : Int32) (G : GS) {a : (Int32 × GS) ⊕ (GS)} (h : fbX2_knows_58 t x1 G = some a) (hk : (zcase (fun s : Int32 × GS => J mX2_knows F s.2 58 [(0, vR (some t)), (1, vI s.1)] []) (zKV F)) a) : J mX2_knows F G 58 [(0, vR (some t)), (1, vI x1)] [] := by
  unfold fbX2_knows_58 at h
  refine j_iload_n (j := 1) dX2_knows_58 rfl rfl ?_
  refine j_if_eq (tgt := 70) dX2_knows_59 (by decide) (fun c1 => ?_) (fun c1 => ?_)
  · rw [if_pos c1] at h
    replace h := zoE h
    obtain ⟨a, h, rfl⟩ := h
    replace hk := hk
    exact J.sub (zall [0] rfl) (wfX2_knows_70 hd t  G h hk)
  · rw [if_neg c1] at h
    refine j_aload_n (j := 0) dX2_knows_62 rfl rfl ?_
    replace h := zkE h
    obtain ⟨e2, h⟩ := h
    replace h := zb2E h
    obtain ⟨v4, G5, e3, h⟩ := h
    refine j_cont (zrV (As := []) msX2_214 (yX2_addsNullable_ok e3) (Nat.le_trans (Nat.le_of_ble_eq_true rfl) hd) (zk_2 _ e2) rfl rfl (Nat.le_of_ble_eq_true rfl) dX2_knows_63) ?_
    refine j_istore_n (lv' := [(1, vI v4), (0, vR (some t))]) dX2_knows_66 rfl (Nat.le_of_ble_eq_true rfl) rfl ?_
    refine j_goto (tgt := 58) dX2_knows_67 (by decide) ?_
    obtain rfl := Option.some.inj h
    exact J.sub (zall [1, 0] rfl) hk
theorem wflX2_knows_58 {F : zF} (hd : 7 ≤ F.2.2.2) (t : Nat) (x1 : Int32) (G : GS) {a : GS} (h : flX2_knows_58 t x1 G = some a) (hk : zKV F a) : J mX2_knows F G 58 [(0, vR (some t)), (1, vI x1)] [] := by
  unfold flX2_knows_58 at h
  exact zloop_walk (P := (fun s : Int32 × GS => J mX2_knows F s.2 58 [(0, vR (some t)), (1, vI s.1)] [])) (fun s b e hk => wfbX2_knows_58 hd t s.1 s.2 e hk) (x1, G) _ h hk
def fX2_knows_56 (t : Nat)  (G : GS) : Option (GS) :=
  flX2_knows_58 t 1 G
theorem wfX2_knows_56 {F : zF} (hd : 7 ≤ F.2.2.2) (t : Nat)  (G : GS) {a : GS} (h : fX2_knows_56 t  G = some a) (hk : zKV F a) : J mX2_knows F G 56 [(0, vR (some t))] [] := by
  unfold fX2_knows_56 at h
  refine j_iconst (v := 1) dX2_knows_56 (by decide) ?_
  refine j_istore_n (lv' := [(1, vI 1), (0, vR (some t))]) dX2_knows_57 rfl (Nat.le_of_ble_eq_true rfl) rfl ?_
  exact J.sub (zall [1, 0] rfl) (wflX2_knows_58 hd t 1  G h hk)
def fX2_knows_49 (t : Nat) (x1 : Int32) (s0 : Option Nat) (s1 : Int32) (s2 : Int32) (G : GS) : Option ((Int32 × GS) ⊕ (GS)) :=
  s0.bind fun a1 => (zsI G 50 a1 s1 s2).bind fun G3 => some (.inl ((x1 + 1), G3))
theorem wfX2_knows_49 {F : zF} (hd : 7 ≤ F.2.2.2) (t : Nat) (x1 : Int32) (s0 : Option Nat) (s1 : Int32) (s2 : Int32) (G : GS) {a : (Int32 × GS) ⊕ (GS)} (h : fX2_knows_49 t x1 s0 s1 s2 G = some a) (hk : (zcase (fun s : Int32 × GS => J mX2_knows F s.2 20 [(0, vR (some t)), (1, vI s.1)] []) (zKV F)) a) : J mX2_knows F G 49 [(0, vR (some t)), (1, vI x1)] [vI s2, vI s1, vR s0] := by
  unfold fX2_knows_49 at h
  replace h := zbE h
  obtain ⟨a1, e2, h⟩ := h
  subst e2
  replace h := zbE h
  obtain ⟨G3, e4, h⟩ := h
  refine j_iast e4 dX2_knows_49 ?_
  refine j_iinc (j := 1) (v := (x1 + 1)) (lv' := [(1, vI (x1 + 1)), (0, vR (some t))]) dX2_knows_50 rfl rfl (Nat.le_of_ble_eq_true rfl) rfl ?_
  refine j_goto (tgt := 20) dX2_knows_53 (by decide) ?_
  obtain rfl := Option.some.inj h
  exact J.sub (zall [1, 0] rfl) hk
def fbX2_knows_20 (t : Nat) (x1 : Int32)  (G : GS) : Option ((Int32 × GS) ⊕ (GS)) :=
  if 12 ≤ x1 then (zo (fX2_knows_56 t G)) else ((zgR G 2 t 9).bind fun r2 => r2.bind fun a4 => (zsI G 50 a4 x1 0).bind fun G6 => (zgR G6 2 t 10).bind fun r8 => if x1 = 0 then (fX2_knows_49 t x1 r8 x1 4096 G6) else (fX2_knows_49 t x1 r8 x1 0 G6))
def flX2_knows_20 (t : Nat) (x1 : Int32) (G : GS) : Option (GS) := zloop (fun s : Int32 × GS => fbX2_knows_20 t s.1 s.2) (x1, G)
theorem wfbX2_knows_20 {F : zF} (hd : 7 ≤ F.2.2.2) (t : Nat) (x1 : Int32) (G : GS) {a : (Int32 × GS) ⊕ (GS)} (h : fbX2_knows_20 t x1 G = some a) (hk : (zcase (fun s : Int32 × GS => J mX2_knows F s.2 20 [(0, vR (some t)), (1, vI s.1)] []) (zKV F)) a) : J mX2_knows F G 20 [(0, vR (some t)), (1, vI x1)] [] := by
  unfold fbX2_knows_20 at h
  refine j_iload_n (j := 1) dX2_knows_20 rfl rfl ?_
  refine j_bipush (v := 12) dX2_knows_21 (by decide) ?_
  refine j_icmp_ge (tgt := 56) dX2_knows_23 (by decide) (fun c1 => ?_) (fun c1 => ?_)
  · rw [if_pos c1] at h
    replace h := zoE h
    obtain ⟨a, h, rfl⟩ := h
    replace hk := hk
    exact J.sub (zall [0] rfl) (wfX2_knows_56 hd t  G h hk)
  · rw [if_neg c1] at h
    refine j_aload_n (j := 0) dX2_knows_26 rfl rfl ?_
    replace h := zbE h
    obtain ⟨r2, e3, h⟩ := h
    refine j_getR fgX2_28 (fun _ _ _ => rfl) dX2_knows_27 e3 ?_
    refine j_iload_n (j := 1) dX2_knows_30 rfl rfl ?_
    refine j_iconst (v := 0) dX2_knows_31 (by decide) ?_
    replace h := zbE h
    obtain ⟨a4, e5, h⟩ := h
    subst e5
    replace h := zbE h
    obtain ⟨G6, e7, h⟩ := h
    refine j_iast e7 dX2_knows_32 ?_
    refine j_aload_n (j := 0) dX2_knows_33 rfl rfl ?_
    replace h := zbE h
    obtain ⟨r8, e9, h⟩ := h
    refine j_getR fgX2_31 (fun _ _ _ => rfl) dX2_knows_34 e9 ?_
    refine j_iload_n (j := 1) dX2_knows_37 rfl rfl ?_
    refine j_iload_n (j := 1) dX2_knows_38 rfl rfl ?_
    refine j_if_ne (tgt := 48) dX2_knows_39 (by decide) (fun c10 => ?_) (fun c10 => ?_)
    · rw [if_pos c10] at h
      refine j_sipush (v := 4096) dX2_knows_42 (by decide) ?_
      refine j_goto (tgt := 49) dX2_knows_45 (by decide) ?_
      exact J.sub (zall [0, 1] rfl) (wfX2_knows_49 hd t x1 r8 x1 4096 G6 h hk)
    · rw [if_neg c10] at h
      refine j_iconst (v := 0) dX2_knows_48 (by decide) ?_
      exact J.sub (zall [0, 1] rfl) (wfX2_knows_49 hd t x1 r8 x1 0 G6 h hk)
theorem wflX2_knows_20 {F : zF} (hd : 7 ≤ F.2.2.2) (t : Nat) (x1 : Int32) (G : GS) {a : GS} (h : flX2_knows_20 t x1 G = some a) (hk : zKV F a) : J mX2_knows F G 20 [(0, vR (some t)), (1, vI x1)] [] := by
  unfold flX2_knows_20 at h
  exact zloop_walk (P := (fun s : Int32 × GS => J mX2_knows F s.2 20 [(0, vR (some t)), (1, vI s.1)] [])) (fun s b e hk => wfbX2_knows_20 hd t s.1 s.2 e hk) (x1, G) _ h hk
def fX2_knows_0 (t : Nat)  (G : GS) : Option (GS) :=
  (zgI G 2 t 13).bind fun v1 => if v1 = 0 then ((zpZ G 2 t 13 1).bind fun G4 => (zpI G4 2 t 11 0).bind fun G6 => flX2_knows_20 t 0 G6) else (some G)
theorem wfX2_knows_0 {F : zF} (hd : 7 ≤ F.2.2.2) (t : Nat)  (G : GS) {a : GS} (h : fX2_knows_0 t  G = some a) (hk : zKV F a) : J mX2_knows F G 0 [(0, vR (some t))] [] := by
  unfold fX2_knows_0 at h
  refine j_aload_n (j := 0) dX2_knows_0 rfl rfl ?_
  replace h := zbE h
  obtain ⟨v1, e2, h⟩ := h
  refine j_getI fgX2_127 (fun _ _ _ => rfl) dX2_knows_1 e2 ?_
  refine j_if_eq (tgt := 8) dX2_knows_4 (by decide) (fun c3 => ?_) (fun c3 => ?_)
  · rw [if_pos c3] at h
    refine j_aload_n (j := 0) dX2_knows_8 rfl rfl ?_
    refine j_iconst (v := 1) dX2_knows_9 (by decide) ?_
    replace h := zbE h
    obtain ⟨G4, e5, h⟩ := h
    refine j_putZ fpX2_127_X2 (Or.inl rfl) rfl dX2_knows_10 e5 ?_
    refine j_aload_n (j := 0) dX2_knows_13 rfl rfl ?_
    refine j_iconst (v := 0) dX2_knows_14 (by decide) ?_
    replace h := zbE h
    obtain ⟨G6, e7, h⟩ := h
    refine j_putI fpX2_195_X2 (Or.inl rfl) rfl dX2_knows_15 e7 ?_
    refine j_iconst (v := 0) dX2_knows_18 (by decide) ?_
    refine j_istore_n (lv' := [(1, vI 0), (0, vR (some t))]) dX2_knows_19 rfl (Nat.le_of_ble_eq_true rfl) rfl ?_
    exact J.sub (zall [1, 0] rfl) (wflX2_knows_20 hd t 0  G6 h hk)
  · rw [if_neg c3] at h
    obtain rfl := Option.some.inj h
    exact j_vret hk.1 hk.2 rfl dX2_knows_7
theorem yX2_knows_ok {t : Nat} {G : GS} {G1 : GS} (h : fX2_knows_0 t G = some G1) : zRuns yX2_knows (ws_ yX2_knows cX2_knows 2 none) [vR (some t)] (.inl none, G, G1, 7) :=
  zentry (M := mX2_knows) (plainFor_of_name (by decide +kernel)) ⟨rfl, rfl, rfl, rfl⟩ (Nat.le_of_ble_eq_true rfl) (wfX2_knows_0 (Nat.le_refl _) t G h ⟨rfl, rfl⟩)
abbrev mX2_prediction : zM := (cX2_prediction, RX2, 2, (some Jvm.ClassFile.FieldType.int), "prediction", [], "(I)I")
def fX2_prediction_0 (t : Nat) (x1 : Int32)  (G : GS) : Option (Int32) :=
  zk [2] G t <| (fX2_firstFrom_0 t x1 0 G).bind fun v3 => zk [2] G t <| (fX2_areEmptyable_0 t x1 0 G).bind fun v6 => if v6 = 0 then (some (v3 ||| 0)) else ((zgR G 2 t 10).bind fun r8 => (zgR G 2 t 0).bind fun r10 => r10.bind fun a12 => (zaI G 50 a12 x1).bind fun v14 => r8.bind fun a16 => (zaI G 50 a16 (v14 - 20)).bind fun v18 => some (v3 ||| v18))
theorem wfX2_prediction_0 {F : zF} (hd : 5 ≤ F.2.2.2) (t : Nat) (x1 : Int32)  (G : GS) {a : Int32} (h : fX2_prediction_0 t x1  G = some a) (hk : zKPI F G a) : J mX2_prediction F G 0 [(0, vR (some t)), (1, vI x1)] [] := by
  unfold fX2_prediction_0 at h
  refine j_aload_n (j := 0) dX2_prediction_0 rfl rfl ?_
  refine j_iload_n (j := 1) dX2_prediction_1 rfl rfl ?_
  refine j_iconst (v := 0) dX2_prediction_2 (by decide) ?_
  replace h := zkE h
  obtain ⟨e1, h⟩ := h
  replace h := zbE h
  obtain ⟨v3, e2, h⟩ := h
  refine j_cont (zrV (As := [vI x1, vI 0]) msX2_205 (yX2_firstFrom_ok e2) (Nat.le_trans (Nat.le_of_ble_eq_true rfl) hd) (zk_2 _ e1) rfl rfl (Nat.le_of_ble_eq_true rfl) dX2_prediction_3) ?_
  refine j_aload_n (j := 0) dX2_prediction_6 rfl rfl ?_
  refine j_iload_n (j := 1) dX2_prediction_7 rfl rfl ?_
  refine j_iconst (v := 0) dX2_prediction_8 (by decide) ?_
  replace h := zkE h
  obtain ⟨e4, h⟩ := h
  replace h := zbE h
  obtain ⟨v6, e5, h⟩ := h
  refine j_cont (zrV (As := [vI x1, vI 0]) msX2_208 (yX2_areEmptyable_ok e5) (Nat.le_trans (Nat.le_of_ble_eq_true rfl) hd) (zk_2 _ e4) rfl rfl (Nat.le_of_ble_eq_true rfl) dX2_prediction_9) ?_
  refine j_if_eq (tgt := 32) dX2_prediction_12 (by decide) (fun c7 => ?_) (fun c7 => ?_)
  · rw [if_pos c7] at h
    refine j_iconst (v := 0) dX2_prediction_32 (by decide) ?_
    refine j_ior dX2_prediction_33 ?_
    obtain rfl := Option.some.inj h
    exact j_iret hk.1 hk.2 rfl dX2_prediction_34
  · rw [if_neg c7] at h
    refine j_aload_n (j := 0) dX2_prediction_15 rfl rfl ?_
    replace h := zbE h
    obtain ⟨r8, e9, h⟩ := h
    refine j_getR fgX2_31 (fun _ _ _ => rfl) dX2_prediction_16 e9 ?_
    refine j_aload_n (j := 0) dX2_prediction_19 rfl rfl ?_
    replace h := zbE h
    obtain ⟨r10, e11, h⟩ := h
    refine j_getR fgX2_7 (fun _ _ _ => rfl) dX2_prediction_20 e11 ?_
    refine j_iload_n (j := 1) dX2_prediction_23 rfl rfl ?_
    replace h := zbE h
    obtain ⟨a12, e13, h⟩ := h
    subst e13
    replace h := zbE h
    obtain ⟨v14, e15, h⟩ := h
    refine j_iald (Or.inl rfl) e15 dX2_prediction_24 ?_
    refine j_bipush (v := 20) dX2_prediction_25 (by decide) ?_
    refine j_isub dX2_prediction_27 ?_
    replace h := zbE h
    obtain ⟨a16, e17, h⟩ := h
    subst e17
    replace h := zbE h
    obtain ⟨v18, e19, h⟩ := h
    refine j_iald (Or.inl rfl) e19 dX2_prediction_28 ?_
    refine j_goto (tgt := 33) dX2_prediction_29 (by decide) ?_
    refine j_ior dX2_prediction_33 ?_
    obtain rfl := Option.some.inj h
    exact j_iret hk.1 hk.2 rfl dX2_prediction_34
theorem yX2_prediction_ok {t : Nat} {x1 : Int32} {G : GS} {r : Int32} (h : fX2_prediction_0 t x1 G = some r) : zRuns yX2_prediction (ws_ yX2_prediction cX2_prediction 2 (some Jvm.ClassFile.FieldType.int)) [vR (some t), vI x1] (.inl (some (vI r)), G, G, 5) :=
  zentry (M := mX2_prediction) (plainFor_of_name (by decide +kernel)) ⟨rfl, rfl, rfl, rfl⟩ (Nat.le_of_ble_eq_true rfl) (wfX2_prediction_0 (Nat.le_refl _) t x1 G h ⟨rfl, rfl⟩)
theorem msX2_234 : zSV RX2 234 RX2 yX2_prediction cX2_prediction 2 (some Jvm.ClassFile.FieldType.int) 1 := ⟨lw_V q2967 q2969 qs80 q131 q2970, (by decide +kernel), (by decide)⟩
abbrev mX2_predictedRule : zM := (cX2_predictedRule, RX2, 5, (some Jvm.ClassFile.FieldType.int), "predictedRule", [], "(II)I")
def fX2_predictedRule_51 (t : Nat) (x1 : Int32) (x2 : Int32) (x3 : Int32) (x4 : Int32)  (G : GS) : Option ((Int32 × Int32) ⊕ (Int32)) :=
  some (.inl (x3, (x4 + 1)))
theorem wfX2_predictedRule_51 {F : zF} (hd : 6 ≤ F.2.2.2) (t : Nat) (x1 : Int32) (x2 : Int32) (x3 : Int32) (x4 : Int32)  (G : GS) {a : (Int32 × Int32) ⊕ (Int32)} (h : fX2_predictedRule_51 t x1 x2 x3 x4  G = some a) (hk : (zcase (fun s : Int32 × Int32 => J mX2_predictedRule F G 5 [(0, vR (some t)), (1, vI x1), (2, vI x2), (3, vI s.1), (4, vI s.2)] []) (zKPI F G)) a) : J mX2_predictedRule F G 51 [(0, vR (some t)), (1, vI x1), (2, vI x2), (3, vI x3), (4, vI x4)] [] := by
  unfold fX2_predictedRule_51 at h
  refine j_iinc (j := 4) (v := (x4 + 1)) (lv' := [(4, vI (x4 + 1)), (0, vR (some t)), (1, vI x1), (2, vI x2), (3, vI x3)]) dX2_predictedRule_51 rfl rfl (Nat.le_of_ble_eq_true rfl) rfl ?_
  refine j_goto (tgt := 5) dX2_predictedRule_54 (by decide) ?_
  obtain rfl := Option.some.inj h
  exact J.sub (zall [1, 2, 3, 4, 0] rfl) hk
def fX2_predictedRule_50 (t : Nat) (x1 : Int32) (x2 : Int32) (x4 : Int32) (s0 : Int32) (G : GS) : Option ((Int32 × Int32) ⊕ (Int32)) :=
  fX2_predictedRule_51 t x1 x2 s0 x4 G
theorem wfX2_predictedRule_50 {F : zF} (hd : 6 ≤ F.2.2.2) (t : Nat) (x1 : Int32) (x2 : Int32) (x4 : Int32) (s0 : Int32) (G : GS) {a : (Int32 × Int32) ⊕ (Int32)} (h : fX2_predictedRule_50 t x1 x2 x4 s0 G = some a) (hk : (zcase (fun s : Int32 × Int32 => J mX2_predictedRule F G 5 [(0, vR (some t)), (1, vI x1), (2, vI x2), (3, vI s.1), (4, vI s.2)] []) (zKPI F G)) a) : J mX2_predictedRule F G 50 [(0, vR (some t)), (1, vI x1), (2, vI x2), (4, vI x4)] [vI s0] := by
  unfold fX2_predictedRule_50 at h
  refine j_istore_n (lv' := [(3, vI s0), (0, vR (some t)), (1, vI x1), (2, vI x2), (4, vI x4)]) dX2_predictedRule_50 rfl (Nat.le_of_ble_eq_true rfl) rfl ?_
  exact J.sub (zall [1, 2, 3, 0, 4] rfl) (wfX2_predictedRule_51 hd t x1 x2 s0 x4  G h hk)
def fbX2_predictedRule_5 (t : Nat) (x1 : Int32) (x2 : Int32) (x3 : Int32) (x4 : Int32)  (G : GS) : Option ((Int32 × Int32) ⊕ (Int32)) :=
  (zgI G 2 t 6).bind fun v1 => if v1 ≤ x4 then (zo (some x3)) else ((zgR G 2 t 0).bind fun r4 => r4.bind fun a6 => (zaI G 50 a6 x4).bind fun v8 => if v8 = x1 then (zk [2] G t <| (fX2_prediction_0 t x4 G).bind fun v13 => (fX2_has_0 v13 x2 G).bind fun v15 => if v15 = 0 then (fX2_predictedRule_51 t x1 x2 x3 x4 G) else (if x3 = (-1) then (fX2_predictedRule_50 t x1 x2 x4 x4 G) else (fX2_predictedRule_50 t x1 x2 x4 (-2) G))) else (fX2_predictedRule_51 t x1 x2 x3 x4 G))
def flX2_predictedRule_5 (t : Nat) (x1 : Int32) (x2 : Int32) (x3 : Int32) (x4 : Int32) (G : GS) : Option (Int32) := zloop (fun s : Int32 × Int32 => fbX2_predictedRule_5 t x1 x2 s.1 s.2 G) (x3, x4)
theorem wfbX2_predictedRule_5 {F : zF} (hd : 6 ≤ F.2.2.2) (t : Nat) (x1 : Int32) (x2 : Int32) (x3 : Int32) (x4 : Int32) (G : GS) {a : (Int32 × Int32) ⊕ (Int32)} (h : fbX2_predictedRule_5 t x1 x2 x3 x4 G = some a) (hk : (zcase (fun s : Int32 × Int32 => J mX2_predictedRule F G 5 [(0, vR (some t)), (1, vI x1), (2, vI x2), (3, vI s.1), (4, vI s.2)] []) (zKPI F G)) a) : J mX2_predictedRule F G 5 [(0, vR (some t)), (1, vI x1), (2, vI x2), (3, vI x3), (4, vI x4)] [] := by
  unfold fbX2_predictedRule_5 at h
  refine j_iload (j := 4) dX2_predictedRule_5 rfl ?_
  refine j_aload_n (j := 0) dX2_predictedRule_7 rfl rfl ?_
  replace h := zbE h
  obtain ⟨v1, e2, h⟩ := h
  refine j_getI fgX2_113 (fun _ _ _ => rfl) dX2_predictedRule_8 e2 ?_
  refine j_icmp_ge (tgt := 57) dX2_predictedRule_11 (by decide) (fun c3 => ?_) (fun c3 => ?_)
  · rw [if_pos c3] at h
    replace h := zoE h
    obtain ⟨a, h, rfl⟩ := h
    replace hk := hk
    refine j_iload_n (j := 3) dX2_predictedRule_57 rfl rfl ?_
    obtain rfl := Option.some.inj h
    exact j_iret hk.1 hk.2 rfl dX2_predictedRule_58
  · rw [if_neg c3] at h
    refine j_aload_n (j := 0) dX2_predictedRule_14 rfl rfl ?_
    replace h := zbE h
    obtain ⟨r4, e5, h⟩ := h
    refine j_getR fgX2_7 (fun _ _ _ => rfl) dX2_predictedRule_15 e5 ?_
    refine j_iload (j := 4) dX2_predictedRule_18 rfl ?_
    replace h := zbE h
    obtain ⟨a6, e7, h⟩ := h
    subst e7
    replace h := zbE h
    obtain ⟨v8, e9, h⟩ := h
    refine j_iald (Or.inl rfl) e9 dX2_predictedRule_20 ?_
    refine j_iload_n (j := 1) dX2_predictedRule_21 rfl rfl ?_
    refine j_icmp_ne (tgt := 51) dX2_predictedRule_22 (by decide) (fun c10 => ?_) (fun c10 => ?_)
    · rw [if_pos c10] at h
      refine j_aload_n (j := 0) dX2_predictedRule_25 rfl rfl ?_
      refine j_iload (j := 4) dX2_predictedRule_26 rfl ?_
      replace h := zkE h
      obtain ⟨e11, h⟩ := h
      replace h := zbE h
      obtain ⟨v13, e12, h⟩ := h
      refine j_cont (zrV (As := [vI x4]) msX2_234 (yX2_prediction_ok e12) (Nat.le_trans (Nat.le_of_ble_eq_true rfl) hd) (zk_2 _ e11) rfl rfl (Nat.le_of_ble_eq_true rfl) dX2_predictedRule_28) ?_
      refine j_iload_n (j := 2) dX2_predictedRule_31 rfl rfl ?_
      replace h := zbE h
      obtain ⟨v15, e14, h⟩ := h
      refine j_cont (zrS (As := [vI v13, vI x2]) msX2_198 (yX2_has_ok e14) (Nat.le_trans (Nat.le_of_ble_eq_true rfl) hd) rfl rfl (Nat.le_of_ble_eq_true rfl) dX2_predictedRule_32) ?_
      refine j_if_eq (tgt := 51) dX2_predictedRule_35 (by decide) (fun c16 => ?_) (fun c16 => ?_)
      · rw [if_pos c16] at h
        exact J.sub (zall [0, 1, 2, 3, 4] rfl) (wfX2_predictedRule_51 hd t x1 x2 x3 x4  G h hk)
      · rw [if_neg c16] at h
        refine j_iload_n (j := 3) dX2_predictedRule_38 rfl rfl ?_
        refine j_iconst (v := (-1)) dX2_predictedRule_39 (by decide) ?_
        refine j_icmp_ne (tgt := 48) dX2_predictedRule_40 (by decide) (fun c17 => ?_) (fun c17 => ?_)
        · rw [if_pos c17] at h
          refine j_iload (j := 4) dX2_predictedRule_43 rfl ?_
          refine j_goto (tgt := 50) dX2_predictedRule_45 (by decide) ?_
          exact J.sub (zall [0, 1, 2, 4] rfl) (wfX2_predictedRule_50 hd t x1 x2 x4 x4 G h hk)
        · rw [if_neg c17] at h
          refine j_bipush (v := (-2)) dX2_predictedRule_48 (by decide) ?_
          exact J.sub (zall [0, 1, 2, 4] rfl) (wfX2_predictedRule_50 hd t x1 x2 x4 (-2) G h hk)
    · rw [if_neg c10] at h
      exact J.sub (zall [0, 1, 2, 3, 4] rfl) (wfX2_predictedRule_51 hd t x1 x2 x3 x4  G h hk)
theorem wflX2_predictedRule_5 {F : zF} (hd : 6 ≤ F.2.2.2) (t : Nat) (x1 : Int32) (x2 : Int32) (x3 : Int32) (x4 : Int32) (G : GS) {a : Int32} (h : flX2_predictedRule_5 t x1 x2 x3 x4 G = some a) (hk : zKPI F G a) : J mX2_predictedRule F G 5 [(0, vR (some t)), (1, vI x1), (2, vI x2), (3, vI x3), (4, vI x4)] [] := by
  unfold flX2_predictedRule_5 at h
  exact zloop_walk (P := (fun s : Int32 × Int32 => J mX2_predictedRule F G 5 [(0, vR (some t)), (1, vI x1), (2, vI x2), (3, vI s.1), (4, vI s.2)] [])) (fun s b e hk => wfbX2_predictedRule_5 hd t x1 x2 s.1 s.2 G e hk) (x3, x4) _ h hk
def fX2_predictedRule_0 (t : Nat) (x1 : Int32) (x2 : Int32)  (G : GS) : Option (Int32) :=
  flX2_predictedRule_5 t x1 x2 (-1) 0 G
theorem wfX2_predictedRule_0 {F : zF} (hd : 6 ≤ F.2.2.2) (t : Nat) (x1 : Int32) (x2 : Int32)  (G : GS) {a : Int32} (h : fX2_predictedRule_0 t x1 x2  G = some a) (hk : zKPI F G a) : J mX2_predictedRule F G 0 [(0, vR (some t)), (1, vI x1), (2, vI x2)] [] := by
  unfold fX2_predictedRule_0 at h
  refine j_iconst (v := (-1)) dX2_predictedRule_0 (by decide) ?_
  refine j_istore_n (lv' := [(3, vI (-1)), (0, vR (some t)), (1, vI x1), (2, vI x2)]) dX2_predictedRule_1 rfl (Nat.le_of_ble_eq_true rfl) rfl ?_
  refine j_iconst (v := 0) dX2_predictedRule_2 (by decide) ?_
  refine j_istore (lv' := [(4, vI 0), (3, vI (-1)), (0, vR (some t)), (1, vI x1), (2, vI x2)]) dX2_predictedRule_3 (Nat.le_of_ble_eq_true rfl) rfl ?_
  exact J.sub (zall [2, 3, 4, 1, 0] rfl) (wflX2_predictedRule_5 hd t x1 x2 (-1) 0  G h hk)
theorem yX2_predictedRule_ok {t : Nat} {x1 : Int32} {x2 : Int32} {G : GS} {r : Int32} (h : fX2_predictedRule_0 t x1 x2 G = some r) : zRuns yX2_predictedRule (ws_ yX2_predictedRule cX2_predictedRule 5 (some Jvm.ClassFile.FieldType.int)) [vR (some t), vI x1, vI x2] (.inl (some (vI r)), G, G, 6) :=
  zentry (M := mX2_predictedRule) (plainFor_of_name (by decide +kernel)) ⟨rfl, rfl, rfl, rfl⟩ (Nat.le_of_ble_eq_true rfl) (wfX2_predictedRule_0 (Nat.le_refl _) t x1 x2 G h ⟨rfl, rfl⟩)
abbrev mX2_truth : zM := (cX2_truth, RX2, 1, (some Jvm.ClassFile.FieldType.int), "truth", [], "(Z)I")
def fX2_truth_0 (x0 : Int32)  (G : GS) : Option (Int32) :=
  if x0 = 0 then (some 0) else (some 1)
theorem wfX2_truth_0 {F : zF} (hd : 1 ≤ F.2.2.2) (x0 : Int32)  (G : GS) {a : Int32} (h : fX2_truth_0 x0  G = some a) (hk : zKPI F G a) : J mX2_truth F G 0 [(0, vI x0)] [] := by
  unfold fX2_truth_0 at h
  refine j_iload_n (j := 0) dX2_truth_0 rfl rfl ?_
  refine j_if_eq (tgt := 8) dX2_truth_1 (by decide) (fun c1 => ?_) (fun c1 => ?_)
  · rw [if_pos c1] at h
    refine j_iconst (v := 0) dX2_truth_8 (by decide) ?_
    obtain rfl := Option.some.inj h
    exact j_iret hk.1 hk.2 rfl dX2_truth_9
  · rw [if_neg c1] at h
    refine j_iconst (v := 1) dX2_truth_4 (by decide) ?_
    refine j_goto (tgt := 9) dX2_truth_5 (by decide) ?_
    obtain rfl := Option.some.inj h
    exact j_iret hk.1 hk.2 rfl dX2_truth_9
theorem yX2_truth_ok {x0 : Int32} {G : GS} {r : Int32} (h : fX2_truth_0 x0 G = some r) : zRuns yX2_truth (ws_ yX2_truth cX2_truth 1 (some Jvm.ClassFile.FieldType.int)) [vI x0] (.inl (some (vI r)), G, G, 1) :=
  zentry (M := mX2_truth) (plainFor_of_name (by decide +kernel)) ⟨rfl, rfl, rfl, rfl⟩ (Nat.le_of_ble_eq_true rfl) (wfX2_truth_0 (Nat.le_refl _) x0 G h ⟨rfl, rfl⟩)
theorem msX2_227 : zSV RX2 227 RX2 yX2_knows cX2_knows 2 none 0 := ⟨lw_V q2907 q2909 qs71 q131 q2910, (by decide +kernel), (by decide)⟩
theorem msX2_240 : zSV RX2 240 RX2 yX2_predictedRule cX2_predictedRule 5 (some Jvm.ClassFile.FieldType.int) 2 := ⟨lw_V q2979 q2981 qs81 q131 q2982, (by decide +kernel), (by decide)⟩
theorem msX2_97 : zSS RX2 97 yX2_truth cX2_truth 1 (some Jvm.ClassFile.FieldType.int) 1 := ⟨lw_S q2864 q2865 q131 q2866, (by decide +kernel), (by decide)⟩
abbrev mX2_cells : zM := (cX2_cells, RX2, 5, (some Jvm.ClassFile.FieldType.int), "cells", [], "(Z)I")
def fX2_cells_82 (t : Nat) (x1 : Int32) (x2 : Int32) (x3 : Int32)  (G : GS) : Option ((Int32 × Int32) ⊕ ((Int32) × GS)) :=
  some (.inl (x2, (x3 + 1)))
theorem wfX2_cells_82 {F : zF} (hd : 8 ≤ F.2.2.2) (t : Nat) (x1 : Int32) (x2 : Int32) (x3 : Int32)  (G : GS) {a : (Int32 × Int32) ⊕ ((Int32) × GS)} (h : fX2_cells_82 t x1 x2 x3  G = some a) (hk : (zcase (fun s : Int32 × Int32 => J mX2_cells F G 8 [(0, vR (some t)), (1, vI x1), (2, vI s.1), (3, vI s.2)] []) (zKI F)) a) : J mX2_cells F G 82 [(0, vR (some t)), (1, vI x1), (2, vI x2), (3, vI x3)] [] := by
  unfold fX2_cells_82 at h
  refine j_iinc (j := 3) (v := (x3 + 1)) (lv' := [(3, vI (x3 + 1)), (0, vR (some t)), (1, vI x1), (2, vI x2)]) dX2_cells_82 rfl rfl (Nat.le_of_ble_eq_true rfl) rfl ?_
  refine j_goto (tgt := 8) dX2_cells_85 (by decide) ?_
  obtain rfl := Option.some.inj h
  exact J.sub (zall [1, 2, 3, 0] rfl) hk
def fX2_cells_71 (t : Nat) (x1 : Int32) (x3 : Int32) (x4 : Int32) (s0 : Int32) (s1 : Int32) (G : GS) : Option ((Int32 × Int32) ⊕ ((Int32 × Int32) ⊕ ((Int32) × GS))) :=
  (fX2_truth_0 s1 G).bind fun v2 => some (.inl ((s0 + v2), (x4 + 1)))
theorem wfX2_cells_71 {F : zF} (hd : 8 ≤ F.2.2.2) (t : Nat) (x1 : Int32) (x3 : Int32) (x4 : Int32) (s0 : Int32) (s1 : Int32) (G : GS) {a : (Int32 × Int32) ⊕ ((Int32 × Int32) ⊕ ((Int32) × GS))} (h : fX2_cells_71 t x1 x3 x4 s0 s1 G = some a) (hk : (zcase (fun s : Int32 × Int32 => J mX2_cells F G 17 [(0, vR (some t)), (1, vI x1), (2, vI s.1), (3, vI x3), (4, vI s.2)] []) ((zcase (fun s : Int32 × Int32 => J mX2_cells F G 8 [(0, vR (some t)), (1, vI x1), (2, vI s.1), (3, vI s.2)] []) (zKI F)))) a) : J mX2_cells F G 71 [(0, vR (some t)), (1, vI x1), (3, vI x3), (4, vI x4)] [vI s1, vI s0] := by
  unfold fX2_cells_71 at h
  replace h := zbE h
  obtain ⟨v2, e1, h⟩ := h
  refine j_cont (zrS (As := [vI s1]) msX2_97 (yX2_truth_ok e1) (Nat.le_trans (Nat.le_of_ble_eq_true rfl) hd) rfl rfl (Nat.le_of_ble_eq_true rfl) dX2_cells_71) ?_
  refine j_iadd dX2_cells_74 ?_
  refine j_istore_n (lv' := [(2, vI (s0 + v2)), (0, vR (some t)), (1, vI x1), (3, vI x3), (4, vI x4)]) dX2_cells_75 rfl (Nat.le_of_ble_eq_true rfl) rfl ?_
  refine j_iinc (j := 4) (v := (x4 + 1)) (lv' := [(4, vI (x4 + 1)), (2, vI (s0 + v2)), (0, vR (some t)), (1, vI x1), (3, vI x3)]) dX2_cells_76 rfl rfl (Nat.le_of_ble_eq_true rfl) rfl ?_
  refine j_goto (tgt := 17) dX2_cells_79 (by decide) ?_
  obtain rfl := Option.some.inj h
  exact J.sub (zall [2, 3, 1, 4, 0] rfl) hk
def fbX2_cells_17 (t : Nat) (x1 : Int32) (x2 : Int32) (x3 : Int32) (x4 : Int32)  (G : GS) : Option ((Int32 × Int32) ⊕ ((Int32 × Int32) ⊕ ((Int32) × GS))) :=
  if 13 ≤ x4 then (zo (fX2_cells_82 t x1 x2 x3 G)) else (if x1 = 0 then (zk [2] G t <| (fX2_predictedRule_0 t (20 + x3) x4 G).bind fun v5 => if v5 = (-1) then (fX2_cells_71 t x1 x3 x4 x2 0 G) else (fX2_cells_71 t x1 x3 x4 x2 1 G)) else (zk [2] G t <| (fX2_predictedRule_0 t (20 + x3) x4 G).bind fun v9 => if v9 = (-2) then (fX2_cells_71 t x1 x3 x4 x2 1 G) else (fX2_cells_71 t x1 x3 x4 x2 0 G)))
def flX2_cells_17 (t : Nat) (x1 : Int32) (x2 : Int32) (x3 : Int32) (x4 : Int32) (G : GS) : Option ((Int32 × Int32) ⊕ ((Int32) × GS)) := zloop (fun s : Int32 × Int32 => fbX2_cells_17 t x1 s.1 x3 s.2 G) (x2, x4)
theorem wfbX2_cells_17 {F : zF} (hd : 8 ≤ F.2.2.2) (t : Nat) (x1 : Int32) (x2 : Int32) (x3 : Int32) (x4 : Int32) (G : GS) {a : (Int32 × Int32) ⊕ ((Int32 × Int32) ⊕ ((Int32) × GS))} (h : fbX2_cells_17 t x1 x2 x3 x4 G = some a) (hk : (zcase (fun s : Int32 × Int32 => J mX2_cells F G 17 [(0, vR (some t)), (1, vI x1), (2, vI s.1), (3, vI x3), (4, vI s.2)] []) ((zcase (fun s : Int32 × Int32 => J mX2_cells F G 8 [(0, vR (some t)), (1, vI x1), (2, vI s.1), (3, vI s.2)] []) (zKI F)))) a) : J mX2_cells F G 17 [(0, vR (some t)), (1, vI x1), (2, vI x2), (3, vI x3), (4, vI x4)] [] := by
  unfold fbX2_cells_17 at h
  refine j_iload (j := 4) dX2_cells_17 rfl ?_
  refine j_bipush (v := 13) dX2_cells_19 (by decide) ?_
  refine j_icmp_ge (tgt := 82) dX2_cells_21 (by decide) (fun c1 => ?_) (fun c1 => ?_)
  · rw [if_pos c1] at h
    replace h := zoE h
    obtain ⟨a, h, rfl⟩ := h
    replace hk := hk
    exact J.sub (zall [0, 1, 2, 3] rfl) (wfX2_cells_82 hd t x1 x2 x3  G h hk)
  · rw [if_neg c1] at h
    refine j_iload_n (j := 2) dX2_cells_24 rfl rfl ?_
    refine j_iload_n (j := 1) dX2_cells_25 rfl rfl ?_
    refine j_if_eq (tgt := 52) dX2_cells_26 (by decide) (fun c2 => ?_) (fun c2 => ?_)
    · rw [if_pos c2] at h
      refine j_aload_n (j := 0) dX2_cells_52 rfl rfl ?_
      refine j_bipush (v := 20) dX2_cells_53 (by decide) ?_
      refine j_iload_n (j := 3) dX2_cells_55 rfl rfl ?_
      refine j_iadd dX2_cells_56 ?_
      refine j_iload (j := 4) dX2_cells_57 rfl ?_
      replace h := zkE h
      obtain ⟨e3, h⟩ := h
      replace h := zbE h
      obtain ⟨v5, e4, h⟩ := h
      refine j_cont (zrV (As := [vI (20 + x3), vI x4]) msX2_240 (yX2_predictedRule_ok e4) (Nat.le_trans (Nat.le_of_ble_eq_true rfl) hd) (zk_2 _ e3) rfl rfl (Nat.le_of_ble_eq_true rfl) dX2_cells_59) ?_
      refine j_iconst (v := (-1)) dX2_cells_62 (by decide) ?_
      refine j_icmp_eq (tgt := 70) dX2_cells_63 (by decide) (fun c6 => ?_) (fun c6 => ?_)
      · rw [if_pos c6] at h
        refine j_iconst (v := 0) dX2_cells_70 (by decide) ?_
        exact J.sub (zall [0, 1, 3, 4] rfl) (wfX2_cells_71 hd t x1 x3 x4 x2 0 G h hk)
      · rw [if_neg c6] at h
        refine j_iconst (v := 1) dX2_cells_66 (by decide) ?_
        refine j_goto (tgt := 71) dX2_cells_67 (by decide) ?_
        exact J.sub (zall [0, 1, 3, 4] rfl) (wfX2_cells_71 hd t x1 x3 x4 x2 1 G h hk)
    · rw [if_neg c2] at h
      refine j_aload_n (j := 0) dX2_cells_29 rfl rfl ?_
      refine j_bipush (v := 20) dX2_cells_30 (by decide) ?_
      refine j_iload_n (j := 3) dX2_cells_32 rfl rfl ?_
      refine j_iadd dX2_cells_33 ?_
      refine j_iload (j := 4) dX2_cells_34 rfl ?_
      replace h := zkE h
      obtain ⟨e7, h⟩ := h
      replace h := zbE h
      obtain ⟨v9, e8, h⟩ := h
      refine j_cont (zrV (As := [vI (20 + x3), vI x4]) msX2_240 (yX2_predictedRule_ok e8) (Nat.le_trans (Nat.le_of_ble_eq_true rfl) hd) (zk_2 _ e7) rfl rfl (Nat.le_of_ble_eq_true rfl) dX2_cells_36) ?_
      refine j_bipush (v := (-2)) dX2_cells_39 (by decide) ?_
      refine j_icmp_ne (tgt := 48) dX2_cells_41 (by decide) (fun c10 => ?_) (fun c10 => ?_)
      · rw [if_pos c10] at h
        refine j_iconst (v := 1) dX2_cells_44 (by decide) ?_
        refine j_goto (tgt := 71) dX2_cells_45 (by decide) ?_
        exact J.sub (zall [0, 1, 3, 4] rfl) (wfX2_cells_71 hd t x1 x3 x4 x2 1 G h hk)
      · rw [if_neg c10] at h
        refine j_iconst (v := 0) dX2_cells_48 (by decide) ?_
        refine j_goto (tgt := 71) dX2_cells_49 (by decide) ?_
        exact J.sub (zall [0, 1, 3, 4] rfl) (wfX2_cells_71 hd t x1 x3 x4 x2 0 G h hk)
theorem wflX2_cells_17 {F : zF} (hd : 8 ≤ F.2.2.2) (t : Nat) (x1 : Int32) (x2 : Int32) (x3 : Int32) (x4 : Int32) (G : GS) {a : (Int32 × Int32) ⊕ ((Int32) × GS)} (h : flX2_cells_17 t x1 x2 x3 x4 G = some a) (hk : (zcase (fun s : Int32 × Int32 => J mX2_cells F G 8 [(0, vR (some t)), (1, vI x1), (2, vI s.1), (3, vI s.2)] []) (zKI F)) a) : J mX2_cells F G 17 [(0, vR (some t)), (1, vI x1), (2, vI x2), (3, vI x3), (4, vI x4)] [] := by
  unfold flX2_cells_17 at h
  exact zloop_walk (P := (fun s : Int32 × Int32 => J mX2_cells F G 17 [(0, vR (some t)), (1, vI x1), (2, vI s.1), (3, vI x3), (4, vI s.2)] [])) (fun s b e hk => wfbX2_cells_17 hd t x1 s.1 x3 s.2 G e hk) (x2, x4) _ h hk
def fbX2_cells_8 (t : Nat) (x1 : Int32) (x2 : Int32) (x3 : Int32)  (G : GS) : Option ((Int32 × Int32) ⊕ ((Int32) × GS)) :=
  if 12 ≤ x3 then (zo (some (x2, G))) else (flX2_cells_17 t x1 x2 x3 0 G)
def flX2_cells_8 (t : Nat) (x1 : Int32) (x2 : Int32) (x3 : Int32) (G : GS) : Option ((Int32) × GS) := zloop (fun s : Int32 × Int32 => fbX2_cells_8 t x1 s.1 s.2 G) (x2, x3)
theorem wfbX2_cells_8 {F : zF} (hd : 8 ≤ F.2.2.2) (t : Nat) (x1 : Int32) (x2 : Int32) (x3 : Int32) (G : GS) {a : (Int32 × Int32) ⊕ ((Int32) × GS)} (h : fbX2_cells_8 t x1 x2 x3 G = some a) (hk : (zcase (fun s : Int32 × Int32 => J mX2_cells F G 8 [(0, vR (some t)), (1, vI x1), (2, vI s.1), (3, vI s.2)] []) (zKI F)) a) : J mX2_cells F G 8 [(0, vR (some t)), (1, vI x1), (2, vI x2), (3, vI x3)] [] := by
  unfold fbX2_cells_8 at h
  refine j_iload_n (j := 3) dX2_cells_8 rfl rfl ?_
  refine j_bipush (v := 12) dX2_cells_9 (by decide) ?_
  refine j_icmp_ge (tgt := 88) dX2_cells_11 (by decide) (fun c1 => ?_) (fun c1 => ?_)
  · rw [if_pos c1] at h
    replace h := zoE h
    obtain ⟨a, h, rfl⟩ := h
    replace hk := hk
    refine j_iload_n (j := 2) dX2_cells_88 rfl rfl ?_
    obtain rfl := Option.some.inj h
    exact j_iret hk.1 hk.2 rfl dX2_cells_89
  · rw [if_neg c1] at h
    refine j_iconst (v := 0) dX2_cells_14 (by decide) ?_
    refine j_istore (lv' := [(4, vI 0), (0, vR (some t)), (1, vI x1), (2, vI x2), (3, vI x3)]) dX2_cells_15 (Nat.le_of_ble_eq_true rfl) rfl ?_
    exact J.sub (zall [1, 2, 3, 4, 0] rfl) (wflX2_cells_17 hd t x1 x2 x3 0  G h hk)
theorem wflX2_cells_8 {F : zF} (hd : 8 ≤ F.2.2.2) (t : Nat) (x1 : Int32) (x2 : Int32) (x3 : Int32) (G : GS) {a : (Int32) × GS} (h : flX2_cells_8 t x1 x2 x3 G = some a) (hk : zKI F a) : J mX2_cells F G 8 [(0, vR (some t)), (1, vI x1), (2, vI x2), (3, vI x3)] [] := by
  unfold flX2_cells_8 at h
  exact zloop_walk (P := (fun s : Int32 × Int32 => J mX2_cells F G 8 [(0, vR (some t)), (1, vI x1), (2, vI s.1), (3, vI s.2)] [])) (fun s b e hk => wfbX2_cells_8 hd t x1 s.1 s.2 G e hk) (x2, x3) _ h hk
def fX2_cells_0 (t : Nat) (x1 : Int32)  (G : GS) : Option ((Int32) × GS) :=
  zk [2] G t <| (fX2_knows_0 t G).bind fun G3 => flX2_cells_8 t x1 0 0 G3
theorem wfX2_cells_0 {F : zF} (hd : 8 ≤ F.2.2.2) (t : Nat) (x1 : Int32)  (G : GS) {a : (Int32) × GS} (h : fX2_cells_0 t x1  G = some a) (hk : zKI F a) : J mX2_cells F G 0 [(0, vR (some t)), (1, vI x1)] [] := by
  unfold fX2_cells_0 at h
  refine j_aload_n (j := 0) dX2_cells_0 rfl rfl ?_
  replace h := zkE h
  obtain ⟨e1, h⟩ := h
  replace h := zbE h
  obtain ⟨G3, e2, h⟩ := h
  refine j_cont (zrV (As := []) msX2_227 (yX2_knows_ok e2) (Nat.le_trans (Nat.le_of_ble_eq_true rfl) hd) (zk_2 _ e1) rfl rfl (Nat.le_of_ble_eq_true rfl) dX2_cells_1) ?_
  refine j_iconst (v := 0) dX2_cells_4 (by decide) ?_
  refine j_istore_n (lv' := [(2, vI 0), (0, vR (some t)), (1, vI x1)]) dX2_cells_5 rfl (Nat.le_of_ble_eq_true rfl) rfl ?_
  refine j_iconst (v := 0) dX2_cells_6 (by decide) ?_
  refine j_istore_n (lv' := [(3, vI 0), (2, vI 0), (0, vR (some t)), (1, vI x1)]) dX2_cells_7 rfl (Nat.le_of_ble_eq_true rfl) rfl ?_
  exact J.sub (zall [2, 3, 1, 0] rfl) (wflX2_cells_8 hd t x1 0 0  G3 h hk)
theorem yX2_cells_ok {t : Nat} {x1 : Int32} {G : GS} {r : Int32} {G1 : GS} (h : fX2_cells_0 t x1 G = some (r, G1)) : zRuns yX2_cells (ws_ yX2_cells cX2_cells 5 (some Jvm.ClassFile.FieldType.int)) [vR (some t), vI x1] (.inl (some (vI r)), G, G1, 8) :=
  zentry (M := mX2_cells) (plainFor_of_name (by decide +kernel)) ⟨rfl, rfl, rfl, rfl⟩ (Nat.le_of_ble_eq_true rfl) (wfX2_cells_0 (Nat.le_refl _) t x1 G h ⟨rfl, rfl⟩)
abbrev mX2_closes : zM := (cX2_closes, RX2, 3, none, "closes", [], "(I)V")
def fbX2_closes_12 (t : Nat) (x2 : Int32)  (G : GS) : Option ((Int32 × GS) ⊕ (GS)) :=
  (zgI G 2 t 6).bind fun v1 => if v1 ≤ x2 then (zo (some G)) else (zk [2] G t <| (fX2_copies_0 t (x2 + 1) x2 G).bind fun G6 => some (.inl ((x2 + 1), G6)))
def flX2_closes_12 (t : Nat) (x2 : Int32) (G : GS) : Option (GS) := zloop (fun s : Int32 × GS => fbX2_closes_12 t s.1 s.2) (x2, G)
theorem wfbX2_closes_12 {F : zF} (hd : 2 ≤ F.2.2.2) (t : Nat) (x2 : Int32) (G : GS) {a : (Int32 × GS) ⊕ (GS)} (h : fbX2_closes_12 t x2 G = some a) (hk : (zcase (fun s : Int32 × GS => J mX2_closes F s.2 12 [(0, vR (some t)), (2, vI s.1)] []) (zKV F)) a) : J mX2_closes F G 12 [(0, vR (some t)), (2, vI x2)] [] := by
  unfold fbX2_closes_12 at h
  refine j_iload_n (j := 1) dX2_closes_12 rfl rfl ?_
  refine j_aload_n (j := 0) dX2_closes_13 rfl rfl ?_
  replace h := zbE h
  obtain ⟨v1, e2, h⟩ := h
  refine j_getI fgX2_113 (fun _ _ _ => rfl) dX2_closes_14 e2 ?_
  refine j_icmp_ge (tgt := 34) dX2_closes_17 (by decide) (fun c3 => ?_) (fun c3 => ?_)
  · rw [if_pos c3] at h
    replace h := zoE h
    obtain ⟨a, h, rfl⟩ := h
    replace hk := hk
    obtain rfl := Option.some.inj h
    exact j_vret hk.1 hk.2 rfl dX2_closes_34
  · rw [if_neg c3] at h
    refine j_aload_n (j := 0) dX2_closes_20 rfl rfl ?_
    refine j_iload_n (j := 1) dX2_closes_21 rfl rfl ?_
    refine j_iconst (v := 1) dX2_closes_22 (by decide) ?_
    refine j_iadd dX2_closes_23 ?_
    refine j_iload_n (j := 1) dX2_closes_24 rfl rfl ?_
    replace h := zkE h
    obtain ⟨e4, h⟩ := h
    replace h := zbE h
    obtain ⟨G6, e5, h⟩ := h
    refine j_cont (zrV (As := [vI (x2 + 1), vI x2]) msX2_116 (yX2_copies_ok e5) (Nat.le_trans (Nat.le_of_ble_eq_true rfl) hd) (zk_2 _ e4) rfl rfl (Nat.le_of_ble_eq_true rfl) dX2_closes_25) ?_
    refine j_iinc (j := 1) (v := (x2 + 1)) (lv' := [(2, vI (x2 + 1)), (0, vR (some t))]) dX2_closes_28 rfl rfl (Nat.le_of_ble_eq_true rfl) rfl ?_
    refine j_goto (tgt := 12) dX2_closes_31 (by decide) ?_
    obtain rfl := Option.some.inj h
    exact J.sub (zall [1, 0] rfl) hk
theorem wflX2_closes_12 {F : zF} (hd : 2 ≤ F.2.2.2) (t : Nat) (x2 : Int32) (G : GS) {a : GS} (h : flX2_closes_12 t x2 G = some a) (hk : zKV F a) : J mX2_closes F G 12 [(0, vR (some t)), (2, vI x2)] [] := by
  unfold flX2_closes_12 at h
  exact zloop_walk (P := (fun s : Int32 × GS => J mX2_closes F s.2 12 [(0, vR (some t)), (2, vI s.1)] [])) (fun s b e hk => wfbX2_closes_12 hd t s.1 s.2 e hk) (x2, G) _ h hk
def fX2_closes_0 (t : Nat) (x1 : Int32)  (G : GS) : Option (GS) :=
  (zgI G 2 t 6).bind fun v1 => (zpI G 2 t 6 (v1 - 1)).bind fun G3 => flX2_closes_12 t x1 G3
theorem wfX2_closes_0 {F : zF} (hd : 2 ≤ F.2.2.2) (t : Nat) (x1 : Int32)  (G : GS) {a : GS} (h : fX2_closes_0 t x1  G = some a) (hk : zKV F a) : J mX2_closes F G 0 [(0, vR (some t)), (1, vI x1)] [] := by
  unfold fX2_closes_0 at h
  refine j_aload_n (j := 0) dX2_closes_0 rfl rfl ?_
  refine j_dup dX2_closes_1 rfl ?_
  replace h := zbE h
  obtain ⟨v1, e2, h⟩ := h
  refine j_getI fgX2_113 (fun _ _ _ => rfl) dX2_closes_2 e2 ?_
  refine j_iconst (v := 1) dX2_closes_5 (by decide) ?_
  refine j_isub dX2_closes_6 ?_
  replace h := zbE h
  obtain ⟨G3, e4, h⟩ := h
  refine j_putI fpX2_113_X2 (Or.inl rfl) rfl dX2_closes_7 e4 ?_
  refine j_iload_n (j := 1) dX2_closes_10 rfl rfl ?_
  refine j_istore_n (lv' := [(2, vI x1), (0, vR (some t)), (1, vI x1)]) dX2_closes_11 rfl (Nat.le_of_ble_eq_true rfl) rfl ?_
  exact J.sub (zall [1, 0] rfl) (wflX2_closes_12 hd t x1  G3 h hk)
theorem yX2_closes_ok {t : Nat} {x1 : Int32} {G : GS} {G1 : GS} (h : fX2_closes_0 t x1 G = some G1) : zRuns yX2_closes (ws_ yX2_closes cX2_closes 3 none) [vR (some t), vI x1] (.inl none, G, G1, 2) :=
  zentry (M := mX2_closes) (plainFor_of_name (by decide +kernel)) ⟨rfl, rfl, rfl, rfl⟩ (Nat.le_of_ble_eq_true rfl) (wfX2_closes_0 (Nat.le_refl _) t x1 G h ⟨rfl, rfl⟩)
theorem msX2_243 : zSV RX2 243 RX2 yX2_cells cX2_cells 5 (some Jvm.ClassFile.FieldType.int) 1 := ⟨lw_V q2987 q2989 qs82 q131 q2990, (by decide +kernel), (by decide)⟩
abbrev mX2_conflicts : zM := (cX2_conflicts, RX2, 1, (some Jvm.ClassFile.FieldType.int), "conflicts", [], "()I")
def fX2_conflicts_0 (t : Nat)  (G : GS) : Option ((Int32) × GS) :=
  zk [2] G t <| zb2 (fX2_cells_0 t 1 G) fun v3 G4 => zk [2] G4 t <| zb2 (fX2_tellsOf_0 t v3 G4) fun v7 G8 => some (v7, G8)
theorem wfX2_conflicts_0 {F : zF} (hd : 9 ≤ F.2.2.2) (t : Nat)  (G : GS) {a : (Int32) × GS} (h : fX2_conflicts_0 t  G = some a) (hk : zKI F a) : J mX2_conflicts F G 0 [(0, vR (some t))] [] := by
  unfold fX2_conflicts_0 at h
  refine j_aload_n (j := 0) dX2_conflicts_0 rfl rfl ?_
  refine j_aload_n (j := 0) dX2_conflicts_1 rfl rfl ?_
  refine j_iconst (v := 1) dX2_conflicts_2 (by decide) ?_
  replace h := zkE h
  obtain ⟨e1, h⟩ := h
  replace h := zb2E h
  obtain ⟨v3, G4, e2, h⟩ := h
  refine j_cont (zrV (As := [vI 1]) msX2_243 (yX2_cells_ok e2) (Nat.le_trans (Nat.le_of_ble_eq_true rfl) hd) (zk_2 _ e1) rfl rfl (Nat.le_of_ble_eq_true rfl) dX2_conflicts_3) ?_
  replace h := zkE h
  obtain ⟨e5, h⟩ := h
  replace h := zb2E h
  obtain ⟨v7, G8, e6, h⟩ := h
  refine j_cont (zrV (As := [vI v3]) msX2_184 (yX2_tellsOf_ok e6) (Nat.le_trans (Nat.le_of_ble_eq_true rfl) hd) (zk_2 _ e5) rfl rfl (Nat.le_of_ble_eq_true rfl) dX2_conflicts_6) ?_
  obtain rfl := Option.some.inj h
  exact j_iret hk.1 hk.2 rfl dX2_conflicts_9
theorem yX2_conflicts_ok {t : Nat} {G : GS} {r : Int32} {G1 : GS} (h : fX2_conflicts_0 t G = some (r, G1)) : zRuns yX2_conflicts (ws_ yX2_conflicts cX2_conflicts 1 (some Jvm.ClassFile.FieldType.int)) [vR (some t)] (.inl (some (vI r)), G, G1, 9) :=
  zentry (M := mX2_conflicts) (plainFor_of_name (by decide +kernel)) ⟨rfl, rfl, rfl, rfl⟩ (Nat.le_of_ble_eq_true rfl) (wfX2_conflicts_0 (Nat.le_refl _) t G h ⟨rfl, rfl⟩)
end
