/-! printed: functions and walks -/
set_option maxRecDepth 100000
noncomputable section
theorem msX0_42 : zSV RX0 42 RX1 yX1_followOf cX1_followOf 2 (some Jvm.ClassFile.FieldType.int) 1 := ⟨lw_V q1882 q1883 q1884 q123 q1885, (by decide +kernel), (by decide)⟩
abbrev mX0_followOf : zM := (cX0_followOf, RX0, 4, (some Jvm.ClassFile.FieldType.int), "followOf", [(0, 9, 12, 13)], "(LSelahGenerator;I[J)I")
def fX0_followOf_0 (x0 : Option Nat) (x1 : Int32) (x2 : Option Nat)  (G : GS) : Option ((Int32) × GS) :=
  x0.bind fun a1 => zk [1] G a1 <| zb3 (fX1_followOf_0 a1 x1 G) (fun v5 G6 => x2.bind fun a9 => (zsL G6 51 a9 (0 : Int32) v5.toInt64).bind fun G11 => some (0, G11)) (fun X7 G8 => if X7 = "java/lang/IndexOutOfBoundsException" then (some (1, G8)) else none)
theorem wfX0_followOf_0 {F : zF} (hd : 53 ≤ F.2.2.2) (x0 : Option Nat) (x1 : Int32) (x2 : Option Nat)  (G : GS) {a : (Int32) × GS} (h : fX0_followOf_0 x0 x1 x2  G = some a) (hk : zKI F a) : J mX0_followOf F G 0 [(0, vR x0), (1, vI x1), (2, vR x2)] [] := by
  unfold fX0_followOf_0 at h
  refine j_aload_n (j := 2) dX0_followOf_0 rfl rfl ?_
  refine j_iconst (v := 0) dX0_followOf_1 (by decide) ?_
  refine j_aload_n (j := 0) dX0_followOf_2 rfl rfl ?_
  refine j_iload_n (j := 1) dX0_followOf_3 rfl rfl ?_
  replace h := zbE h
  obtain ⟨a1, e2, h⟩ := h
  subst e2
  replace h := zkE h
  obtain ⟨e3, h⟩ := h
  replace h := zb3E h
  rcases h with ⟨v5, G6, e4, h⟩ | ⟨X7, G8, e4, h⟩
  · refine j_cont (zrV (As := [vI x1]) msX0_42 (yX1_followOf_ok e4) (Nat.le_trans (Nat.le_of_ble_eq_true rfl) hd) (zk_1 _ e3) rfl rfl (Nat.le_of_ble_eq_true rfl) dX0_followOf_4) ?_
    refine j_i2l dX0_followOf_7 ?_
    replace h := zbE h
    obtain ⟨a9, e10, h⟩ := h
    subst e10
    replace h := zbE h
    obtain ⟨G11, e12, h⟩ := h
    refine j_last e12 dX0_followOf_8 ?_
    refine j_goto (tgt := 15) dX0_followOf_9 (by decide) ?_
    refine j_iconst (v := 0) dX0_followOf_15 (by decide) ?_
    obtain rfl := Option.some.inj h
    exact j_iret hk.1 hk.2 rfl dX0_followOf_16
  · refine j_thr (zrV (As := [vI x1]) msX0_42 (yX1_followOf_ok e4) (Nat.le_trans (Nat.le_of_ble_eq_true rfl) hd) (zk_1 _ e3) rfl rfl (Nat.le_of_ble_eq_true rfl) dX0_followOf_4) ?_
    by_cases c15 : X7 = "java/lang/IndexOutOfBoundsException"
    · rw [if_pos c15] at h
      subst c15
      refine jx_catch (n := 12) [] ⟨0, 9, 12, 13⟩ [] rfl (fun z hz => nomatch hz) rfl (by decide) q1669 (zxw 5 rfl) rfl (fun q14 => ?_)
      refine j_astore_n (lv' := [(3, vR (some q14)), (0, vR (some a1)), (1, vI x1), (2, vR x2)]) dX0_followOf_12 rfl (Nat.le_of_ble_eq_true rfl) rfl ?_
      refine j_iconst (v := 1) dX0_followOf_13 (by decide) ?_
      obtain rfl := Option.some.inj h
      exact j_iret hk.1 hk.2 rfl dX0_followOf_14
    · rw [if_neg c15] at h
      cases h
theorem yX0_followOf_ok {x0 : Option Nat} {x1 : Int32} {x2 : Option Nat} {G : GS} {r : Int32} {G1 : GS} (h : fX0_followOf_0 x0 x1 x2 G = some (r, G1)) : zRuns yX0_followOf (wsW_ yX0_followOf cX0_followOf 4 (some Jvm.ClassFile.FieldType.int) [(0, 9, 12, 13)]) [vR x0, vI x1, vR x2] (.inl (some (vI r)), G, G1, 53) :=
  zentryW (M := mX0_followOf) (by decide +kernel) ⟨rfl, rfl, rfl⟩ (Nat.le_of_ble_eq_true rfl) (wfX0_followOf_0 (Nat.le_refl _) x0 x1 x2 G h ⟨rfl, rfl⟩)
theorem msX0_74 : zSV RX0 74 RX1 yX1_give cX1_give 3 (some Jvm.ClassFile.FieldType.int) 1 := ⟨lw_V q2498 q2499 q2500 q123 q2501, (by decide +kernel), (by decide)⟩
abbrev mX0_give : zM := (cX0_give, RX0, 4, (some Jvm.ClassFile.FieldType.int), "give", [(0, 9, 12, 13), (0, 9, 15, 15)], "(LSelahGenerator;I[J)I")
def fX0_give_0 (x0 : Option Nat) (x1 : Int32) (x2 : Option Nat)  (G : GS) : Option ((Int32) × GS) :=
  x0.bind fun a1 => zk [1] G a1 <| zb3 (fX1_give_0 a1 x1 G) (fun v5 G6 => x2.bind fun a9 => (zsL G6 51 a9 (0 : Int32) v5.toInt64).bind fun G11 => some (0, G11)) (fun X7 G8 => if X7 = "java/lang/IllegalStateException" then (some (2, G8)) else (if X7 = "java/lang/IndexOutOfBoundsException" then (some (1, G8)) else none))
theorem wfX0_give_0 {F : zF} (hd : 57 ≤ F.2.2.2) (x0 : Option Nat) (x1 : Int32) (x2 : Option Nat)  (G : GS) {a : (Int32) × GS} (h : fX0_give_0 x0 x1 x2  G = some a) (hk : zKI F a) : J mX0_give F G 0 [(0, vR x0), (1, vI x1), (2, vR x2)] [] := by
  unfold fX0_give_0 at h
  refine j_aload_n (j := 2) dX0_give_0 rfl rfl ?_
  refine j_iconst (v := 0) dX0_give_1 (by decide) ?_
  refine j_aload_n (j := 0) dX0_give_2 rfl rfl ?_
  refine j_iload_n (j := 1) dX0_give_3 rfl rfl ?_
  replace h := zbE h
  obtain ⟨a1, e2, h⟩ := h
  subst e2
  replace h := zkE h
  obtain ⟨e3, h⟩ := h
  replace h := zb3E h
  rcases h with ⟨v5, G6, e4, h⟩ | ⟨X7, G8, e4, h⟩
  · refine j_cont (zrV (As := [vI x1]) msX0_74 (yX1_give_ok e4) (Nat.le_trans (Nat.le_of_ble_eq_true rfl) hd) (zk_1 _ e3) rfl rfl (Nat.le_of_ble_eq_true rfl) dX0_give_4) ?_
    refine j_i2l dX0_give_7 ?_
    replace h := zbE h
    obtain ⟨a9, e10, h⟩ := h
    subst e10
    replace h := zbE h
    obtain ⟨G11, e12, h⟩ := h
    refine j_last e12 dX0_give_8 ?_
    refine j_goto (tgt := 18) dX0_give_9 (by decide) ?_
    refine j_iconst (v := 0) dX0_give_18 (by decide) ?_
    obtain rfl := Option.some.inj h
    exact j_iret hk.1 hk.2 rfl dX0_give_19
  · refine j_thr (zrV (As := [vI x1]) msX0_74 (yX1_give_ok e4) (Nat.le_trans (Nat.le_of_ble_eq_true rfl) hd) (zk_1 _ e3) rfl rfl (Nat.le_of_ble_eq_true rfl) dX0_give_4) ?_
    by_cases c17 : X7 = "java/lang/IllegalStateException"
    · rw [if_pos c17] at h
      subst c17
      refine jx_catch (n := 15) [⟨0, 9, 12, 13⟩] ⟨0, 9, 15, 15⟩ [] rfl (fun z hz => by
    simp only [List.mem_cons, List.not_mem_nil, or_false] at hz
    subst hz
    · exact Or.inr ⟨by decide, _, q1669, by simp [zncs]⟩) rfl (by decide) q1701 (zxw 10 rfl) rfl (fun q16 => ?_)
      refine j_astore_n (lv' := [(3, vR (some q16)), (0, vR (some a1)), (1, vI x1), (2, vR x2)]) dX0_give_15 rfl (Nat.le_of_ble_eq_true rfl) rfl ?_
      refine j_iconst (v := 2) dX0_give_16 (by decide) ?_
      obtain rfl := Option.some.inj h
      exact j_iret hk.1 hk.2 rfl dX0_give_17
    · rw [if_neg c17] at h
      by_cases c15 : X7 = "java/lang/IndexOutOfBoundsException"
      · rw [if_pos c15] at h
        subst c15
        refine jx_catch (n := 12) [] ⟨0, 9, 12, 13⟩ [⟨0, 9, 15, 15⟩] rfl (fun z hz => nomatch hz) rfl (by decide) q1669 (zxw 5 rfl) rfl (fun q14 => ?_)
        refine j_astore_n (lv' := [(3, vR (some q14)), (0, vR (some a1)), (1, vI x1), (2, vR x2)]) dX0_give_12 rfl (Nat.le_of_ble_eq_true rfl) rfl ?_
        refine j_iconst (v := 1) dX0_give_13 (by decide) ?_
        obtain rfl := Option.some.inj h
        exact j_iret hk.1 hk.2 rfl dX0_give_14
      · rw [if_neg c15] at h
        cases h
theorem yX0_give_ok {x0 : Option Nat} {x1 : Int32} {x2 : Option Nat} {G : GS} {r : Int32} {G1 : GS} (h : fX0_give_0 x0 x1 x2 G = some (r, G1)) : zRuns yX0_give (wsW_ yX0_give cX0_give 4 (some Jvm.ClassFile.FieldType.int) [(0, 9, 12, 13), (0, 9, 15, 15)]) [vR x0, vI x1, vR x2] (.inl (some (vI r)), G, G1, 57) :=
  zentryW (M := mX0_give) (by decide +kernel) ⟨rfl, rfl, rfl⟩ (Nat.le_of_ble_eq_true rfl) (wfX0_give_0 (Nat.le_refl _) x0 x1 x2 G h ⟨rfl, rfl⟩)
theorem msX0_61 : zSV RX0 61 RX1 yX1_isLeftRecursive cX1_isLeftRecursive 2 (some Jvm.ClassFile.FieldType.boolean) 1 := ⟨lw_V q1957 q1958 q1959 q123 q1960, (by decide +kernel), (by decide)⟩
abbrev mX0_isLeftRecursive : zM := (cX0_isLeftRecursive, RX0, 4, (some Jvm.ClassFile.FieldType.int), "isLeftRecursive", [(0, 16, 19, 13)], "(LSelahGenerator;I[J)I")
def fX0_isLeftRecursive_15  (s0 : Option Nat) (s1 : Int32) (s2 : Int64) (G : GS) : Option ((Int32) × GS) :=
  s0.bind fun a1 => (zsL G 51 a1 s1 s2).bind fun G3 => some (0, G3)
theorem wfX0_isLeftRecursive_15 {F : zF} (hd : 53 ≤ F.2.2.2)  (s0 : Option Nat) (s1 : Int32) (s2 : Int64) (G : GS) {a : (Int32) × GS} (h : fX0_isLeftRecursive_15  s0 s1 s2 G = some a) (hk : zKI F a) : J mX0_isLeftRecursive F G 15 [] [vL s2, vI s1, vR s0] := by
  unfold fX0_isLeftRecursive_15 at h
  replace h := zbE h
  obtain ⟨a1, e2, h⟩ := h
  subst e2
  replace h := zbE h
  obtain ⟨G3, e4, h⟩ := h
  refine j_last e4 dX0_isLeftRecursive_15 ?_
  refine j_goto (tgt := 22) dX0_isLeftRecursive_16 (by decide) ?_
  refine j_iconst (v := 0) dX0_isLeftRecursive_22 (by decide) ?_
  obtain rfl := Option.some.inj h
  exact j_iret hk.1 hk.2 rfl dX0_isLeftRecursive_23
def fX0_isLeftRecursive_0 (x0 : Option Nat) (x1 : Int32) (x2 : Option Nat)  (G : GS) : Option ((Int32) × GS) :=
  x0.bind fun a1 => zk [1] G a1 <| zb3 (fX1_isLeftRecursive_0 a1 x1 G) (fun v5 G6 => if v5 = 0 then (fX0_isLeftRecursive_15 x2 0 0 G6) else (fX0_isLeftRecursive_15 x2 0 1 G6)) (fun X7 G8 => if X7 = "java/lang/IndexOutOfBoundsException" then (some (1, G8)) else none)
theorem wfX0_isLeftRecursive_0 {F : zF} (hd : 53 ≤ F.2.2.2) (x0 : Option Nat) (x1 : Int32) (x2 : Option Nat)  (G : GS) {a : (Int32) × GS} (h : fX0_isLeftRecursive_0 x0 x1 x2  G = some a) (hk : zKI F a) : J mX0_isLeftRecursive F G 0 [(0, vR x0), (1, vI x1), (2, vR x2)] [] := by
  unfold fX0_isLeftRecursive_0 at h
  refine j_aload_n (j := 2) dX0_isLeftRecursive_0 rfl rfl ?_
  refine j_iconst (v := 0) dX0_isLeftRecursive_1 (by decide) ?_
  refine j_aload_n (j := 0) dX0_isLeftRecursive_2 rfl rfl ?_
  refine j_iload_n (j := 1) dX0_isLeftRecursive_3 rfl rfl ?_
  replace h := zbE h
  obtain ⟨a1, e2, h⟩ := h
  subst e2
  replace h := zkE h
  obtain ⟨e3, h⟩ := h
  replace h := zb3E h
  rcases h with ⟨v5, G6, e4, h⟩ | ⟨X7, G8, e4, h⟩
  · refine j_cont (zrV (As := [vI x1]) msX0_61 (yX1_isLeftRecursive_ok e4) (Nat.le_trans (Nat.le_of_ble_eq_true rfl) hd) (zk_1 _ e3) rfl rfl (Nat.le_of_ble_eq_true rfl) dX0_isLeftRecursive_4) ?_
    refine j_if_eq (tgt := 14) dX0_isLeftRecursive_7 (by decide) (fun c9 => ?_) (fun c9 => ?_)
    · rw [if_pos c9] at h
      refine j_lconst (v := 0) dX0_isLeftRecursive_14 rfl ?_
      exact J.sub (zall [] rfl) (wfX0_isLeftRecursive_15 hd  x2 0 0 G6 h hk)
    · rw [if_neg c9] at h
      refine j_lconst (v := 1) dX0_isLeftRecursive_10 rfl ?_
      refine j_goto (tgt := 15) dX0_isLeftRecursive_11 (by decide) ?_
      exact J.sub (zall [] rfl) (wfX0_isLeftRecursive_15 hd  x2 0 1 G6 h hk)
  · refine j_thr (zrV (As := [vI x1]) msX0_61 (yX1_isLeftRecursive_ok e4) (Nat.le_trans (Nat.le_of_ble_eq_true rfl) hd) (zk_1 _ e3) rfl rfl (Nat.le_of_ble_eq_true rfl) dX0_isLeftRecursive_4) ?_
    by_cases c12 : X7 = "java/lang/IndexOutOfBoundsException"
    · rw [if_pos c12] at h
      subst c12
      refine jx_catch (n := 19) [] ⟨0, 16, 19, 13⟩ [] rfl (fun z hz => nomatch hz) rfl (by decide) q1669 (zxw 5 rfl) rfl (fun q11 => ?_)
      refine j_astore_n (lv' := [(3, vR (some q11)), (0, vR (some a1)), (1, vI x1), (2, vR x2)]) dX0_isLeftRecursive_19 rfl (Nat.le_of_ble_eq_true rfl) rfl ?_
      refine j_iconst (v := 1) dX0_isLeftRecursive_20 (by decide) ?_
      obtain rfl := Option.some.inj h
      exact j_iret hk.1 hk.2 rfl dX0_isLeftRecursive_21
    · rw [if_neg c12] at h
      cases h
theorem yX0_isLeftRecursive_ok {x0 : Option Nat} {x1 : Int32} {x2 : Option Nat} {G : GS} {r : Int32} {G1 : GS} (h : fX0_isLeftRecursive_0 x0 x1 x2 G = some (r, G1)) : zRuns yX0_isLeftRecursive (wsW_ yX0_isLeftRecursive cX0_isLeftRecursive 4 (some Jvm.ClassFile.FieldType.int) [(0, 16, 19, 13)]) [vR x0, vI x1, vR x2] (.inl (some (vI r)), G, G1, 53) :=
  zentryW (M := mX0_isLeftRecursive) (by decide +kernel) ⟨rfl, rfl, rfl⟩ (Nat.le_of_ble_eq_true rfl) (wfX0_isLeftRecursive_0 (Nat.le_refl _) x0 x1 x2 G h ⟨rfl, rfl⟩)
theorem msX0_35 : zSV RX0 35 RX1 yX1_isNullable cX1_isNullable 2 (some Jvm.ClassFile.FieldType.boolean) 1 := ⟨lw_V q1867 q1868 q1869 q123 q1870, (by decide +kernel), (by decide)⟩
abbrev mX0_isNullable : zM := (cX0_isNullable, RX0, 4, (some Jvm.ClassFile.FieldType.int), "isNullable", [(0, 16, 19, 13)], "(LSelahGenerator;I[J)I")
def fX0_isNullable_15  (s0 : Option Nat) (s1 : Int32) (s2 : Int64) (G : GS) : Option ((Int32) × GS) :=
  s0.bind fun a1 => (zsL G 51 a1 s1 s2).bind fun G3 => some (0, G3)
theorem wfX0_isNullable_15 {F : zF} (hd : 53 ≤ F.2.2.2)  (s0 : Option Nat) (s1 : Int32) (s2 : Int64) (G : GS) {a : (Int32) × GS} (h : fX0_isNullable_15  s0 s1 s2 G = some a) (hk : zKI F a) : J mX0_isNullable F G 15 [] [vL s2, vI s1, vR s0] := by
  unfold fX0_isNullable_15 at h
  replace h := zbE h
  obtain ⟨a1, e2, h⟩ := h
  subst e2
  replace h := zbE h
  obtain ⟨G3, e4, h⟩ := h
  refine j_last e4 dX0_isNullable_15 ?_
  refine j_goto (tgt := 22) dX0_isNullable_16 (by decide) ?_
  refine j_iconst (v := 0) dX0_isNullable_22 (by decide) ?_
  obtain rfl := Option.some.inj h
  exact j_iret hk.1 hk.2 rfl dX0_isNullable_23
def fX0_isNullable_0 (x0 : Option Nat) (x1 : Int32) (x2 : Option Nat)  (G : GS) : Option ((Int32) × GS) :=
  x0.bind fun a1 => zk [1] G a1 <| zb3 (fX1_isNullable_0 a1 x1 G) (fun v5 G6 => if v5 = 0 then (fX0_isNullable_15 x2 0 0 G6) else (fX0_isNullable_15 x2 0 1 G6)) (fun X7 G8 => if X7 = "java/lang/IndexOutOfBoundsException" then (some (1, G8)) else none)
theorem wfX0_isNullable_0 {F : zF} (hd : 53 ≤ F.2.2.2) (x0 : Option Nat) (x1 : Int32) (x2 : Option Nat)  (G : GS) {a : (Int32) × GS} (h : fX0_isNullable_0 x0 x1 x2  G = some a) (hk : zKI F a) : J mX0_isNullable F G 0 [(0, vR x0), (1, vI x1), (2, vR x2)] [] := by
  unfold fX0_isNullable_0 at h
  refine j_aload_n (j := 2) dX0_isNullable_0 rfl rfl ?_
  refine j_iconst (v := 0) dX0_isNullable_1 (by decide) ?_
  refine j_aload_n (j := 0) dX0_isNullable_2 rfl rfl ?_
  refine j_iload_n (j := 1) dX0_isNullable_3 rfl rfl ?_
  replace h := zbE h
  obtain ⟨a1, e2, h⟩ := h
  subst e2
  replace h := zkE h
  obtain ⟨e3, h⟩ := h
  replace h := zb3E h
  rcases h with ⟨v5, G6, e4, h⟩ | ⟨X7, G8, e4, h⟩
  · refine j_cont (zrV (As := [vI x1]) msX0_35 (yX1_isNullable_ok e4) (Nat.le_trans (Nat.le_of_ble_eq_true rfl) hd) (zk_1 _ e3) rfl rfl (Nat.le_of_ble_eq_true rfl) dX0_isNullable_4) ?_
    refine j_if_eq (tgt := 14) dX0_isNullable_7 (by decide) (fun c9 => ?_) (fun c9 => ?_)
    · rw [if_pos c9] at h
      refine j_lconst (v := 0) dX0_isNullable_14 rfl ?_
      exact J.sub (zall [] rfl) (wfX0_isNullable_15 hd  x2 0 0 G6 h hk)
    · rw [if_neg c9] at h
      refine j_lconst (v := 1) dX0_isNullable_10 rfl ?_
      refine j_goto (tgt := 15) dX0_isNullable_11 (by decide) ?_
      exact J.sub (zall [] rfl) (wfX0_isNullable_15 hd  x2 0 1 G6 h hk)
  · refine j_thr (zrV (As := [vI x1]) msX0_35 (yX1_isNullable_ok e4) (Nat.le_trans (Nat.le_of_ble_eq_true rfl) hd) (zk_1 _ e3) rfl rfl (Nat.le_of_ble_eq_true rfl) dX0_isNullable_4) ?_
    by_cases c12 : X7 = "java/lang/IndexOutOfBoundsException"
    · rw [if_pos c12] at h
      subst c12
      refine jx_catch (n := 19) [] ⟨0, 16, 19, 13⟩ [] rfl (fun z hz => nomatch hz) rfl (by decide) q1669 (zxw 5 rfl) rfl (fun q11 => ?_)
      refine j_astore_n (lv' := [(3, vR (some q11)), (0, vR (some a1)), (1, vI x1), (2, vR x2)]) dX0_isNullable_19 rfl (Nat.le_of_ble_eq_true rfl) rfl ?_
      refine j_iconst (v := 1) dX0_isNullable_20 (by decide) ?_
      obtain rfl := Option.some.inj h
      exact j_iret hk.1 hk.2 rfl dX0_isNullable_21
    · rw [if_neg c12] at h
      cases h
theorem yX0_isNullable_ok {x0 : Option Nat} {x1 : Int32} {x2 : Option Nat} {G : GS} {r : Int32} {G1 : GS} (h : fX0_isNullable_0 x0 x1 x2 G = some (r, G1)) : zRuns yX0_isNullable (wsW_ yX0_isNullable cX0_isNullable 4 (some Jvm.ClassFile.FieldType.int) [(0, 16, 19, 13)]) [vR x0, vI x1, vR x2] (.inl (some (vI r)), G, G1, 53) :=
  zentryW (M := mX0_isNullable) (by decide +kernel) ⟨rfl, rfl, rfl⟩ (Nat.le_of_ble_eq_true rfl) (wfX0_isNullable_0 (Nat.le_refl _) x0 x1 x2 G h ⟨rfl, rfl⟩)
theorem msX0_26 : zSV RX0 26 RX1 yX1_leftOf cX1_leftOf 2 (some Jvm.ClassFile.FieldType.int) 1 := ⟨lw_V q1846 q1847 q1848 q123 q1849, (by decide +kernel), (by decide)⟩
abbrev mX0_leftOf : zM := (cX0_leftOf, RX0, 4, (some Jvm.ClassFile.FieldType.int), "leftOf", [(0, 9, 12, 13)], "(LSelahGenerator;I[J)I")
def fX0_leftOf_0 (x0 : Option Nat) (x1 : Int32) (x2 : Option Nat)  (G : GS) : Option ((Int32) × GS) :=
  x0.bind fun a1 => zk [1] G a1 <| zb3 (fX1_leftOf_0 a1 x1 G) (fun v5 G6 => x2.bind fun a9 => (zsL G6 51 a9 (0 : Int32) v5.toInt64).bind fun G11 => some (0, G11)) (fun X7 G8 => if X7 = "java/lang/IndexOutOfBoundsException" then (some (1, G8)) else none)
theorem wfX0_leftOf_0 {F : zF} (hd : 11 ≤ F.2.2.2) (x0 : Option Nat) (x1 : Int32) (x2 : Option Nat)  (G : GS) {a : (Int32) × GS} (h : fX0_leftOf_0 x0 x1 x2  G = some a) (hk : zKI F a) : J mX0_leftOf F G 0 [(0, vR x0), (1, vI x1), (2, vR x2)] [] := by
  unfold fX0_leftOf_0 at h
  refine j_aload_n (j := 2) dX0_leftOf_0 rfl rfl ?_
  refine j_iconst (v := 0) dX0_leftOf_1 (by decide) ?_
  refine j_aload_n (j := 0) dX0_leftOf_2 rfl rfl ?_
  refine j_iload_n (j := 1) dX0_leftOf_3 rfl rfl ?_
  replace h := zbE h
  obtain ⟨a1, e2, h⟩ := h
  subst e2
  replace h := zkE h
  obtain ⟨e3, h⟩ := h
  replace h := zb3E h
  rcases h with ⟨v5, G6, e4, h⟩ | ⟨X7, G8, e4, h⟩
  · refine j_cont (zrV (As := [vI x1]) msX0_26 (yX1_leftOf_ok e4) (Nat.le_trans (Nat.le_of_ble_eq_true rfl) hd) (zk_1 _ e3) rfl rfl (Nat.le_of_ble_eq_true rfl) dX0_leftOf_4) ?_
    refine j_i2l dX0_leftOf_7 ?_
    replace h := zbE h
    obtain ⟨a9, e10, h⟩ := h
    subst e10
    replace h := zbE h
    obtain ⟨G11, e12, h⟩ := h
    refine j_last e12 dX0_leftOf_8 ?_
    refine j_goto (tgt := 15) dX0_leftOf_9 (by decide) ?_
    refine j_iconst (v := 0) dX0_leftOf_15 (by decide) ?_
    obtain rfl := Option.some.inj h
    exact j_iret hk.1 hk.2 rfl dX0_leftOf_16
  · refine j_thr (zrV (As := [vI x1]) msX0_26 (yX1_leftOf_ok e4) (Nat.le_trans (Nat.le_of_ble_eq_true rfl) hd) (zk_1 _ e3) rfl rfl (Nat.le_of_ble_eq_true rfl) dX0_leftOf_4) ?_
    by_cases c15 : X7 = "java/lang/IndexOutOfBoundsException"
    · rw [if_pos c15] at h
      subst c15
      refine jx_catch (n := 12) [] ⟨0, 9, 12, 13⟩ [] rfl (fun z hz => nomatch hz) rfl (by decide) q1669 (zxw 5 rfl) rfl (fun q14 => ?_)
      refine j_astore_n (lv' := [(3, vR (some q14)), (0, vR (some a1)), (1, vI x1), (2, vR x2)]) dX0_leftOf_12 rfl (Nat.le_of_ble_eq_true rfl) rfl ?_
      refine j_iconst (v := 1) dX0_leftOf_13 (by decide) ?_
      obtain rfl := Option.some.inj h
      exact j_iret hk.1 hk.2 rfl dX0_leftOf_14
    · rw [if_neg c15] at h
      cases h
theorem yX0_leftOf_ok {x0 : Option Nat} {x1 : Int32} {x2 : Option Nat} {G : GS} {r : Int32} {G1 : GS} (h : fX0_leftOf_0 x0 x1 x2 G = some (r, G1)) : zRuns yX0_leftOf (wsW_ yX0_leftOf cX0_leftOf 4 (some Jvm.ClassFile.FieldType.int) [(0, 9, 12, 13)]) [vR x0, vI x1, vR x2] (.inl (some (vI r)), G, G1, 11) :=
  zentryW (M := mX0_leftOf) (by decide +kernel) ⟨rfl, rfl, rfl⟩ (Nat.le_of_ble_eq_true rfl) (wfX0_leftOf_0 (Nat.le_refl _) x0 x1 x2 G h ⟨rfl, rfl⟩)
theorem msX0_29 : zSV RX0 29 RX1 yX1_lengthOf cX1_lengthOf 2 (some Jvm.ClassFile.FieldType.int) 1 := ⟨lw_V q1853 q1854 q1855 q123 q1856, (by decide +kernel), (by decide)⟩
abbrev mX0_lengthOf : zM := (cX0_lengthOf, RX0, 4, (some Jvm.ClassFile.FieldType.int), "lengthOf", [(0, 9, 12, 13)], "(LSelahGenerator;I[J)I")
def fX0_lengthOf_0 (x0 : Option Nat) (x1 : Int32) (x2 : Option Nat)  (G : GS) : Option ((Int32) × GS) :=
  x0.bind fun a1 => zk [1] G a1 <| zb3 (fX1_lengthOf_0 a1 x1 G) (fun v5 G6 => x2.bind fun a9 => (zsL G6 51 a9 (0 : Int32) v5.toInt64).bind fun G11 => some (0, G11)) (fun X7 G8 => if X7 = "java/lang/IndexOutOfBoundsException" then (some (1, G8)) else none)
theorem wfX0_lengthOf_0 {F : zF} (hd : 11 ≤ F.2.2.2) (x0 : Option Nat) (x1 : Int32) (x2 : Option Nat)  (G : GS) {a : (Int32) × GS} (h : fX0_lengthOf_0 x0 x1 x2  G = some a) (hk : zKI F a) : J mX0_lengthOf F G 0 [(0, vR x0), (1, vI x1), (2, vR x2)] [] := by
  unfold fX0_lengthOf_0 at h
  refine j_aload_n (j := 2) dX0_lengthOf_0 rfl rfl ?_
  refine j_iconst (v := 0) dX0_lengthOf_1 (by decide) ?_
  refine j_aload_n (j := 0) dX0_lengthOf_2 rfl rfl ?_
  refine j_iload_n (j := 1) dX0_lengthOf_3 rfl rfl ?_
  replace h := zbE h
  obtain ⟨a1, e2, h⟩ := h
  subst e2
  replace h := zkE h
  obtain ⟨e3, h⟩ := h
  replace h := zb3E h
  rcases h with ⟨v5, G6, e4, h⟩ | ⟨X7, G8, e4, h⟩
  · refine j_cont (zrV (As := [vI x1]) msX0_29 (yX1_lengthOf_ok e4) (Nat.le_trans (Nat.le_of_ble_eq_true rfl) hd) (zk_1 _ e3) rfl rfl (Nat.le_of_ble_eq_true rfl) dX0_lengthOf_4) ?_
    refine j_i2l dX0_lengthOf_7 ?_
    replace h := zbE h
    obtain ⟨a9, e10, h⟩ := h
    subst e10
    replace h := zbE h
    obtain ⟨G11, e12, h⟩ := h
    refine j_last e12 dX0_lengthOf_8 ?_
    refine j_goto (tgt := 15) dX0_lengthOf_9 (by decide) ?_
    refine j_iconst (v := 0) dX0_lengthOf_15 (by decide) ?_
    obtain rfl := Option.some.inj h
    exact j_iret hk.1 hk.2 rfl dX0_lengthOf_16
  · refine j_thr (zrV (As := [vI x1]) msX0_29 (yX1_lengthOf_ok e4) (Nat.le_trans (Nat.le_of_ble_eq_true rfl) hd) (zk_1 _ e3) rfl rfl (Nat.le_of_ble_eq_true rfl) dX0_lengthOf_4) ?_
    by_cases c15 : X7 = "java/lang/IndexOutOfBoundsException"
    · rw [if_pos c15] at h
      subst c15
      refine jx_catch (n := 12) [] ⟨0, 9, 12, 13⟩ [] rfl (fun z hz => nomatch hz) rfl (by decide) q1669 (zxw 5 rfl) rfl (fun q14 => ?_)
      refine j_astore_n (lv' := [(3, vR (some q14)), (0, vR (some a1)), (1, vI x1), (2, vR x2)]) dX0_lengthOf_12 rfl (Nat.le_of_ble_eq_true rfl) rfl ?_
      refine j_iconst (v := 1) dX0_lengthOf_13 (by decide) ?_
      obtain rfl := Option.some.inj h
      exact j_iret hk.1 hk.2 rfl dX0_lengthOf_14
    · rw [if_neg c15] at h
      cases h
theorem yX0_lengthOf_ok {x0 : Option Nat} {x1 : Int32} {x2 : Option Nat} {G : GS} {r : Int32} {G1 : GS} (h : fX0_lengthOf_0 x0 x1 x2 G = some (r, G1)) : zRuns yX0_lengthOf (wsW_ yX0_lengthOf cX0_lengthOf 4 (some Jvm.ClassFile.FieldType.int) [(0, 9, 12, 13)]) [vR x0, vI x1, vR x2] (.inl (some (vI r)), G, G1, 11) :=
  zentryW (M := mX0_lengthOf) (by decide +kernel) ⟨rfl, rfl, rfl⟩ (Nat.le_of_ble_eq_true rfl) (wfX0_lengthOf_0 (Nat.le_refl _) x0 x1 x2 G h ⟨rfl, rfl⟩)
theorem msX0_54 : zSV RX0 54 RX1 yX1_pairCount cX1_pairCount 2 (some Jvm.ClassFile.FieldType.int) 1 := ⟨lw_V q1934 q1935 q1936 q123 q1937, (by decide +kernel), (by decide)⟩
abbrev mX0_pairCount : zM := (cX0_pairCount, RX0, 4, (some Jvm.ClassFile.FieldType.int), "pairCount", [(0, 9, 12, 13)], "(LSelahGenerator;I[J)I")
def fX0_pairCount_0 (x0 : Option Nat) (x1 : Int32) (x2 : Option Nat)  (G : GS) : Option ((Int32) × GS) :=
  x0.bind fun a1 => zk [1] G a1 <| zb3 (fX1_pairCount_0 a1 x1 G) (fun v5 G6 => x2.bind fun a9 => (zsL G6 51 a9 (0 : Int32) v5.toInt64).bind fun G11 => some (0, G11)) (fun X7 G8 => if X7 = "java/lang/IndexOutOfBoundsException" then (some (1, G8)) else none)
theorem wfX0_pairCount_0 {F : zF} (hd : 11 ≤ F.2.2.2) (x0 : Option Nat) (x1 : Int32) (x2 : Option Nat)  (G : GS) {a : (Int32) × GS} (h : fX0_pairCount_0 x0 x1 x2  G = some a) (hk : zKI F a) : J mX0_pairCount F G 0 [(0, vR x0), (1, vI x1), (2, vR x2)] [] := by
  unfold fX0_pairCount_0 at h
  refine j_aload_n (j := 2) dX0_pairCount_0 rfl rfl ?_
  refine j_iconst (v := 0) dX0_pairCount_1 (by decide) ?_
  refine j_aload_n (j := 0) dX0_pairCount_2 rfl rfl ?_
  refine j_iload_n (j := 1) dX0_pairCount_3 rfl rfl ?_
  replace h := zbE h
  obtain ⟨a1, e2, h⟩ := h
  subst e2
  replace h := zkE h
  obtain ⟨e3, h⟩ := h
  replace h := zb3E h
  rcases h with ⟨v5, G6, e4, h⟩ | ⟨X7, G8, e4, h⟩
  · refine j_cont (zrV (As := [vI x1]) msX0_54 (yX1_pairCount_ok e4) (Nat.le_trans (Nat.le_of_ble_eq_true rfl) hd) (zk_1 _ e3) rfl rfl (Nat.le_of_ble_eq_true rfl) dX0_pairCount_4) ?_
    refine j_i2l dX0_pairCount_7 ?_
    replace h := zbE h
    obtain ⟨a9, e10, h⟩ := h
    subst e10
    replace h := zbE h
    obtain ⟨G11, e12, h⟩ := h
    refine j_last e12 dX0_pairCount_8 ?_
    refine j_goto (tgt := 15) dX0_pairCount_9 (by decide) ?_
    refine j_iconst (v := 0) dX0_pairCount_15 (by decide) ?_
    obtain rfl := Option.some.inj h
    exact j_iret hk.1 hk.2 rfl dX0_pairCount_16
  · refine j_thr (zrV (As := [vI x1]) msX0_54 (yX1_pairCount_ok e4) (Nat.le_trans (Nat.le_of_ble_eq_true rfl) hd) (zk_1 _ e3) rfl rfl (Nat.le_of_ble_eq_true rfl) dX0_pairCount_4) ?_
    by_cases c15 : X7 = "java/lang/IndexOutOfBoundsException"
    · rw [if_pos c15] at h
      subst c15
      refine jx_catch (n := 12) [] ⟨0, 9, 12, 13⟩ [] rfl (fun z hz => nomatch hz) rfl (by decide) q1669 (zxw 5 rfl) rfl (fun q14 => ?_)
      refine j_astore_n (lv' := [(3, vR (some q14)), (0, vR (some a1)), (1, vI x1), (2, vR x2)]) dX0_pairCount_12 rfl (Nat.le_of_ble_eq_true rfl) rfl ?_
      refine j_iconst (v := 1) dX0_pairCount_13 (by decide) ?_
      obtain rfl := Option.some.inj h
      exact j_iret hk.1 hk.2 rfl dX0_pairCount_14
    · rw [if_neg c15] at h
      cases h
theorem yX0_pairCount_ok {x0 : Option Nat} {x1 : Int32} {x2 : Option Nat} {G : GS} {r : Int32} {G1 : GS} (h : fX0_pairCount_0 x0 x1 x2 G = some (r, G1)) : zRuns yX0_pairCount (wsW_ yX0_pairCount cX0_pairCount 4 (some Jvm.ClassFile.FieldType.int) [(0, 9, 12, 13)]) [vR x0, vI x1, vR x2] (.inl (some (vI r)), G, G1, 11) :=
  zentryW (M := mX0_pairCount) (by decide +kernel) ⟨rfl, rfl, rfl⟩ (Nat.le_of_ble_eq_true rfl) (wfX0_pairCount_0 (Nat.le_refl _) x0 x1 x2 G h ⟨rfl, rfl⟩)
theorem msX0_51 : zSV RX0 51 RX1 yX1_predicted cX1_predicted 3 (some Jvm.ClassFile.FieldType.int) 2 := ⟨lw_V q1903 q1904 q1905 q123 q1906, (by decide +kernel), (by decide)⟩
abbrev mX0_predicted : zM := (cX0_predicted, RX0, 5, (some Jvm.ClassFile.FieldType.int), "predicted", [(0, 10, 13, 13)], "(LSelahGenerator;II[J)I")
def fX0_predicted_0 (x0 : Option Nat) (x1 : Int32) (x2 : Int32) (x3 : Option Nat)  (G : GS) : Option ((Int32) × GS) :=
  x0.bind fun a1 => zk [1] G a1 <| zb3 (fX1_predicted_0 a1 x1 x2 G) (fun v5 G6 => x3.bind fun a9 => (zsL G6 51 a9 (0 : Int32) v5.toInt64).bind fun G11 => some (0, G11)) (fun X7 G8 => if X7 = "java/lang/IndexOutOfBoundsException" then (some (1, G8)) else none)
theorem wfX0_predicted_0 {F : zF} (hd : 53 ≤ F.2.2.2) (x0 : Option Nat) (x1 : Int32) (x2 : Int32) (x3 : Option Nat)  (G : GS) {a : (Int32) × GS} (h : fX0_predicted_0 x0 x1 x2 x3  G = some a) (hk : zKI F a) : J mX0_predicted F G 0 [(0, vR x0), (1, vI x1), (2, vI x2), (3, vR x3)] [] := by
  unfold fX0_predicted_0 at h
  refine j_aload_n (j := 3) dX0_predicted_0 rfl rfl ?_
  refine j_iconst (v := 0) dX0_predicted_1 (by decide) ?_
  refine j_aload_n (j := 0) dX0_predicted_2 rfl rfl ?_
  refine j_iload_n (j := 1) dX0_predicted_3 rfl rfl ?_
  refine j_iload_n (j := 2) dX0_predicted_4 rfl rfl ?_
  replace h := zbE h
  obtain ⟨a1, e2, h⟩ := h
  subst e2
  replace h := zkE h
  obtain ⟨e3, h⟩ := h
  replace h := zb3E h
  rcases h with ⟨v5, G6, e4, h⟩ | ⟨X7, G8, e4, h⟩
  · refine j_cont (zrV (As := [vI x1, vI x2]) msX0_51 (yX1_predicted_ok e4) (Nat.le_trans (Nat.le_of_ble_eq_true rfl) hd) (zk_1 _ e3) rfl rfl (Nat.le_of_ble_eq_true rfl) dX0_predicted_5) ?_
    refine j_i2l dX0_predicted_8 ?_
    replace h := zbE h
    obtain ⟨a9, e10, h⟩ := h
    subst e10
    replace h := zbE h
    obtain ⟨G11, e12, h⟩ := h
    refine j_last e12 dX0_predicted_9 ?_
    refine j_goto (tgt := 17) dX0_predicted_10 (by decide) ?_
    refine j_iconst (v := 0) dX0_predicted_17 (by decide) ?_
    obtain rfl := Option.some.inj h
    exact j_iret hk.1 hk.2 rfl dX0_predicted_18
  · refine j_thr (zrV (As := [vI x1, vI x2]) msX0_51 (yX1_predicted_ok e4) (Nat.le_trans (Nat.le_of_ble_eq_true rfl) hd) (zk_1 _ e3) rfl rfl (Nat.le_of_ble_eq_true rfl) dX0_predicted_5) ?_
    by_cases c15 : X7 = "java/lang/IndexOutOfBoundsException"
    · rw [if_pos c15] at h
      subst c15
      refine jx_catch (n := 13) [] ⟨0, 10, 13, 13⟩ [] rfl (fun z hz => nomatch hz) rfl (by decide) q1669 (zxw 5 rfl) rfl (fun q14 => ?_)
      refine j_astore (lv' := [(4, vR (some q14)), (0, vR (some a1)), (1, vI x1), (2, vI x2), (3, vR x3)]) dX0_predicted_13 (Nat.le_of_ble_eq_true rfl) rfl ?_
      refine j_iconst (v := 1) dX0_predicted_15 (by decide) ?_
      obtain rfl := Option.some.inj h
      exact j_iret hk.1 hk.2 rfl dX0_predicted_16
    · rw [if_neg c15] at h
      cases h
theorem yX0_predicted_ok {x0 : Option Nat} {x1 : Int32} {x2 : Int32} {x3 : Option Nat} {G : GS} {r : Int32} {G1 : GS} (h : fX0_predicted_0 x0 x1 x2 x3 G = some (r, G1)) : zRuns yX0_predicted (wsW_ yX0_predicted cX0_predicted 5 (some Jvm.ClassFile.FieldType.int) [(0, 10, 13, 13)]) [vR x0, vI x1, vI x2, vR x3] (.inl (some (vI r)), G, G1, 53) :=
  zentryW (M := mX0_predicted) (by decide +kernel) ⟨rfl, rfl, rfl⟩ (Nat.le_of_ble_eq_true rfl) (wfX0_predicted_0 (Nat.le_refl _) x0 x1 x2 x3 G h ⟨rfl, rfl⟩)
theorem msX0_57 : zSV RX0 57 RX1 yX1_predictedByPair cX1_predictedByPair 4 (some Jvm.ClassFile.FieldType.int) 3 := ⟨lw_V q1945 q1946 q1947 q123 q1948, (by decide +kernel), (by decide)⟩
abbrev mX0_predictedByPair : zM := (cX0_predictedByPair, RX0, 6, (some Jvm.ClassFile.FieldType.int), "predictedByPair", [(0, 12, 15, 13)], "(LSelahGenerator;III[J)I")
def fX0_predictedByPair_0 (x0 : Option Nat) (x1 : Int32) (x2 : Int32) (x3 : Int32) (x4 : Option Nat)  (G : GS) : Option ((Int32) × GS) :=
  x0.bind fun a1 => zk [1] G a1 <| zb3 (fX1_predictedByPair_0 a1 x1 x2 x3 G) (fun v5 G6 => x4.bind fun a9 => (zsL G6 51 a9 (0 : Int32) v5.toInt64).bind fun G11 => some (0, G11)) (fun X7 G8 => if X7 = "java/lang/IndexOutOfBoundsException" then (some (1, G8)) else none)
theorem wfX0_predictedByPair_0 {F : zF} (hd : 11 ≤ F.2.2.2) (x0 : Option Nat) (x1 : Int32) (x2 : Int32) (x3 : Int32) (x4 : Option Nat)  (G : GS) {a : (Int32) × GS} (h : fX0_predictedByPair_0 x0 x1 x2 x3 x4  G = some a) (hk : zKI F a) : J mX0_predictedByPair F G 0 [(0, vR x0), (1, vI x1), (2, vI x2), (3, vI x3), (4, vR x4)] [] := by
  unfold fX0_predictedByPair_0 at h
  refine j_aload (j := 4) dX0_predictedByPair_0 rfl ?_
  refine j_iconst (v := 0) dX0_predictedByPair_2 (by decide) ?_
  refine j_aload_n (j := 0) dX0_predictedByPair_3 rfl rfl ?_
  refine j_iload_n (j := 1) dX0_predictedByPair_4 rfl rfl ?_
  refine j_iload_n (j := 2) dX0_predictedByPair_5 rfl rfl ?_
  refine j_iload_n (j := 3) dX0_predictedByPair_6 rfl rfl ?_
  replace h := zbE h
  obtain ⟨a1, e2, h⟩ := h
  subst e2
  replace h := zkE h
  obtain ⟨e3, h⟩ := h
  replace h := zb3E h
  rcases h with ⟨v5, G6, e4, h⟩ | ⟨X7, G8, e4, h⟩
  · refine j_cont (zrV (As := [vI x1, vI x2, vI x3]) msX0_57 (yX1_predictedByPair_ok e4) (Nat.le_trans (Nat.le_of_ble_eq_true rfl) hd) (zk_1 _ e3) rfl rfl (Nat.le_of_ble_eq_true rfl) dX0_predictedByPair_7) ?_
    refine j_i2l dX0_predictedByPair_10 ?_
    replace h := zbE h
    obtain ⟨a9, e10, h⟩ := h
    subst e10
    replace h := zbE h
    obtain ⟨G11, e12, h⟩ := h
    refine j_last e12 dX0_predictedByPair_11 ?_
    refine j_goto (tgt := 19) dX0_predictedByPair_12 (by decide) ?_
    refine j_iconst (v := 0) dX0_predictedByPair_19 (by decide) ?_
    obtain rfl := Option.some.inj h
    exact j_iret hk.1 hk.2 rfl dX0_predictedByPair_20
  · refine j_thr (zrV (As := [vI x1, vI x2, vI x3]) msX0_57 (yX1_predictedByPair_ok e4) (Nat.le_trans (Nat.le_of_ble_eq_true rfl) hd) (zk_1 _ e3) rfl rfl (Nat.le_of_ble_eq_true rfl) dX0_predictedByPair_7) ?_
    by_cases c15 : X7 = "java/lang/IndexOutOfBoundsException"
    · rw [if_pos c15] at h
      subst c15
      refine jx_catch (n := 15) [] ⟨0, 12, 15, 13⟩ [] rfl (fun z hz => nomatch hz) rfl (by decide) q1669 (zxw 5 rfl) rfl (fun q14 => ?_)
      refine j_astore (lv' := [(5, vR (some q14)), (0, vR (some a1)), (1, vI x1), (2, vI x2), (3, vI x3), (4, vR x4)]) dX0_predictedByPair_15 (Nat.le_of_ble_eq_true rfl) rfl ?_
      refine j_iconst (v := 1) dX0_predictedByPair_17 (by decide) ?_
      obtain rfl := Option.some.inj h
      exact j_iret hk.1 hk.2 rfl dX0_predictedByPair_18
    · rw [if_neg c15] at h
      cases h
theorem yX0_predictedByPair_ok {x0 : Option Nat} {x1 : Int32} {x2 : Int32} {x3 : Int32} {x4 : Option Nat} {G : GS} {r : Int32} {G1 : GS} (h : fX0_predictedByPair_0 x0 x1 x2 x3 x4 G = some (r, G1)) : zRuns yX0_predictedByPair (wsW_ yX0_predictedByPair cX0_predictedByPair 6 (some Jvm.ClassFile.FieldType.int) [(0, 12, 15, 13)]) [vR x0, vI x1, vI x2, vI x3, vR x4] (.inl (some (vI r)), G, G1, 11) :=
  zentryW (M := mX0_predictedByPair) (by decide +kernel) ⟨rfl, rfl, rfl⟩ (Nat.le_of_ble_eq_true rfl) (wfX0_predictedByPair_0 (Nat.le_refl _) x0 x1 x2 x3 x4 G h ⟨rfl, rfl⟩)
theorem msX0_48 : zSV RX0 48 RX1 yX1_predictionOf cX1_predictionOf 2 (some Jvm.ClassFile.FieldType.int) 1 := ⟨lw_V q1896 q1897 q1898 q123 q1899, (by decide +kernel), (by decide)⟩
abbrev mX0_predictionOf : zM := (cX0_predictionOf, RX0, 4, (some Jvm.ClassFile.FieldType.int), "predictionOf", [(0, 9, 12, 13)], "(LSelahGenerator;I[J)I")
def fX0_predictionOf_0 (x0 : Option Nat) (x1 : Int32) (x2 : Option Nat)  (G : GS) : Option ((Int32) × GS) :=
  x0.bind fun a1 => zk [1] G a1 <| zb3 (fX1_predictionOf_0 a1 x1 G) (fun v5 G6 => x2.bind fun a9 => (zsL G6 51 a9 (0 : Int32) v5.toInt64).bind fun G11 => some (0, G11)) (fun X7 G8 => if X7 = "java/lang/IndexOutOfBoundsException" then (some (1, G8)) else none)
theorem wfX0_predictionOf_0 {F : zF} (hd : 53 ≤ F.2.2.2) (x0 : Option Nat) (x1 : Int32) (x2 : Option Nat)  (G : GS) {a : (Int32) × GS} (h : fX0_predictionOf_0 x0 x1 x2  G = some a) (hk : zKI F a) : J mX0_predictionOf F G 0 [(0, vR x0), (1, vI x1), (2, vR x2)] [] := by
  unfold fX0_predictionOf_0 at h
  refine j_aload_n (j := 2) dX0_predictionOf_0 rfl rfl ?_
  refine j_iconst (v := 0) dX0_predictionOf_1 (by decide) ?_
  refine j_aload_n (j := 0) dX0_predictionOf_2 rfl rfl ?_
  refine j_iload_n (j := 1) dX0_predictionOf_3 rfl rfl ?_
  replace h := zbE h
  obtain ⟨a1, e2, h⟩ := h
  subst e2
  replace h := zkE h
  obtain ⟨e3, h⟩ := h
  replace h := zb3E h
  rcases h with ⟨v5, G6, e4, h⟩ | ⟨X7, G8, e4, h⟩
  · refine j_cont (zrV (As := [vI x1]) msX0_48 (yX1_predictionOf_ok e4) (Nat.le_trans (Nat.le_of_ble_eq_true rfl) hd) (zk_1 _ e3) rfl rfl (Nat.le_of_ble_eq_true rfl) dX0_predictionOf_4) ?_
    refine j_i2l dX0_predictionOf_7 ?_
    replace h := zbE h
    obtain ⟨a9, e10, h⟩ := h
    subst e10
    replace h := zbE h
    obtain ⟨G11, e12, h⟩ := h
    refine j_last e12 dX0_predictionOf_8 ?_
    refine j_goto (tgt := 15) dX0_predictionOf_9 (by decide) ?_
    refine j_iconst (v := 0) dX0_predictionOf_15 (by decide) ?_
    obtain rfl := Option.some.inj h
    exact j_iret hk.1 hk.2 rfl dX0_predictionOf_16
  · refine j_thr (zrV (As := [vI x1]) msX0_48 (yX1_predictionOf_ok e4) (Nat.le_trans (Nat.le_of_ble_eq_true rfl) hd) (zk_1 _ e3) rfl rfl (Nat.le_of_ble_eq_true rfl) dX0_predictionOf_4) ?_
    by_cases c15 : X7 = "java/lang/IndexOutOfBoundsException"
    · rw [if_pos c15] at h
      subst c15
      refine jx_catch (n := 12) [] ⟨0, 9, 12, 13⟩ [] rfl (fun z hz => nomatch hz) rfl (by decide) q1669 (zxw 5 rfl) rfl (fun q14 => ?_)
      refine j_astore_n (lv' := [(3, vR (some q14)), (0, vR (some a1)), (1, vI x1), (2, vR x2)]) dX0_predictionOf_12 rfl (Nat.le_of_ble_eq_true rfl) rfl ?_
      refine j_iconst (v := 1) dX0_predictionOf_13 (by decide) ?_
      obtain rfl := Option.some.inj h
      exact j_iret hk.1 hk.2 rfl dX0_predictionOf_14
    · rw [if_neg c15] at h
      cases h
theorem yX0_predictionOf_ok {x0 : Option Nat} {x1 : Int32} {x2 : Option Nat} {G : GS} {r : Int32} {G1 : GS} (h : fX0_predictionOf_0 x0 x1 x2 G = some (r, G1)) : zRuns yX0_predictionOf (wsW_ yX0_predictionOf cX0_predictionOf 4 (some Jvm.ClassFile.FieldType.int) [(0, 9, 12, 13)]) [vR x0, vI x1, vR x2] (.inl (some (vI r)), G, G1, 53) :=
  zentryW (M := mX0_predictionOf) (by decide +kernel) ⟨rfl, rfl, rfl⟩ (Nat.le_of_ble_eq_true rfl) (wfX0_predictionOf_0 (Nat.le_refl _) x0 x1 x2 G h ⟨rfl, rfl⟩)
theorem msX0_64 : zSVW RX0 64 RX1 yX1_removeLeftRecursion cX1_removeLeftRecursion 3 (some Jvm.ClassFile.FieldType.int) [(12, 16, 19, 183)] 0 := ⟨lw_VW q1964 q1965 q1966 q123 q1967, (by decide +kernel), (by decide)⟩
abbrev mX0_removeLeftRecursion : zM := (cX0_removeLeftRecursion, RX0, 3, (some Jvm.ClassFile.FieldType.int), "removeLeftRecursion", [(0, 8, 11, 15)], "(LSelahGenerator;[J)I")
def fX0_removeLeftRecursion_0 (x0 : Option Nat) (x1 : Option Nat)  (G : GS) : Option ((Int32) × GS) :=
  x0.bind fun a1 => zk [1] G a1 <| zb3 (fX1_removeLeftRecursion_0 a1 G) (fun v5 G6 => x1.bind fun a9 => (zsL G6 51 a9 (0 : Int32) v5.toInt64).bind fun G11 => some (0, G11)) (fun X7 G8 => if X7 = "java/lang/IllegalStateException" then (some (1, G8)) else none)
theorem wfX0_removeLeftRecursion_0 {F : zF} (hd : 24 ≤ F.2.2.2) (x0 : Option Nat) (x1 : Option Nat)  (G : GS) {a : (Int32) × GS} (h : fX0_removeLeftRecursion_0 x0 x1  G = some a) (hk : zKI F a) : J mX0_removeLeftRecursion F G 0 [(0, vR x0), (1, vR x1)] [] := by
  unfold fX0_removeLeftRecursion_0 at h
  refine j_aload_n (j := 1) dX0_removeLeftRecursion_0 rfl rfl ?_
  refine j_iconst (v := 0) dX0_removeLeftRecursion_1 (by decide) ?_
  refine j_aload_n (j := 0) dX0_removeLeftRecursion_2 rfl rfl ?_
  replace h := zbE h
  obtain ⟨a1, e2, h⟩ := h
  subst e2
  replace h := zkE h
  obtain ⟨e3, h⟩ := h
  replace h := zb3E h
  rcases h with ⟨v5, G6, e4, h⟩ | ⟨X7, G8, e4, h⟩
  · refine j_cont (zrVW (As := []) msX0_64 (yX1_removeLeftRecursion_ok e4) (Nat.le_trans (Nat.le_of_ble_eq_true rfl) hd) (zk_1 _ e3) rfl rfl (Nat.le_of_ble_eq_true rfl) dX0_removeLeftRecursion_3) ?_
    refine j_i2l dX0_removeLeftRecursion_6 ?_
    replace h := zbE h
    obtain ⟨a9, e10, h⟩ := h
    subst e10
    replace h := zbE h
    obtain ⟨G11, e12, h⟩ := h
    refine j_last e12 dX0_removeLeftRecursion_7 ?_
    refine j_goto (tgt := 14) dX0_removeLeftRecursion_8 (by decide) ?_
    refine j_iconst (v := 0) dX0_removeLeftRecursion_14 (by decide) ?_
    obtain rfl := Option.some.inj h
    exact j_iret hk.1 hk.2 rfl dX0_removeLeftRecursion_15
  · refine j_thr (zrVW (As := []) msX0_64 (yX1_removeLeftRecursion_ok e4) (Nat.le_trans (Nat.le_of_ble_eq_true rfl) hd) (zk_1 _ e3) rfl rfl (Nat.le_of_ble_eq_true rfl) dX0_removeLeftRecursion_3) ?_
    by_cases c15 : X7 = "java/lang/IllegalStateException"
    · rw [if_pos c15] at h
      subst c15
      refine jx_catch (n := 11) [] ⟨0, 8, 11, 15⟩ [] rfl (fun z hz => nomatch hz) rfl (by decide) q1701 (zxw 10 rfl) rfl (fun q14 => ?_)
      refine j_astore_n (lv' := [(2, vR (some q14)), (0, vR (some a1)), (1, vR x1)]) dX0_removeLeftRecursion_11 rfl (Nat.le_of_ble_eq_true rfl) rfl ?_
      refine j_iconst (v := 1) dX0_removeLeftRecursion_12 (by decide) ?_
      obtain rfl := Option.some.inj h
      exact j_iret hk.1 hk.2 rfl dX0_removeLeftRecursion_13
    · rw [if_neg c15] at h
      cases h
theorem yX0_removeLeftRecursion_ok {x0 : Option Nat} {x1 : Option Nat} {G : GS} {r : Int32} {G1 : GS} (h : fX0_removeLeftRecursion_0 x0 x1 G = some (r, G1)) : zRuns yX0_removeLeftRecursion (wsW_ yX0_removeLeftRecursion cX0_removeLeftRecursion 3 (some Jvm.ClassFile.FieldType.int) [(0, 8, 11, 15)]) [vR x0, vR x1] (.inl (some (vI r)), G, G1, 24) :=
  zentryW (M := mX0_removeLeftRecursion) (by decide +kernel) ⟨rfl, rfl, rfl⟩ (Nat.le_of_ble_eq_true rfl) (wfX0_removeLeftRecursion_0 (Nat.le_refl _) x0 x1 G h ⟨rfl, rfl⟩)
theorem msX0_23 : zSV RX0 23 RX1 yX1_removeRule cX1_removeRule 3 (some Jvm.ClassFile.FieldType.int) 1 := ⟨lw_V q1825 q1826 q1827 q123 q1828, (by decide +kernel), (by decide)⟩
abbrev mX0_removeRule : zM := (cX0_removeRule, RX0, 4, (some Jvm.ClassFile.FieldType.int), "removeRule", [(0, 9, 12, 13)], "(LSelahGenerator;I[J)I")
def fX0_removeRule_0 (x0 : Option Nat) (x1 : Int32) (x2 : Option Nat)  (G : GS) : Option ((Int32) × GS) :=
  x0.bind fun a1 => zk [1] G a1 <| zb3 (fX1_removeRule_0 a1 x1 G) (fun v5 G6 => x2.bind fun a9 => (zsL G6 51 a9 (0 : Int32) v5.toInt64).bind fun G11 => some (0, G11)) (fun X7 G8 => if X7 = "java/lang/IndexOutOfBoundsException" then (some (1, G8)) else none)
theorem wfX0_removeRule_0 {F : zF} (hd : 10 ≤ F.2.2.2) (x0 : Option Nat) (x1 : Int32) (x2 : Option Nat)  (G : GS) {a : (Int32) × GS} (h : fX0_removeRule_0 x0 x1 x2  G = some a) (hk : zKI F a) : J mX0_removeRule F G 0 [(0, vR x0), (1, vI x1), (2, vR x2)] [] := by
  unfold fX0_removeRule_0 at h
  refine j_aload_n (j := 2) dX0_removeRule_0 rfl rfl ?_
  refine j_iconst (v := 0) dX0_removeRule_1 (by decide) ?_
  refine j_aload_n (j := 0) dX0_removeRule_2 rfl rfl ?_
  refine j_iload_n (j := 1) dX0_removeRule_3 rfl rfl ?_
  replace h := zbE h
  obtain ⟨a1, e2, h⟩ := h
  subst e2
  replace h := zkE h
  obtain ⟨e3, h⟩ := h
  replace h := zb3E h
  rcases h with ⟨v5, G6, e4, h⟩ | ⟨X7, G8, e4, h⟩
  · refine j_cont (zrV (As := [vI x1]) msX0_23 (yX1_removeRule_ok e4) (Nat.le_trans (Nat.le_of_ble_eq_true rfl) hd) (zk_1 _ e3) rfl rfl (Nat.le_of_ble_eq_true rfl) dX0_removeRule_4) ?_
    refine j_i2l dX0_removeRule_7 ?_
    replace h := zbE h
    obtain ⟨a9, e10, h⟩ := h
    subst e10
    replace h := zbE h
    obtain ⟨G11, e12, h⟩ := h
    refine j_last e12 dX0_removeRule_8 ?_
    refine j_goto (tgt := 15) dX0_removeRule_9 (by decide) ?_
    refine j_iconst (v := 0) dX0_removeRule_15 (by decide) ?_
    obtain rfl := Option.some.inj h
    exact j_iret hk.1 hk.2 rfl dX0_removeRule_16
  · refine j_thr (zrV (As := [vI x1]) msX0_23 (yX1_removeRule_ok e4) (Nat.le_trans (Nat.le_of_ble_eq_true rfl) hd) (zk_1 _ e3) rfl rfl (Nat.le_of_ble_eq_true rfl) dX0_removeRule_4) ?_
    by_cases c15 : X7 = "java/lang/IndexOutOfBoundsException"
    · rw [if_pos c15] at h
      subst c15
      refine jx_catch (n := 12) [] ⟨0, 9, 12, 13⟩ [] rfl (fun z hz => nomatch hz) rfl (by decide) q1669 (zxw 5 rfl) rfl (fun q14 => ?_)
      refine j_astore_n (lv' := [(3, vR (some q14)), (0, vR (some a1)), (1, vI x1), (2, vR x2)]) dX0_removeRule_12 rfl (Nat.le_of_ble_eq_true rfl) rfl ?_
      refine j_iconst (v := 1) dX0_removeRule_13 (by decide) ?_
      obtain rfl := Option.some.inj h
      exact j_iret hk.1 hk.2 rfl dX0_removeRule_14
    · rw [if_neg c15] at h
      cases h
theorem yX0_removeRule_ok {x0 : Option Nat} {x1 : Int32} {x2 : Option Nat} {G : GS} {r : Int32} {G1 : GS} (h : fX0_removeRule_0 x0 x1 x2 G = some (r, G1)) : zRuns yX0_removeRule (wsW_ yX0_removeRule cX0_removeRule 4 (some Jvm.ClassFile.FieldType.int) [(0, 9, 12, 13)]) [vR x0, vI x1, vR x2] (.inl (some (vI r)), G, G1, 10) :=
  zentryW (M := mX0_removeRule) (by decide +kernel) ⟨rfl, rfl, rfl⟩ (Nat.le_of_ble_eq_true rfl) (wfX0_removeRule_0 (Nat.le_refl _) x0 x1 x2 G h ⟨rfl, rfl⟩)
theorem msX0_45 : zSV RX0 45 RX1 yX1_shortestOf cX1_shortestOf 2 (some Jvm.ClassFile.FieldType.int) 1 := ⟨lw_V q1889 q1890 q1891 q123 q1892, (by decide +kernel), (by decide)⟩
abbrev mX0_shortestOf : zM := (cX0_shortestOf, RX0, 4, (some Jvm.ClassFile.FieldType.int), "shortestOf", [(0, 9, 12, 13)], "(LSelahGenerator;I[J)I")
def fX0_shortestOf_0 (x0 : Option Nat) (x1 : Int32) (x2 : Option Nat)  (G : GS) : Option ((Int32) × GS) :=
  x0.bind fun a1 => zk [1] G a1 <| zb3 (fX1_shortestOf_0 a1 x1 G) (fun v5 G6 => x2.bind fun a9 => (zsL G6 51 a9 (0 : Int32) v5.toInt64).bind fun G11 => some (0, G11)) (fun X7 G8 => if X7 = "java/lang/IndexOutOfBoundsException" then (some (1, G8)) else none)
theorem wfX0_shortestOf_0 {F : zF} (hd : 53 ≤ F.2.2.2) (x0 : Option Nat) (x1 : Int32) (x2 : Option Nat)  (G : GS) {a : (Int32) × GS} (h : fX0_shortestOf_0 x0 x1 x2  G = some a) (hk : zKI F a) : J mX0_shortestOf F G 0 [(0, vR x0), (1, vI x1), (2, vR x2)] [] := by
  unfold fX0_shortestOf_0 at h
  refine j_aload_n (j := 2) dX0_shortestOf_0 rfl rfl ?_
  refine j_iconst (v := 0) dX0_shortestOf_1 (by decide) ?_
  refine j_aload_n (j := 0) dX0_shortestOf_2 rfl rfl ?_
  refine j_iload_n (j := 1) dX0_shortestOf_3 rfl rfl ?_
  replace h := zbE h
  obtain ⟨a1, e2, h⟩ := h
  subst e2
  replace h := zkE h
  obtain ⟨e3, h⟩ := h
  replace h := zb3E h
  rcases h with ⟨v5, G6, e4, h⟩ | ⟨X7, G8, e4, h⟩
  · refine j_cont (zrV (As := [vI x1]) msX0_45 (yX1_shortestOf_ok e4) (Nat.le_trans (Nat.le_of_ble_eq_true rfl) hd) (zk_1 _ e3) rfl rfl (Nat.le_of_ble_eq_true rfl) dX0_shortestOf_4) ?_
    refine j_i2l dX0_shortestOf_7 ?_
    replace h := zbE h
    obtain ⟨a9, e10, h⟩ := h
    subst e10
    replace h := zbE h
    obtain ⟨G11, e12, h⟩ := h
    refine j_last e12 dX0_shortestOf_8 ?_
    refine j_goto (tgt := 15) dX0_shortestOf_9 (by decide) ?_
    refine j_iconst (v := 0) dX0_shortestOf_15 (by decide) ?_
    obtain rfl := Option.some.inj h
    exact j_iret hk.1 hk.2 rfl dX0_shortestOf_16
  · refine j_thr (zrV (As := [vI x1]) msX0_45 (yX1_shortestOf_ok e4) (Nat.le_trans (Nat.le_of_ble_eq_true rfl) hd) (zk_1 _ e3) rfl rfl (Nat.le_of_ble_eq_true rfl) dX0_shortestOf_4) ?_
    by_cases c15 : X7 = "java/lang/IndexOutOfBoundsException"
    · rw [if_pos c15] at h
      subst c15
      refine jx_catch (n := 12) [] ⟨0, 9, 12, 13⟩ [] rfl (fun z hz => nomatch hz) rfl (by decide) q1669 (zxw 5 rfl) rfl (fun q14 => ?_)
      refine j_astore_n (lv' := [(3, vR (some q14)), (0, vR (some a1)), (1, vI x1), (2, vR x2)]) dX0_shortestOf_12 rfl (Nat.le_of_ble_eq_true rfl) rfl ?_
      refine j_iconst (v := 1) dX0_shortestOf_13 (by decide) ?_
      obtain rfl := Option.some.inj h
      exact j_iret hk.1 hk.2 rfl dX0_shortestOf_14
    · rw [if_neg c15] at h
      cases h
theorem yX0_shortestOf_ok {x0 : Option Nat} {x1 : Int32} {x2 : Option Nat} {G : GS} {r : Int32} {G1 : GS} (h : fX0_shortestOf_0 x0 x1 x2 G = some (r, G1)) : zRuns yX0_shortestOf (wsW_ yX0_shortestOf cX0_shortestOf 4 (some Jvm.ClassFile.FieldType.int) [(0, 9, 12, 13)]) [vR x0, vI x1, vR x2] (.inl (some (vI r)), G, G1, 53) :=
  zentryW (M := mX0_shortestOf) (by decide +kernel) ⟨rfl, rfl, rfl⟩ (Nat.le_of_ble_eq_true rfl) (wfX0_shortestOf_0 (Nat.le_refl _) x0 x1 x2 G h ⟨rfl, rfl⟩)
theorem msX0_71 : zSV RX0 71 RX1 yX1_start cX1_start 2 (some Jvm.ClassFile.FieldType.int) 1 := ⟨lw_V q2404 q2405 q2406 q123 q2407, (by decide +kernel), (by decide)⟩
abbrev mX0_start : zM := (cX0_start, RX0, 4, (some Jvm.ClassFile.FieldType.int), "start", [(0, 9, 12, 21), (0, 9, 15, 15)], "(LSelahGenerator;I[J)I")
def fX0_start_0 (x0 : Option Nat) (x1 : Int32) (x2 : Option Nat)  (G : GS) : Option ((Int32) × GS) :=
  x0.bind fun a1 => zk [1] G a1 <| zb3 (fX1_start_0 a1 x1 G) (fun v5 G6 => x2.bind fun a9 => (zsL G6 51 a9 (0 : Int32) v5.toInt64).bind fun G11 => some (0, G11)) (fun X7 G8 => if X7 = "java/lang/IllegalArgumentException" then (some (1, G8)) else (if X7 = "java/lang/IllegalStateException" then (some (2, G8)) else none))
theorem wfX0_start_0 {F : zF} (hd : 54 ≤ F.2.2.2) (x0 : Option Nat) (x1 : Int32) (x2 : Option Nat)  (G : GS) {a : (Int32) × GS} (h : fX0_start_0 x0 x1 x2  G = some a) (hk : zKI F a) : J mX0_start F G 0 [(0, vR x0), (1, vI x1), (2, vR x2)] [] := by
  unfold fX0_start_0 at h
  refine j_aload_n (j := 2) dX0_start_0 rfl rfl ?_
  refine j_iconst (v := 0) dX0_start_1 (by decide) ?_
  refine j_aload_n (j := 0) dX0_start_2 rfl rfl ?_
  refine j_iload_n (j := 1) dX0_start_3 rfl rfl ?_
  replace h := zbE h
  obtain ⟨a1, e2, h⟩ := h
  subst e2
  replace h := zkE h
  obtain ⟨e3, h⟩ := h
  replace h := zb3E h
  rcases h with ⟨v5, G6, e4, h⟩ | ⟨X7, G8, e4, h⟩
  · refine j_cont (zrV (As := [vI x1]) msX0_71 (yX1_start_ok e4) (Nat.le_trans (Nat.le_of_ble_eq_true rfl) hd) (zk_1 _ e3) rfl rfl (Nat.le_of_ble_eq_true rfl) dX0_start_4) ?_
    refine j_i2l dX0_start_7 ?_
    replace h := zbE h
    obtain ⟨a9, e10, h⟩ := h
    subst e10
    replace h := zbE h
    obtain ⟨G11, e12, h⟩ := h
    refine j_last e12 dX0_start_8 ?_
    refine j_goto (tgt := 18) dX0_start_9 (by decide) ?_
    refine j_iconst (v := 0) dX0_start_18 (by decide) ?_
    obtain rfl := Option.some.inj h
    exact j_iret hk.1 hk.2 rfl dX0_start_19
  · refine j_thr (zrV (As := [vI x1]) msX0_71 (yX1_start_ok e4) (Nat.le_trans (Nat.le_of_ble_eq_true rfl) hd) (zk_1 _ e3) rfl rfl (Nat.le_of_ble_eq_true rfl) dX0_start_4) ?_
    by_cases c17 : X7 = "java/lang/IllegalArgumentException"
    · rw [if_pos c17] at h
      subst c17
      refine jx_catch (n := 12) [] ⟨0, 9, 12, 21⟩ [⟨0, 9, 15, 15⟩] rfl (fun z hz => nomatch hz) rfl (by decide) q1783 (zxw 12 rfl) rfl (fun q16 => ?_)
      refine j_astore_n (lv' := [(3, vR (some q16)), (0, vR (some a1)), (1, vI x1), (2, vR x2)]) dX0_start_12 rfl (Nat.le_of_ble_eq_true rfl) rfl ?_
      refine j_iconst (v := 1) dX0_start_13 (by decide) ?_
      obtain rfl := Option.some.inj h
      exact j_iret hk.1 hk.2 rfl dX0_start_14
    · rw [if_neg c17] at h
      by_cases c15 : X7 = "java/lang/IllegalStateException"
      · rw [if_pos c15] at h
        subst c15
        refine jx_catch (n := 15) [⟨0, 9, 12, 21⟩] ⟨0, 9, 15, 15⟩ [] rfl (fun z hz => by
    simp only [List.mem_cons, List.not_mem_nil, or_false] at hz
    subst hz
    · exact Or.inr ⟨by decide, _, q1783, by simp [zncs]⟩) rfl (by decide) q1701 (zxw 10 rfl) rfl (fun q14 => ?_)
        refine j_astore_n (lv' := [(3, vR (some q14)), (0, vR (some a1)), (1, vI x1), (2, vR x2)]) dX0_start_15 rfl (Nat.le_of_ble_eq_true rfl) rfl ?_
        refine j_iconst (v := 2) dX0_start_16 (by decide) ?_
        obtain rfl := Option.some.inj h
        exact j_iret hk.1 hk.2 rfl dX0_start_17
      · rw [if_neg c15] at h
        cases h
theorem yX0_start_ok {x0 : Option Nat} {x1 : Int32} {x2 : Option Nat} {G : GS} {r : Int32} {G1 : GS} (h : fX0_start_0 x0 x1 x2 G = some (r, G1)) : zRuns yX0_start (wsW_ yX0_start cX0_start 4 (some Jvm.ClassFile.FieldType.int) [(0, 9, 12, 21), (0, 9, 15, 15)]) [vR x0, vI x1, vR x2] (.inl (some (vI r)), G, G1, 54) :=
  zentryW (M := mX0_start) (by decide +kernel) ⟨rfl, rfl, rfl⟩ (Nat.le_of_ble_eq_true rfl) (wfX0_start_0 (Nat.le_refl _) x0 x1 x2 G h ⟨rfl, rfl⟩)
theorem msX0_32 : zSV RX0 32 RX1 yX1_symbolAt cX1_symbolAt 4 (some Jvm.ClassFile.FieldType.int) 2 := ⟨lw_V q1860 q1861 q1862 q123 q1863, (by decide +kernel), (by decide)⟩
abbrev mX0_symbolAt : zM := (cX0_symbolAt, RX0, 5, (some Jvm.ClassFile.FieldType.int), "symbolAt", [(0, 10, 13, 13)], "(LSelahGenerator;II[J)I")
def fX0_symbolAt_0 (x0 : Option Nat) (x1 : Int32) (x2 : Int32) (x3 : Option Nat)  (G : GS) : Option ((Int32) × GS) :=
  x0.bind fun a1 => zk [1] G a1 <| zb3 (fX1_symbolAt_0 a1 x1 x2 G) (fun v5 G6 => x3.bind fun a9 => (zsL G6 51 a9 (0 : Int32) v5.toInt64).bind fun G11 => some (0, G11)) (fun X7 G8 => if X7 = "java/lang/IndexOutOfBoundsException" then (some (1, G8)) else none)
theorem wfX0_symbolAt_0 {F : zF} (hd : 11 ≤ F.2.2.2) (x0 : Option Nat) (x1 : Int32) (x2 : Int32) (x3 : Option Nat)  (G : GS) {a : (Int32) × GS} (h : fX0_symbolAt_0 x0 x1 x2 x3  G = some a) (hk : zKI F a) : J mX0_symbolAt F G 0 [(0, vR x0), (1, vI x1), (2, vI x2), (3, vR x3)] [] := by
  unfold fX0_symbolAt_0 at h
  refine j_aload_n (j := 3) dX0_symbolAt_0 rfl rfl ?_
  refine j_iconst (v := 0) dX0_symbolAt_1 (by decide) ?_
  refine j_aload_n (j := 0) dX0_symbolAt_2 rfl rfl ?_
  refine j_iload_n (j := 1) dX0_symbolAt_3 rfl rfl ?_
  refine j_iload_n (j := 2) dX0_symbolAt_4 rfl rfl ?_
  replace h := zbE h
  obtain ⟨a1, e2, h⟩ := h
  subst e2
  replace h := zkE h
  obtain ⟨e3, h⟩ := h
  replace h := zb3E h
  rcases h with ⟨v5, G6, e4, h⟩ | ⟨X7, G8, e4, h⟩
  · refine j_cont (zrV (As := [vI x1, vI x2]) msX0_32 (yX1_symbolAt_ok e4) (Nat.le_trans (Nat.le_of_ble_eq_true rfl) hd) (zk_1 _ e3) rfl rfl (Nat.le_of_ble_eq_true rfl) dX0_symbolAt_5) ?_
    refine j_i2l dX0_symbolAt_8 ?_
    replace h := zbE h
    obtain ⟨a9, e10, h⟩ := h
    subst e10
    replace h := zbE h
    obtain ⟨G11, e12, h⟩ := h
    refine j_last e12 dX0_symbolAt_9 ?_
    refine j_goto (tgt := 17) dX0_symbolAt_10 (by decide) ?_
    refine j_iconst (v := 0) dX0_symbolAt_17 (by decide) ?_
    obtain rfl := Option.some.inj h
    exact j_iret hk.1 hk.2 rfl dX0_symbolAt_18
  · refine j_thr (zrV (As := [vI x1, vI x2]) msX0_32 (yX1_symbolAt_ok e4) (Nat.le_trans (Nat.le_of_ble_eq_true rfl) hd) (zk_1 _ e3) rfl rfl (Nat.le_of_ble_eq_true rfl) dX0_symbolAt_5) ?_
    by_cases c15 : X7 = "java/lang/IndexOutOfBoundsException"
    · rw [if_pos c15] at h
      subst c15
      refine jx_catch (n := 13) [] ⟨0, 10, 13, 13⟩ [] rfl (fun z hz => nomatch hz) rfl (by decide) q1669 (zxw 5 rfl) rfl (fun q14 => ?_)
      refine j_astore (lv' := [(4, vR (some q14)), (0, vR (some a1)), (1, vI x1), (2, vI x2), (3, vR x3)]) dX0_symbolAt_13 (Nat.le_of_ble_eq_true rfl) rfl ?_
      refine j_iconst (v := 1) dX0_symbolAt_15 (by decide) ?_
      obtain rfl := Option.some.inj h
      exact j_iret hk.1 hk.2 rfl dX0_symbolAt_16
    · rw [if_neg c15] at h
      cases h
theorem yX0_symbolAt_ok {x0 : Option Nat} {x1 : Int32} {x2 : Int32} {x3 : Option Nat} {G : GS} {r : Int32} {G1 : GS} (h : fX0_symbolAt_0 x0 x1 x2 x3 G = some (r, G1)) : zRuns yX0_symbolAt (wsW_ yX0_symbolAt cX0_symbolAt 5 (some Jvm.ClassFile.FieldType.int) [(0, 10, 13, 13)]) [vR x0, vI x1, vI x2, vR x3] (.inl (some (vI r)), G, G1, 11) :=
  zentryW (M := mX0_symbolAt) (by decide +kernel) ⟨rfl, rfl, rfl⟩ (Nat.le_of_ble_eq_true rfl) (wfX0_symbolAt_0 (Nat.le_refl _) x0 x1 x2 x3 G h ⟨rfl, rfl⟩)
theorem msX0_83 : zSV RX0 83 RX1 yX1_wasSkipped cX1_wasSkipped 2 (some Jvm.ClassFile.FieldType.boolean) 1 := ⟨lw_V q2579 q2580 q2581 q123 q2582, (by decide +kernel), (by decide)⟩
abbrev mX0_wasSkipped : zM := (cX0_wasSkipped, RX0, 4, (some Jvm.ClassFile.FieldType.int), "wasSkipped", [(0, 16, 19, 13)], "(LSelahGenerator;I[J)I")
def fX0_wasSkipped_15  (s0 : Option Nat) (s1 : Int32) (s2 : Int64) (G : GS) : Option ((Int32) × GS) :=
  s0.bind fun a1 => (zsL G 51 a1 s1 s2).bind fun G3 => some (0, G3)
theorem wfX0_wasSkipped_15 {F : zF} (hd : 10 ≤ F.2.2.2)  (s0 : Option Nat) (s1 : Int32) (s2 : Int64) (G : GS) {a : (Int32) × GS} (h : fX0_wasSkipped_15  s0 s1 s2 G = some a) (hk : zKI F a) : J mX0_wasSkipped F G 15 [] [vL s2, vI s1, vR s0] := by
  unfold fX0_wasSkipped_15 at h
  replace h := zbE h
  obtain ⟨a1, e2, h⟩ := h
  subst e2
  replace h := zbE h
  obtain ⟨G3, e4, h⟩ := h
  refine j_last e4 dX0_wasSkipped_15 ?_
  refine j_goto (tgt := 22) dX0_wasSkipped_16 (by decide) ?_
  refine j_iconst (v := 0) dX0_wasSkipped_22 (by decide) ?_
  obtain rfl := Option.some.inj h
  exact j_iret hk.1 hk.2 rfl dX0_wasSkipped_23
def fX0_wasSkipped_0 (x0 : Option Nat) (x1 : Int32) (x2 : Option Nat)  (G : GS) : Option ((Int32) × GS) :=
  x0.bind fun a1 => zk [1] G a1 <| zb3 (fX1_wasSkipped_0 a1 x1 G) (fun v5 G6 => if v5 = 0 then (fX0_wasSkipped_15 x2 0 0 G6) else (fX0_wasSkipped_15 x2 0 1 G6)) (fun X7 G8 => if X7 = "java/lang/IndexOutOfBoundsException" then (some (1, G8)) else none)
theorem wfX0_wasSkipped_0 {F : zF} (hd : 10 ≤ F.2.2.2) (x0 : Option Nat) (x1 : Int32) (x2 : Option Nat)  (G : GS) {a : (Int32) × GS} (h : fX0_wasSkipped_0 x0 x1 x2  G = some a) (hk : zKI F a) : J mX0_wasSkipped F G 0 [(0, vR x0), (1, vI x1), (2, vR x2)] [] := by
  unfold fX0_wasSkipped_0 at h
  refine j_aload_n (j := 2) dX0_wasSkipped_0 rfl rfl ?_
  refine j_iconst (v := 0) dX0_wasSkipped_1 (by decide) ?_
  refine j_aload_n (j := 0) dX0_wasSkipped_2 rfl rfl ?_
  refine j_iload_n (j := 1) dX0_wasSkipped_3 rfl rfl ?_
  replace h := zbE h
  obtain ⟨a1, e2, h⟩ := h
  subst e2
  replace h := zkE h
  obtain ⟨e3, h⟩ := h
  replace h := zb3E h
  rcases h with ⟨v5, G6, e4, h⟩ | ⟨X7, G8, e4, h⟩
  · refine j_cont (zrV (As := [vI x1]) msX0_83 (yX1_wasSkipped_ok e4) (Nat.le_trans (Nat.le_of_ble_eq_true rfl) hd) (zk_1 _ e3) rfl rfl (Nat.le_of_ble_eq_true rfl) dX0_wasSkipped_4) ?_
    refine j_if_eq (tgt := 14) dX0_wasSkipped_7 (by decide) (fun c9 => ?_) (fun c9 => ?_)
    · rw [if_pos c9] at h
      refine j_lconst (v := 0) dX0_wasSkipped_14 rfl ?_
      exact J.sub (zall [] rfl) (wfX0_wasSkipped_15 hd  x2 0 0 G6 h hk)
    · rw [if_neg c9] at h
      refine j_lconst (v := 1) dX0_wasSkipped_10 rfl ?_
      refine j_goto (tgt := 15) dX0_wasSkipped_11 (by decide) ?_
      exact J.sub (zall [] rfl) (wfX0_wasSkipped_15 hd  x2 0 1 G6 h hk)
  · refine j_thr (zrV (As := [vI x1]) msX0_83 (yX1_wasSkipped_ok e4) (Nat.le_trans (Nat.le_of_ble_eq_true rfl) hd) (zk_1 _ e3) rfl rfl (Nat.le_of_ble_eq_true rfl) dX0_wasSkipped_4) ?_
    by_cases c12 : X7 = "java/lang/IndexOutOfBoundsException"
    · rw [if_pos c12] at h
      subst c12
      refine jx_catch (n := 19) [] ⟨0, 16, 19, 13⟩ [] rfl (fun z hz => nomatch hz) rfl (by decide) q1669 (zxw 5 rfl) rfl (fun q11 => ?_)
      refine j_astore_n (lv' := [(3, vR (some q11)), (0, vR (some a1)), (1, vI x1), (2, vR x2)]) dX0_wasSkipped_19 rfl (Nat.le_of_ble_eq_true rfl) rfl ?_
      refine j_iconst (v := 1) dX0_wasSkipped_20 (by decide) ?_
      obtain rfl := Option.some.inj h
      exact j_iret hk.1 hk.2 rfl dX0_wasSkipped_21
    · rw [if_neg c12] at h
      cases h
theorem yX0_wasSkipped_ok {x0 : Option Nat} {x1 : Int32} {x2 : Option Nat} {G : GS} {r : Int32} {G1 : GS} (h : fX0_wasSkipped_0 x0 x1 x2 G = some (r, G1)) : zRuns yX0_wasSkipped (wsW_ yX0_wasSkipped cX0_wasSkipped 4 (some Jvm.ClassFile.FieldType.int) [(0, 16, 19, 13)]) [vR x0, vI x1, vR x2] (.inl (some (vI r)), G, G1, 10) :=
  zentryW (M := mX0_wasSkipped) (by decide +kernel) ⟨rfl, rfl, rfl⟩ (Nat.le_of_ble_eq_true rfl) (wfX0_wasSkipped_0 (Nat.le_refl _) x0 x1 x2 G h ⟨rfl, rfl⟩)
theorem msX0_89 : zSV RX0 89 RX1 yX1_writeRule cX1_writeRule 7 (some Jvm.ClassFile.FieldType.int) 1 := ⟨lw_V q2590 q2591 q2592 q123 q2593, (by decide +kernel), (by decide)⟩
abbrev mX0_writeRule : zM := (cX0_writeRule, RX0, 4, (some Jvm.ClassFile.FieldType.int), "writeRule", [(0, 9, 12, 13)], "(LSelahGenerator;I[J)I")
def fX0_writeRule_0 (x0 : Option Nat) (x1 : Int32) (x2 : Option Nat)  (G : GS) : Option ((Int32) × GS) :=
  x0.bind fun a1 => zk [1] G a1 <| zb3 (fX1_writeRule_0 a1 x1 G) (fun v5 G6 => x2.bind fun a9 => (zsL G6 51 a9 (0 : Int32) v5.toInt64).bind fun G11 => some (0, G11)) (fun X7 G8 => if X7 = "java/lang/IndexOutOfBoundsException" then (some (1, G8)) else none)
theorem wfX0_writeRule_0 {F : zF} (hd : 24 ≤ F.2.2.2) (x0 : Option Nat) (x1 : Int32) (x2 : Option Nat)  (G : GS) {a : (Int32) × GS} (h : fX0_writeRule_0 x0 x1 x2  G = some a) (hk : zKI F a) : J mX0_writeRule F G 0 [(0, vR x0), (1, vI x1), (2, vR x2)] [] := by
  unfold fX0_writeRule_0 at h
  refine j_aload_n (j := 2) dX0_writeRule_0 rfl rfl ?_
  refine j_iconst (v := 0) dX0_writeRule_1 (by decide) ?_
  refine j_aload_n (j := 0) dX0_writeRule_2 rfl rfl ?_
  refine j_iload_n (j := 1) dX0_writeRule_3 rfl rfl ?_
  replace h := zbE h
  obtain ⟨a1, e2, h⟩ := h
  subst e2
  replace h := zkE h
  obtain ⟨e3, h⟩ := h
  replace h := zb3E h
  rcases h with ⟨v5, G6, e4, h⟩ | ⟨X7, G8, e4, h⟩
  · refine j_cont (zrV (As := [vI x1]) msX0_89 (yX1_writeRule_ok e4) (Nat.le_trans (Nat.le_of_ble_eq_true rfl) hd) (zk_1 _ e3) rfl rfl (Nat.le_of_ble_eq_true rfl) dX0_writeRule_4) ?_
    refine j_i2l dX0_writeRule_7 ?_
    replace h := zbE h
    obtain ⟨a9, e10, h⟩ := h
    subst e10
    replace h := zbE h
    obtain ⟨G11, e12, h⟩ := h
    refine j_last e12 dX0_writeRule_8 ?_
    refine j_goto (tgt := 15) dX0_writeRule_9 (by decide) ?_
    refine j_iconst (v := 0) dX0_writeRule_15 (by decide) ?_
    obtain rfl := Option.some.inj h
    exact j_iret hk.1 hk.2 rfl dX0_writeRule_16
  · refine j_thr (zrV (As := [vI x1]) msX0_89 (yX1_writeRule_ok e4) (Nat.le_trans (Nat.le_of_ble_eq_true rfl) hd) (zk_1 _ e3) rfl rfl (Nat.le_of_ble_eq_true rfl) dX0_writeRule_4) ?_
    by_cases c15 : X7 = "java/lang/IndexOutOfBoundsException"
    · rw [if_pos c15] at h
      subst c15
      refine jx_catch (n := 12) [] ⟨0, 9, 12, 13⟩ [] rfl (fun z hz => nomatch hz) rfl (by decide) q1669 (zxw 5 rfl) rfl (fun q14 => ?_)
      refine j_astore_n (lv' := [(3, vR (some q14)), (0, vR (some a1)), (1, vI x1), (2, vR x2)]) dX0_writeRule_12 rfl (Nat.le_of_ble_eq_true rfl) rfl ?_
      refine j_iconst (v := 1) dX0_writeRule_13 (by decide) ?_
      obtain rfl := Option.some.inj h
      exact j_iret hk.1 hk.2 rfl dX0_writeRule_14
    · rw [if_neg c15] at h
      cases h
theorem yX0_writeRule_ok {x0 : Option Nat} {x1 : Int32} {x2 : Option Nat} {G : GS} {r : Int32} {G1 : GS} (h : fX0_writeRule_0 x0 x1 x2 G = some (r, G1)) : zRuns yX0_writeRule (wsW_ yX0_writeRule cX0_writeRule 4 (some Jvm.ClassFile.FieldType.int) [(0, 9, 12, 13)]) [vR x0, vI x1, vR x2] (.inl (some (vI r)), G, G1, 24) :=
  zentryW (M := mX0_writeRule) (by decide +kernel) ⟨rfl, rfl, rfl⟩ (Nat.le_of_ble_eq_true rfl) (wfX0_writeRule_0 (Nat.le_refl _) x0 x1 x2 G h ⟨rfl, rfl⟩)
end
