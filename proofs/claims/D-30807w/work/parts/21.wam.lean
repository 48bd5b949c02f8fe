/-! printed: functions and walks -/
set_option maxRecDepth 100000
noncomputable section
theorem msJ3_125 : zSS RJ3 125 yJ29_inflate cJ29_inflate 5 none 5 := ⟨lw_S q2084 q2085 q160 q2086, (by decide +kernel), (by decide)⟩
abbrev mJ3_inflate : zM := (cJ3_inflate, RJ3, 2, none, "inflate", [], "()V")
def fJ3_inflate_0 (t : Nat)  (G : GS) : Option (GS) :=
  zk [22] G t <| (fJ3_isLatin1_0 t G).bind fun v3 => if v3 = 0 then (some G) else ((zgR G 22 t 0).bind fun r5 => r5.bind fun a7 => (zln G a7).bind fun v9 => zb2 (fJ6_newBytesFor_0 v9 G) fun r12 G13 => (zgR G13 22 t 0).bind fun r14 => (zgI G13 22 t 3).bind fun v16 => (fJ29_inflate_0 r14 0 r12 0 v16 G13).bind fun G19 => (zpR G19 22 t 0 r12).bind fun G20 => (zpB G20 22 t 1 1).bind fun G22 => some G22)
theorem wfJ3_inflate_0 {F : zF} (hd : 6 ≤ F.2.2.2) (t : Nat)  (G : GS) {a : GS} (h : fJ3_inflate_0 t  G = some a) (hk : zKV F a) : J mJ3_inflate F G 0 [(0, vR (some t))] [] := by
  unfold fJ3_inflate_0 at h
  refine j_aload_n (j := 0) dJ3_inflate_0 rfl rfl ?_
  replace h := zkE h
  obtain ⟨e1, h⟩ := h
  replace h := zbE h
  obtain ⟨v3, e2, h⟩ := h
  refine j_cont (zrU (As := []) msJ3_83_J4 (yJ3_isLatin1_ok e2) (Nat.le_trans (Nat.le_of_ble_eq_true rfl) hd) (zk_22 _ e1) rfl rfl (Nat.le_of_ble_eq_true rfl) dJ3_inflate_1) ?_
  refine j_if_ne (tgt := 8) dJ3_inflate_4 (by decide) (fun c4 => ?_) (fun c4 => ?_)
  · rw [if_pos c4] at h
    obtain rfl := Option.some.inj h
    exact j_vret hk.1 hk.2 rfl dJ3_inflate_7
  · rw [if_neg c4] at h
    refine j_aload_n (j := 0) dJ3_inflate_8 rfl rfl ?_
    replace h := zbE h
    obtain ⟨r5, e6, h⟩ := h
    refine j_getR fgJ3_15 (fun _ _ _ => rfl) dJ3_inflate_9 e6 ?_
    replace h := zbE h
    obtain ⟨a7, e8, h⟩ := h
    subst e8
    replace h := zbE h
    obtain ⟨v9, e10, h⟩ := h
    refine j_alen e10 dJ3_inflate_12 ?_
    replace h := zb2E h
    obtain ⟨r12, G13, e11, h⟩ := h
    refine j_cont (zrS (As := [vI v9]) msJ3_26 (yJ6_newBytesFor_ok e11) (Nat.le_trans (Nat.le_of_ble_eq_true rfl) hd) rfl rfl (Nat.le_of_ble_eq_true rfl) dJ3_inflate_13) ?_
    refine j_astore_n (lv' := [(1, vR r12), (0, vR (some t))]) dJ3_inflate_16 rfl (Nat.le_of_ble_eq_true rfl) rfl ?_
    refine j_aload_n (j := 1) dJ3_inflate_17 rfl rfl ?_
    replace h := zbE h
    obtain ⟨r14, e15, h⟩ := h
    refine j_getR fgJ3_15 (fun _ _ _ => rfl) dJ3_inflate_18 e15 ?_
    refine j_iconst (v := 0) dJ3_inflate_21 (by decide) ?_
    refine j_aload_n (j := 0) dJ3_inflate_22 rfl rfl ?_
    refine j_iconst (v := 0) dJ3_inflate_23 (by decide) ?_
    refine j_aload_n (j := 1) dJ3_inflate_24 rfl rfl ?_
    replace h := zbE h
    obtain ⟨v16, e17, h⟩ := h
    refine j_getI fgJ3_79 (fun _ _ _ => rfl) dJ3_inflate_25 e17 ?_
    replace h := zbE h
    obtain ⟨G19, e18, h⟩ := h
    refine j_cont (zrS (As := [vR r14, vI 0, vR r12, vI 0, vI v16]) msJ3_125 (yJ29_inflate_ok e18) (Nat.le_trans (Nat.le_of_ble_eq_true rfl) hd) rfl rfl (Nat.le_of_ble_eq_true rfl) dJ3_inflate_28) ?_
    refine j_aload_n (j := 1) dJ3_inflate_31 rfl rfl ?_
    refine j_aload_n (j := 0) dJ3_inflate_32 rfl rfl ?_
    replace h := zbE h
    obtain ⟨G20, e21, h⟩ := h
    refine j_putR fpJ3_15_J4 (Or.inl rfl) (Or.inr ⟨_, rfl⟩) dJ3_inflate_33 e21 ?_
    refine j_aload_n (j := 1) dJ3_inflate_36 rfl rfl ?_
    refine j_iconst (v := 1) dJ3_inflate_37 (by decide) ?_
    replace h := zbE h
    obtain ⟨G22, e23, h⟩ := h
    refine j_putB fpJ3_22_J4 (Or.inl rfl) rfl dJ3_inflate_38 e23 ?_
    obtain rfl := Option.some.inj h
    exact j_vret hk.1 hk.2 rfl dJ3_inflate_41
theorem yJ3_inflate_ok {t : Nat} {G : GS} {G1 : GS} (h : fJ3_inflate_0 t G = some G1) : zRuns yJ3_inflate (ws_ yJ3_inflate cJ3_inflate 2 none) [vR (some t)] (.inl none, G, G1, 6) :=
  zentry (M := mJ3_inflate) (plainFor_of_name (by decide +kernel)) ⟨rfl, rfl, rfl, rfl⟩ (Nat.le_of_ble_eq_true rfl) (wfJ3_inflate_0 (Nat.le_refl _) t G h ⟨rfl, rfl⟩)
abbrev mJ3_inflateIfNeededFor : zM := (cJ3_inflateIfNeededFor, RJ3, 2, none, "inflateIfNeededFor", [], "(Ljava/lang/String;)V")
def fJ3_inflateIfNeededFor_0 (t : Nat) (x1 : Option Nat)  (G : GS) : Option (GS) :=
  if (1 : Int32) = 0 then (some G) else ((zgI G 22 t 1).bind fun v2 => none)
theorem wfJ3_inflateIfNeededFor_0 {F : zF} (hd : 7 ≤ F.2.2.2) (t : Nat) (x1 : Option Nat)  (G : GS) {a : GS} (h : fJ3_inflateIfNeededFor_0 t x1  G = some a) (hk : zKV F a) : J mJ3_inflateIfNeededFor F G 0 [(0, vR (some t)), (1, vR x1)] [] := by
  unfold fJ3_inflateIfNeededFor_0 at h
  refine j_gets (i := 6) (x := vI 1) rfl rfl q221 dJ3_inflateIfNeededFor_0 ?_
  refine j_if_eq (tgt := 21) dJ3_inflateIfNeededFor_3 (by decide) (fun c1 => ?_) (fun c1 => ?_)
  · rw [if_pos c1] at h
    obtain rfl := Option.some.inj h
    exact j_vret hk.1 hk.2 rfl dJ3_inflateIfNeededFor_21
  · rw [if_neg c1] at h
    refine j_aload_n (j := 0) dJ3_inflateIfNeededFor_6 rfl rfl ?_
    replace h := zbE h
    obtain ⟨v2, e3, h⟩ := h
    refine j_getI fgJ3_22 (fun _ _ _ => rfl) dJ3_inflateIfNeededFor_7 e3 ?_
    refine j_aload_n (j := 1) dJ3_inflateIfNeededFor_10 rfl rfl ?_
    cases h
theorem yJ3_inflateIfNeededFor_ok {t : Nat} {x1 : Option Nat} {G : GS} {G1 : GS} (h : fJ3_inflateIfNeededFor_0 t x1 G = some G1) : zRuns yJ3_inflateIfNeededFor (ws_ yJ3_inflateIfNeededFor cJ3_inflateIfNeededFor 2 none) [vR (some t), vR x1] (.inl none, G, G1, 7) :=
  zentry (M := mJ3_inflateIfNeededFor) (plainFor_of_name (by decide +kernel)) ⟨rfl, rfl, rfl, rfl⟩ (Nat.le_of_ble_eq_true rfl) (wfJ3_inflateIfNeededFor_0 (Nat.le_refl _) t x1 G h ⟨rfl, rfl⟩)
abbrev mJ5_getBytes : zM := (cJ5_getBytes, RJ5, 4, none, "getBytes", [], "([BIB)V")
def fJ5_getBytes_0 (t : Nat) (x1 : Option Nat) (x2 : Int32) (x3 : Int32)  (G : GS) : Option (GS) :=
  none
theorem wfJ5_getBytes_0 {F : zF} (hd : 6 ≤ F.2.2.2) (t : Nat) (x1 : Option Nat) (x2 : Int32) (x3 : Int32)  (G : GS) {a : GS} (h : fJ5_getBytes_0 t x1 x2 x3  G = some a) (hk : zKV F a) : J mJ5_getBytes F G 0 [(0, vR (some t)), (1, vR x1), (2, vI x2), (3, vI x3)] [] := by
  unfold fJ5_getBytes_0 at h
  refine j_aload_n (j := 0) dJ5_getBytes_0 rfl rfl ?_
  cases h
theorem yJ5_getBytes_ok {t : Nat} {x1 : Option Nat} {x2 : Int32} {x3 : Int32} {G : GS} {G1 : GS} (h : fJ5_getBytes_0 t x1 x2 x3 G = some G1) : zRuns yJ5_getBytes (ws_ yJ5_getBytes cJ5_getBytes 4 none) [vR (some t), vR x1, vI x2, vI x3] (.inl none, G, G1, 6) :=
  zentry (M := mJ5_getBytes) (plainFor_of_name (by decide +kernel)) ⟨rfl, rfl, rfl, rfl⟩ (Nat.le_of_ble_eq_true rfl) (wfJ5_getBytes_0 (Nat.le_refl _) t x1 x2 x3 G h ⟨rfl, rfl⟩)
abbrev mJ3_putStringAt : zM := (cJ3_putStringAt, RJ3, 3, none, "putStringAt", [], "(ILjava/lang/String;)V")
def fJ3_putStringAt_0 (t : Nat) (x1 : Int32) (x2 : Option Nat)  (G : GS) : Option (GS) :=
  none
theorem wfJ3_putStringAt_0 {F : zF} (hd : 8 ≤ F.2.2.2) (t : Nat) (x1 : Int32) (x2 : Option Nat)  (G : GS) {a : GS} (h : fJ3_putStringAt_0 t x1 x2  G = some a) (hk : zKV F a) : J mJ3_putStringAt F G 0 [(0, vR (some t)), (1, vI x1), (2, vR x2)] [] := by
  unfold fJ3_putStringAt_0 at h
  refine j_aload_n (j := 0) dJ3_putStringAt_0 rfl rfl ?_
  refine j_aload_n (j := 2) dJ3_putStringAt_1 rfl rfl ?_
  cases h
theorem yJ3_putStringAt_ok {t : Nat} {x1 : Int32} {x2 : Option Nat} {G : GS} {G1 : GS} (h : fJ3_putStringAt_0 t x1 x2 G = some G1) : zRuns yJ3_putStringAt (ws_ yJ3_putStringAt cJ3_putStringAt 3 none) [vR (some t), vI x1, vR x2] (.inl none, G, G1, 8) :=
  zentry (M := mJ3_putStringAt) (plainFor_of_name (by decide +kernel)) ⟨rfl, rfl, rfl, rfl⟩ (Nat.le_of_ble_eq_true rfl) (wfJ3_putStringAt_0 (Nat.le_refl _) t x1 x2 G h ⟨rfl, rfl⟩)
abbrev mJ3_append_2 : zM := (cJ3_append_2, RJ3, 3, (some (Jvm.ClassFile.FieldType.object "java/lang/AbstractStringBuilder")), "append", [], "(Ljava/lang/String;)Ljava/lang/AbstractStringBuilder;")
def fJ3_append_2_0 (t : Nat) (x1 : Option Nat)  (G : GS) : Option ((Option Nat) × GS) :=
  zopt x1 none (fun a1 => none)
theorem wfJ3_append_2_0 {F : zF} (hd : 9 ≤ F.2.2.2) (t : Nat) (x1 : Option Nat)  (G : GS) {a : (Option Nat) × GS} (h : fJ3_append_2_0 t x1  G = some a) (hk : zKR F a) : J mJ3_append_2 F G 0 [(0, vR (some t)), (1, vR x1)] [] := by
  unfold fJ3_append_2_0 at h
  refine j_aload_n (j := 1) dJ3_append_2_0 rfl rfl ?_
  rcases x1 with _ | a1
  · replace h := zopt_n h
    refine j_ifnonnull0 dJ3_append_2_1 ?_
    refine j_aload_n (j := 0) dJ3_append_2_4 rfl rfl ?_
    cases h
  · replace h := zopt_s h
    refine j_ifnonnull1 (tgt := 9) dJ3_append_2_1 (by decide) ?_
    refine j_aload_n (j := 1) dJ3_append_2_9 rfl rfl ?_
    cases h
theorem yJ3_append_2_ok {t : Nat} {x1 : Option Nat} {G : GS} {r : Option Nat} {G1 : GS} (h : fJ3_append_2_0 t x1 G = some (r, G1)) : zRuns yJ3_append_2 (ws_ yJ3_append_2 cJ3_append_2 3 (some (Jvm.ClassFile.FieldType.object "java/lang/AbstractStringBuilder"))) [vR (some t), vR x1] (.inl (some (vR r)), G, G1, 9) :=
  zentry (M := mJ3_append_2) (plainFor_of_name (by decide +kernel)) ⟨rfl, rfl, rfl, rfl⟩ (Nat.le_of_ble_eq_true rfl) (wfJ3_append_2_0 (Nat.le_refl _) t x1 G h ⟨rfl, rfl⟩)
theorem msJ4_29 : zSP RJ4 29 yJ3_append_2 cJ3_append_2 3 (some (Jvm.ClassFile.FieldType.object "java/lang/AbstractStringBuilder")) 1 := ⟨lw_SP q2057 q3282 q243 q2058 q127 q2059, (by decide +kernel), (by decide)⟩
abbrev mJ4_append_2 : zM := (cJ4_append_2, RJ4, 2, (some (Jvm.ClassFile.FieldType.object "java/lang/StringBuilder")), "append", [], "(Ljava/lang/String;)Ljava/lang/StringBuilder;")
def fJ4_append_2_0 (t : Nat) (x1 : Option Nat)  (G : GS) : Option ((Option Nat) × GS) :=
  zk [22] G t <| zb2 (fJ3_append_2_0 t x1 G) fun r3 G4 => some ((some t), G4)
theorem wfJ4_append_2_0 {F : zF} (hd : 10 ≤ F.2.2.2) (t : Nat) (x1 : Option Nat)  (G : GS) {a : (Option Nat) × GS} (h : fJ4_append_2_0 t x1  G = some a) (hk : zKR F a) : J mJ4_append_2 F G 0 [(0, vR (some t)), (1, vR x1)] [] := by
  unfold fJ4_append_2_0 at h
  refine j_aload_n (j := 0) dJ4_append_2_0 rfl rfl ?_
  refine j_aload_n (j := 1) dJ4_append_2_1 rfl rfl ?_
  replace h := zkE h
  obtain ⟨e1, h⟩ := h
  replace h := zb2E h
  obtain ⟨r3, G4, e2, h⟩ := h
  refine j_cont (zrSP (As := [vR x1]) msJ4_29 ⟨21, _, rfl, rfl⟩ (yJ3_append_2_ok e2) (Nat.le_trans (Nat.le_of_ble_eq_true rfl) hd) (zk_22 _ e1) rfl rfl (Nat.le_of_ble_eq_true rfl) dJ4_append_2_2) ?_
  refine j_pop dJ4_append_2_5 rfl ?_
  refine j_aload_n (j := 0) dJ4_append_2_6 rfl rfl ?_
  obtain rfl := Option.some.inj h
  exact j_aret hk.1 hk.2 rfl (Or.inl ⟨_, rfl⟩) dJ4_append_2_7
theorem yJ4_append_2_ok {t : Nat} {x1 : Option Nat} {G : GS} {r : Option Nat} {G1 : GS} (h : fJ4_append_2_0 t x1 G = some (r, G1)) : zRuns yJ4_append_2 (ws_ yJ4_append_2 cJ4_append_2 2 (some (Jvm.ClassFile.FieldType.object "java/lang/StringBuilder"))) [vR (some t), vR x1] (.inl (some (vR r)), G, G1, 10) :=
  zentry (M := mJ4_append_2) (plainFor_of_name (by decide +kernel)) ⟨rfl, rfl, rfl, rfl⟩ (Nat.le_of_ble_eq_true rfl) (wfJ4_append_2_0 (Nat.le_refl _) t x1 G h ⟨rfl, rfl⟩)
abbrev mJ26_stringSize : zM := (cJ26_stringSize, RJ26, 4, (some Jvm.ClassFile.FieldType.int), "stringSize", [], "(I)I")
def fJ26_stringSize_42 (x1 : Int32)  (G : GS) : Option (Int32) :=
  some (10 + x1)
theorem wfJ26_stringSize_42 {F : zF} (hd : 1 ≤ F.2.2.2) (x1 : Int32)  (G : GS) {a : Int32} (h : fJ26_stringSize_42 x1  G = some a) (hk : zKPI F G a) : J mJ26_stringSize F G 42 [(1, vI x1)] [] := by
  unfold fJ26_stringSize_42 at h
  refine j_bipush (v := 10) dJ26_stringSize_42 (by decide) ?_
  refine j_iload_n (j := 0) dJ26_stringSize_44 rfl rfl ?_
  refine j_iadd dJ26_stringSize_45 ?_
  obtain rfl := Option.some.inj h
  exact j_iret hk.1 hk.2 rfl dJ26_stringSize_46
def fJ26_stringSize_27 (x1 : Int32) (x3 : Int32)  (G : GS) : Option (Int32) :=
  some (x3 + x1)
theorem wfJ26_stringSize_27 {F : zF} (hd : 1 ≤ F.2.2.2) (x1 : Int32) (x3 : Int32)  (G : GS) {a : Int32} (h : fJ26_stringSize_27 x1 x3  G = some a) (hk : zKPI F G a) : J mJ26_stringSize F G 27 [(1, vI x1), (3, vI x3)] [] := by
  unfold fJ26_stringSize_27 at h
  refine j_iload_n (j := 1) dJ26_stringSize_27 rfl rfl ?_
  refine j_iload_n (j := 0) dJ26_stringSize_28 rfl rfl ?_
  refine j_iadd dJ26_stringSize_29 ?_
  obtain rfl := Option.some.inj h
  exact j_iret hk.1 hk.2 rfl dJ26_stringSize_30
def fbJ26_stringSize_16 (x0 : Int32) (x1 : Int32) (x2 : Int32) (x3 : Int32)  (G : GS) : Option ((Int32 × Int32) ⊕ (Int32)) :=
  if 10 ≤ x3 then (zo (fJ26_stringSize_42 x1 G)) else (if x0 ≤ x2 then (some (.inl ((10 * x2), (x3 + 1)))) else (zo (fJ26_stringSize_27 x1 x3 G)))
def flJ26_stringSize_16 (x0 : Int32) (x1 : Int32) (x2 : Int32) (x3 : Int32) (G : GS) : Option (Int32) := zloop (fun s : Int32 × Int32 => fbJ26_stringSize_16 x0 x1 s.1 s.2 G) (x2, x3)
theorem wfbJ26_stringSize_16 {F : zF} (hd : 1 ≤ F.2.2.2) (x0 : Int32) (x1 : Int32) (x2 : Int32) (x3 : Int32) (G : GS) {a : (Int32 × Int32) ⊕ (Int32)} (h : fbJ26_stringSize_16 x0 x1 x2 x3 G = some a) (hk : (zcase (fun s : Int32 × Int32 => J mJ26_stringSize F G 16 [(0, vI x0), (1, vI x1), (2, vI s.1), (3, vI s.2)] []) (zKPI F G)) a) : J mJ26_stringSize F G 16 [(0, vI x0), (1, vI x1), (2, vI x2), (3, vI x3)] [] := by
  unfold fbJ26_stringSize_16 at h
  refine j_iload_n (j := 3) dJ26_stringSize_16 rfl rfl ?_
  refine j_bipush (v := 10) dJ26_stringSize_17 (by decide) ?_
  refine j_icmp_ge (tgt := 42) dJ26_stringSize_19 (by decide) (fun c1 => ?_) (fun c1 => ?_)
  · rw [if_pos c1] at h
    replace h := zoE h
    obtain ⟨a, h, rfl⟩ := h
    replace hk := hk
    exact J.sub (zall [1] rfl) (wfJ26_stringSize_42 hd x1  G h hk)
  · rw [if_neg c1] at h
    refine j_iload_n (j := 0) dJ26_stringSize_22 rfl rfl ?_
    refine j_iload_n (j := 2) dJ26_stringSize_23 rfl rfl ?_
    refine j_icmp_le (tgt := 31) dJ26_stringSize_24 (by decide) (fun c2 => ?_) (fun c2 => ?_)
    · rw [if_pos c2] at h
      refine j_bipush (v := 10) dJ26_stringSize_31 (by decide) ?_
      refine j_iload_n (j := 2) dJ26_stringSize_33 rfl rfl ?_
      refine j_imul dJ26_stringSize_34 ?_
      refine j_istore_n (lv' := [(2, vI (10 * x2)), (0, vI x0), (1, vI x1), (3, vI x3)]) dJ26_stringSize_35 rfl (Nat.le_of_ble_eq_true rfl) rfl ?_
      refine j_iinc (j := 3) (v := (x3 + 1)) (lv' := [(3, vI (x3 + 1)), (2, vI (10 * x2)), (0, vI x0), (1, vI x1)]) dJ26_stringSize_36 rfl rfl (Nat.le_of_ble_eq_true rfl) rfl ?_
      refine j_goto (tgt := 16) dJ26_stringSize_39 (by decide) ?_
      obtain rfl := Option.some.inj h
      exact J.sub (zall [2, 3, 1, 0] rfl) hk
    · rw [if_neg c2] at h
      replace h := zoE h
      obtain ⟨a, h, rfl⟩ := h
      replace hk := hk
      exact J.sub (zall [1, 3] rfl) (wfJ26_stringSize_27 hd x1 x3  G h hk)
theorem wflJ26_stringSize_16 {F : zF} (hd : 1 ≤ F.2.2.2) (x0 : Int32) (x1 : Int32) (x2 : Int32) (x3 : Int32) (G : GS) {a : Int32} (h : flJ26_stringSize_16 x0 x1 x2 x3 G = some a) (hk : zKPI F G a) : J mJ26_stringSize F G 16 [(0, vI x0), (1, vI x1), (2, vI x2), (3, vI x3)] [] := by
  unfold flJ26_stringSize_16 at h
  exact zloop_walk (P := (fun s : Int32 × Int32 => J mJ26_stringSize F G 16 [(0, vI x0), (1, vI x1), (2, vI s.1), (3, vI s.2)] [])) (fun s b e hk => wfbJ26_stringSize_16 hd x0 x1 s.1 s.2 G e hk) (x2, x3) _ h hk
def fJ26_stringSize_11 (x0 : Int32) (x1 : Int32)  (G : GS) : Option (Int32) :=
  flJ26_stringSize_16 x0 x1 (-10) 1 G
theorem wfJ26_stringSize_11 {F : zF} (hd : 1 ≤ F.2.2.2) (x0 : Int32) (x1 : Int32)  (G : GS) {a : Int32} (h : fJ26_stringSize_11 x0 x1  G = some a) (hk : zKPI F G a) : J mJ26_stringSize F G 11 [(0, vI x0), (1, vI x1)] [] := by
  unfold fJ26_stringSize_11 at h
  refine j_bipush (v := (-10)) dJ26_stringSize_11 (by decide) ?_
  refine j_istore_n (lv' := [(2, vI (-10)), (0, vI x0), (1, vI x1)]) dJ26_stringSize_13 rfl (Nat.le_of_ble_eq_true rfl) rfl ?_
  refine j_iconst (v := 1) dJ26_stringSize_14 (by decide) ?_
  refine j_istore_n (lv' := [(3, vI 1), (2, vI (-10)), (0, vI x0), (1, vI x1)]) dJ26_stringSize_15 rfl (Nat.le_of_ble_eq_true rfl) rfl ?_
  exact J.sub (zall [2, 3, 1, 0] rfl) (wflJ26_stringSize_16 hd x0 x1 (-10) 1  G h hk)
def fJ26_stringSize_0 (x0 : Int32)  (G : GS) : Option (Int32) :=
  if x0 < 0 then (fJ26_stringSize_11 x0 1 G) else (fJ26_stringSize_11 (-x0) 0 G)
theorem wfJ26_stringSize_0 {F : zF} (hd : 1 ≤ F.2.2.2) (x0 : Int32)  (G : GS) {a : Int32} (h : fJ26_stringSize_0 x0  G = some a) (hk : zKPI F G a) : J mJ26_stringSize F G 0 [(0, vI x0)] [] := by
  unfold fJ26_stringSize_0 at h
  refine j_iconst (v := 1) dJ26_stringSize_0 (by decide) ?_
  refine j_istore_n (lv' := [(1, vI 1), (0, vI x0)]) dJ26_stringSize_1 rfl (Nat.le_of_ble_eq_true rfl) rfl ?_
  refine j_iload_n (j := 1) dJ26_stringSize_2 rfl rfl ?_
  refine j_if_lt (tgt := 11) dJ26_stringSize_3 (by decide) (fun c1 => ?_) (fun c1 => ?_)
  · rw [if_pos c1] at h
    exact J.sub (zall [1, 0] rfl) (wfJ26_stringSize_11 hd x0 1  G h hk)
  · rw [if_neg c1] at h
    refine j_iconst (v := 0) dJ26_stringSize_6 (by decide) ?_
    refine j_istore_n (lv' := [(1, vI 0), (0, vI x0)]) dJ26_stringSize_7 rfl (Nat.le_of_ble_eq_true rfl) rfl ?_
    refine j_iload_n (j := 1) dJ26_stringSize_8 rfl rfl ?_
    refine j_ineg dJ26_stringSize_9 ?_
    refine j_istore_n (lv' := [(0, vI (-x0)), (1, vI 0)]) dJ26_stringSize_10 rfl (Nat.le_of_ble_eq_true rfl) rfl ?_
    exact J.sub (zall [0, 1] rfl) (wfJ26_stringSize_11 hd (-x0) 0  G h hk)
theorem yJ26_stringSize_ok {x0 : Int32} {G : GS} {r : Int32} (h : fJ26_stringSize_0 x0 G = some r) : zRuns yJ26_stringSize (ws_ yJ26_stringSize cJ26_stringSize 4 (some Jvm.ClassFile.FieldType.int)) [vI x0] (.inl (some (vI r)), G, G, 1) :=
  zentry (M := mJ26_stringSize) (plainFor_of_name (by decide +kernel)) ⟨rfl, rfl, rfl, rfl⟩ (Nat.le_of_ble_eq_true rfl) (wfJ26_stringSize_0 (Nat.le_refl _) x0 G h ⟨rfl, rfl⟩)
abbrev mJ26_getChars : zM := (cJ26_getChars, RJ26, 7, (some Jvm.ClassFile.FieldType.int), "getChars", [], "(II[B)I")
def fJ26_getChars_72 (x0 : Int32) (x2 : Option Nat) (x5 : Int32) (x6 : Int32)  (G : GS) : Option ((Int32) × GS) :=
  none
theorem wfJ26_getChars_72 {F : zF} (hd : 1 ≤ F.2.2.2) (x0 : Int32) (x2 : Option Nat) (x5 : Int32) (x6 : Int32)  (G : GS) {a : (Int32) × GS} (h : fJ26_getChars_72 x0 x2 x5 x6  G = some a) (hk : zKI F a) : J mJ26_getChars F G 72 [(0, vI x0), (2, vR x2), (5, vI x5), (6, vI x6)] [] := by
  unfold fJ26_getChars_72 at h
  refine j_aload_n (j := 1) dJ26_getChars_72 rfl rfl ?_
  refine j_iinc (j := 2) (v := (x5 + (-1))) (lv' := [(5, vI (x5 + (-1))), (0, vI x0), (2, vR x2), (6, vI x6)]) dJ26_getChars_73 rfl rfl (Nat.le_of_ble_eq_true rfl) rfl ?_
  refine j_iload (j := 0) dJ26_getChars_76 rfl ?_
  cases h
def fbJ26_getChars_22 (x0 : Int32) (x2 : Option Nat) (x5 : Int32) (x6 : Int32)  (G : GS) : Option ((Int32 × Int32 × GS) ⊕ ((Int32) × GS)) :=
  if (-100) < x0 then (zo (fJ26_getChars_72 x0 x2 x5 x6 G)) else (zcond (¬ (100 : Int32) = 0) (none))
def flJ26_getChars_22 (x0 : Int32) (x2 : Option Nat) (x5 : Int32) (x6 : Int32) (G : GS) : Option ((Int32) × GS) := zloop (fun s : Int32 × Int32 × GS => fbJ26_getChars_22 s.1 x2 s.2.1 x6 s.2.2) (x0, x5, G)
theorem wfbJ26_getChars_22 {F : zF} (hd : 1 ≤ F.2.2.2) (x0 : Int32) (x2 : Option Nat) (x5 : Int32) (x6 : Int32) (G : GS) {a : (Int32 × Int32 × GS) ⊕ ((Int32) × GS)} (h : fbJ26_getChars_22 x0 x2 x5 x6 G = some a) (hk : (zcase (fun s : Int32 × Int32 × GS => J mJ26_getChars F s.2.2 22 [(0, vI s.1), (2, vR x2), (5, vI s.2.1), (6, vI x6)] []) (zKI F)) a) : J mJ26_getChars F G 22 [(0, vI x0), (2, vR x2), (5, vI x5), (6, vI x6)] [] := by
  unfold fbJ26_getChars_22 at h
  refine j_iload_n (j := 0) dJ26_getChars_22 rfl rfl ?_
  refine j_bipush (v := (-100)) dJ26_getChars_23 (by decide) ?_
  refine j_icmp_gt (tgt := 72) dJ26_getChars_25 (by decide) (fun c1 => ?_) (fun c1 => ?_)
  · rw [if_pos c1] at h
    replace h := zoE h
    obtain ⟨a, h, rfl⟩ := h
    replace hk := hk
    exact J.sub (zall [0, 1, 2, 3] rfl) (wfJ26_getChars_72 hd x0 x2 x5 x6  G h hk)
  · rw [if_neg c1] at h
    refine j_iload_n (j := 0) dJ26_getChars_28 rfl rfl ?_
    refine j_bipush (v := 100) dJ26_getChars_29 (by decide) ?_
    replace h := zcondE h
    obtain ⟨e2, h⟩ := h
    refine j_idiv dJ26_getChars_31 e2 ?_
    refine j_istore_n (lv' := [(3, vI (x0 / (100 : Int32))), (0, vI x0), (2, vR x2), (5, vI x5), (6, vI x6)]) dJ26_getChars_32 rfl (Nat.le_of_ble_eq_true rfl) rfl ?_
    refine j_iload_n (j := 0) dJ26_getChars_33 rfl rfl ?_
    refine j_bipush (v := 100) dJ26_getChars_34 (by decide) ?_
    refine j_imul dJ26_getChars_36 ?_
    refine j_iload_n (j := 1) dJ26_getChars_37 rfl rfl ?_
    refine j_isub dJ26_getChars_38 ?_
    refine j_istore (lv' := [(4, vI (((x0 / (100 : Int32)) * 100) - x0)), (3, vI (x0 / (100 : Int32))), (0, vI x0), (2, vR x2), (5, vI x5), (6, vI x6)]) dJ26_getChars_39 (Nat.le_of_ble_eq_true rfl) rfl ?_
    refine j_iload_n (j := 1) dJ26_getChars_41 rfl rfl ?_
    refine j_istore_n (lv' := [(0, vI (x0 / (100 : Int32))), (4, vI (((x0 / (100 : Int32)) * 100) - x0)), (3, vI (x0 / (100 : Int32))), (2, vR x2), (5, vI x5), (6, vI x6)]) dJ26_getChars_42 rfl (Nat.le_of_ble_eq_true rfl) rfl ?_
    refine j_aload_n (j := 3) dJ26_getChars_43 rfl rfl ?_
    refine j_iinc (j := 4) (v := (x5 + (-1))) (lv' := [(5, vI (x5 + (-1))), (0, vI (x0 / (100 : Int32))), (4, vI (((x0 / (100 : Int32)) * 100) - x0)), (3, vI (x0 / (100 : Int32))), (2, vR x2), (6, vI x6)]) dJ26_getChars_44 rfl rfl (Nat.le_of_ble_eq_true rfl) rfl ?_
    refine j_iload (j := 0) dJ26_getChars_47 rfl ?_
    cases h
theorem wflJ26_getChars_22 {F : zF} (hd : 1 ≤ F.2.2.2) (x0 : Int32) (x2 : Option Nat) (x5 : Int32) (x6 : Int32) (G : GS) {a : (Int32) × GS} (h : flJ26_getChars_22 x0 x2 x5 x6 G = some a) (hk : zKI F a) : J mJ26_getChars F G 22 [(0, vI x0), (2, vR x2), (5, vI x5), (6, vI x6)] [] := by
  unfold flJ26_getChars_22 at h
  exact zloop_walk (P := (fun s : Int32 × Int32 × GS => J mJ26_getChars F s.2.2 22 [(0, vI s.1), (2, vR x2), (5, vI s.2.1), (6, vI x6)] [])) (fun s b e hk => wfbJ26_getChars_22 hd s.1 x2 s.2.1 x6 s.2.2 e hk) (x0, x5, G) _ h hk
def fJ26_getChars_12 (x0 : Int32) (x2 : Option Nat) (x5 : Int32) (s0 : Int32) (G : GS) : Option ((Int32) × GS) :=
  if s0 = 0 then (flJ26_getChars_22 (-x0) x2 x5 s0 G) else (flJ26_getChars_22 x0 x2 x5 s0 G)
theorem wfJ26_getChars_12 {F : zF} (hd : 1 ≤ F.2.2.2) (x0 : Int32) (x2 : Option Nat) (x5 : Int32) (s0 : Int32) (G : GS) {a : (Int32) × GS} (h : fJ26_getChars_12 x0 x2 x5 s0 G = some a) (hk : zKI F a) : J mJ26_getChars F G 12 [(0, vI x0), (2, vR x2), (5, vI x5)] [vI s0] := by
  unfold fJ26_getChars_12 at h
  refine j_istore (lv' := [(6, vI s0), (0, vI x0), (2, vR x2), (5, vI x5)]) dJ26_getChars_12 (Nat.le_of_ble_eq_true rfl) rfl ?_
  refine j_iload (j := 0) dJ26_getChars_14 rfl ?_
  refine j_if_ne (tgt := 22) dJ26_getChars_16 (by decide) (fun c1 => ?_) (fun c1 => ?_)
  · rw [if_pos c1] at h
    refine j_iload_n (j := 1) dJ26_getChars_19 rfl rfl ?_
    refine j_ineg dJ26_getChars_20 ?_
    refine j_istore_n (lv' := [(0, vI (-x0)), (6, vI s0), (2, vR x2), (5, vI x5)]) dJ26_getChars_21 rfl (Nat.le_of_ble_eq_true rfl) rfl ?_
    exact J.sub (zall [0, 2, 3, 1] rfl) (wflJ26_getChars_22 hd (-x0) x2 x5 s0  G h hk)
  · rw [if_neg c1] at h
    exact J.sub (zall [1, 2, 3, 0] rfl) (wflJ26_getChars_22 hd x0 x2 x5 s0  G h hk)
def fJ26_getChars_0 (x0 : Int32) (x1 : Int32) (x2 : Option Nat)  (G : GS) : Option ((Int32) × GS) :=
  if 0 ≤ x0 then (fJ26_getChars_12 x0 x2 x1 0 G) else (fJ26_getChars_12 x0 x2 x1 1 G)
theorem wfJ26_getChars_0 {F : zF} (hd : 1 ≤ F.2.2.2) (x0 : Int32) (x1 : Int32) (x2 : Option Nat)  (G : GS) {a : (Int32) × GS} (h : fJ26_getChars_0 x0 x1 x2  G = some a) (hk : zKI F a) : J mJ26_getChars F G 0 [(0, vI x0), (1, vI x1), (2, vR x2)] [] := by
  unfold fJ26_getChars_0 at h
  refine j_iload_n (j := 1) dJ26_getChars_0 rfl rfl ?_
  refine j_istore (lv' := [(5, vI x1), (0, vI x0), (1, vI x1), (2, vR x2)]) dJ26_getChars_1 (Nat.le_of_ble_eq_true rfl) rfl ?_
  refine j_iload_n (j := 1) dJ26_getChars_3 rfl rfl ?_
  refine j_if_ge (tgt := 11) dJ26_getChars_4 (by decide) (fun c1 => ?_) (fun c1 => ?_)
  · rw [if_pos c1] at h
    refine j_iconst (v := 0) dJ26_getChars_11 (by decide) ?_
    exact J.sub (zall [1, 3, 0] rfl) (wfJ26_getChars_12 hd x0 x2 x1 0 G h hk)
  · rw [if_neg c1] at h
    refine j_iconst (v := 1) dJ26_getChars_7 (by decide) ?_
    refine j_goto (tgt := 12) dJ26_getChars_8 (by decide) ?_
    exact J.sub (zall [1, 3, 0] rfl) (wfJ26_getChars_12 hd x0 x2 x1 1 G h hk)
theorem yJ26_getChars_ok {x0 : Int32} {x1 : Int32} {x2 : Option Nat} {G : GS} {r : Int32} {G1 : GS} (h : fJ26_getChars_0 x0 x1 x2 G = some (r, G1)) : zRuns yJ26_getChars (ws_ yJ26_getChars cJ26_getChars 7 (some Jvm.ClassFile.FieldType.int)) [vI x0, vI x1, vR x2] (.inl (some (vI r)), G, G1, 1) :=
  zentry (M := mJ26_getChars) (plainFor_of_name (by decide +kernel)) ⟨rfl, rfl, rfl, rfl⟩ (Nat.le_of_ble_eq_true rfl) (wfJ26_getChars_0 (Nat.le_refl _) x0 x1 x2 G h ⟨rfl, rfl⟩)
abbrev mJ6_getChars_2 : zM := (cJ6_getChars_2, RJ6, 7, (some Jvm.ClassFile.FieldType.int), "getChars", [], "(II[B)I")
def fJ6_getChars_2_76 (x0 : Int32) (x2 : Option Nat) (x5 : Int32) (x6 : Int32)  (G : GS) : Option ((Int32) × GS) :=
  none
theorem wfJ6_getChars_2_76 {F : zF} (hd : 3 ≤ F.2.2.2) (x0 : Int32) (x2 : Option Nat) (x5 : Int32) (x6 : Int32)  (G : GS) {a : (Int32) × GS} (h : fJ6_getChars_2_76 x0 x2 x5 x6  G = some a) (hk : zKI F a) : J mJ6_getChars_2 F G 76 [(0, vI x0), (2, vR x2), (5, vI x5), (6, vI x6)] [] := by
  unfold fJ6_getChars_2_76 at h
  refine j_aload_n (j := 1) dJ6_getChars_2_76 rfl rfl ?_
  refine j_iinc (j := 2) (v := (x5 + (-1))) (lv' := [(5, vI (x5 + (-1))), (0, vI x0), (2, vR x2), (6, vI x6)]) dJ6_getChars_2_77 rfl rfl (Nat.le_of_ble_eq_true rfl) rfl ?_
  refine j_iload (j := 0) dJ6_getChars_2_80 rfl ?_
  cases h
def fbJ6_getChars_2_22 (x0 : Int32) (x2 : Option Nat) (x5 : Int32) (x6 : Int32)  (G : GS) : Option ((Int32 × Int32 × GS) ⊕ ((Int32) × GS)) :=
  if (-100) < x0 then (zo (fJ6_getChars_2_76 x0 x2 x5 x6 G)) else (zcond (¬ (100 : Int32) = 0) (none))
def flJ6_getChars_2_22 (x0 : Int32) (x2 : Option Nat) (x5 : Int32) (x6 : Int32) (G : GS) : Option ((Int32) × GS) := zloop (fun s : Int32 × Int32 × GS => fbJ6_getChars_2_22 s.1 x2 s.2.1 x6 s.2.2) (x0, x5, G)
theorem wfbJ6_getChars_2_22 {F : zF} (hd : 3 ≤ F.2.2.2) (x0 : Int32) (x2 : Option Nat) (x5 : Int32) (x6 : Int32) (G : GS) {a : (Int32 × Int32 × GS) ⊕ ((Int32) × GS)} (h : fbJ6_getChars_2_22 x0 x2 x5 x6 G = some a) (hk : (zcase (fun s : Int32 × Int32 × GS => J mJ6_getChars_2 F s.2.2 22 [(0, vI s.1), (2, vR x2), (5, vI s.2.1), (6, vI x6)] []) (zKI F)) a) : J mJ6_getChars_2 F G 22 [(0, vI x0), (2, vR x2), (5, vI x5), (6, vI x6)] [] := by
  unfold fbJ6_getChars_2_22 at h
  refine j_iload_n (j := 0) dJ6_getChars_2_22 rfl rfl ?_
  refine j_bipush (v := (-100)) dJ6_getChars_2_23 (by decide) ?_
  refine j_icmp_gt (tgt := 76) dJ6_getChars_2_25 (by decide) (fun c1 => ?_) (fun c1 => ?_)
  · rw [if_pos c1] at h
    replace h := zoE h
    obtain ⟨a, h, rfl⟩ := h
    replace hk := hk
    exact J.sub (zall [0, 1, 2, 3] rfl) (wfJ6_getChars_2_76 hd x0 x2 x5 x6  G h hk)
  · rw [if_neg c1] at h
    refine j_iload_n (j := 0) dJ6_getChars_2_28 rfl rfl ?_
    refine j_bipush (v := 100) dJ6_getChars_2_29 (by decide) ?_
    replace h := zcondE h
    obtain ⟨e2, h⟩ := h
    refine j_idiv dJ6_getChars_2_31 e2 ?_
    refine j_istore_n (lv' := [(3, vI (x0 / (100 : Int32))), (0, vI x0), (2, vR x2), (5, vI x5), (6, vI x6)]) dJ6_getChars_2_32 rfl (Nat.le_of_ble_eq_true rfl) rfl ?_
    refine j_iload_n (j := 0) dJ6_getChars_2_33 rfl rfl ?_
    refine j_bipush (v := 100) dJ6_getChars_2_34 (by decide) ?_
    refine j_imul dJ6_getChars_2_36 ?_
    refine j_iload_n (j := 1) dJ6_getChars_2_37 rfl rfl ?_
    refine j_isub dJ6_getChars_2_38 ?_
    refine j_istore (lv' := [(4, vI (((x0 / (100 : Int32)) * 100) - x0)), (3, vI (x0 / (100 : Int32))), (0, vI x0), (2, vR x2), (5, vI x5), (6, vI x6)]) dJ6_getChars_2_39 (Nat.le_of_ble_eq_true rfl) rfl ?_
    refine j_iload_n (j := 1) dJ6_getChars_2_41 rfl rfl ?_
    refine j_istore_n (lv' := [(0, vI (x0 / (100 : Int32))), (4, vI (((x0 / (100 : Int32)) * 100) - x0)), (3, vI (x0 / (100 : Int32))), (2, vR x2), (5, vI x5), (6, vI x6)]) dJ6_getChars_2_42 rfl (Nat.le_of_ble_eq_true rfl) rfl ?_
    refine j_aload_n (j := 3) dJ6_getChars_2_43 rfl rfl ?_
    refine j_iinc (j := 4) (v := (x5 + (-1))) (lv' := [(5, vI (x5 + (-1))), (0, vI (x0 / (100 : Int32))), (4, vI (((x0 / (100 : Int32)) * 100) - x0)), (3, vI (x0 / (100 : Int32))), (2, vR x2), (6, vI x6)]) dJ6_getChars_2_44 rfl rfl (Nat.le_of_ble_eq_true rfl) rfl ?_
    refine j_iload (j := 0) dJ6_getChars_2_47 rfl ?_
    cases h
theorem wflJ6_getChars_2_22 {F : zF} (hd : 3 ≤ F.2.2.2) (x0 : Int32) (x2 : Option Nat) (x5 : Int32) (x6 : Int32) (G : GS) {a : (Int32) × GS} (h : flJ6_getChars_2_22 x0 x2 x5 x6 G = some a) (hk : zKI F a) : J mJ6_getChars_2 F G 22 [(0, vI x0), (2, vR x2), (5, vI x5), (6, vI x6)] [] := by
  unfold flJ6_getChars_2_22 at h
  exact zloop_walk (P := (fun s : Int32 × Int32 × GS => J mJ6_getChars_2 F s.2.2 22 [(0, vI s.1), (2, vR x2), (5, vI s.2.1), (6, vI x6)] [])) (fun s b e hk => wfbJ6_getChars_2_22 hd s.1 x2 s.2.1 x6 s.2.2 e hk) (x0, x5, G) _ h hk
def fJ6_getChars_2_12 (x0 : Int32) (x2 : Option Nat) (x5 : Int32) (s0 : Int32) (G : GS) : Option ((Int32) × GS) :=
  if s0 = 0 then (flJ6_getChars_2_22 (-x0) x2 x5 s0 G) else (flJ6_getChars_2_22 x0 x2 x5 s0 G)
theorem wfJ6_getChars_2_12 {F : zF} (hd : 3 ≤ F.2.2.2) (x0 : Int32) (x2 : Option Nat) (x5 : Int32) (s0 : Int32) (G : GS) {a : (Int32) × GS} (h : fJ6_getChars_2_12 x0 x2 x5 s0 G = some a) (hk : zKI F a) : J mJ6_getChars_2 F G 12 [(0, vI x0), (2, vR x2), (5, vI x5)] [vI s0] := by
  unfold fJ6_getChars_2_12 at h
  refine j_istore (lv' := [(6, vI s0), (0, vI x0), (2, vR x2), (5, vI x5)]) dJ6_getChars_2_12 (Nat.le_of_ble_eq_true rfl) rfl ?_
  refine j_iload (j := 0) dJ6_getChars_2_14 rfl ?_
  refine j_if_ne (tgt := 22) dJ6_getChars_2_16 (by decide) (fun c1 => ?_) (fun c1 => ?_)
  · rw [if_pos c1] at h
    refine j_iload_n (j := 1) dJ6_getChars_2_19 rfl rfl ?_
    refine j_ineg dJ6_getChars_2_20 ?_
    refine j_istore_n (lv' := [(0, vI (-x0)), (6, vI s0), (2, vR x2), (5, vI x5)]) dJ6_getChars_2_21 rfl (Nat.le_of_ble_eq_true rfl) rfl ?_
    exact J.sub (zall [0, 2, 3, 1] rfl) (wflJ6_getChars_2_22 hd (-x0) x2 x5 s0  G h hk)
  · rw [if_neg c1] at h
    exact J.sub (zall [1, 2, 3, 0] rfl) (wflJ6_getChars_2_22 hd x0 x2 x5 s0  G h hk)
def fJ6_getChars_2_0 (x0 : Int32) (x1 : Int32) (x2 : Option Nat)  (G : GS) : Option ((Int32) × GS) :=
  if 0 ≤ x0 then (fJ6_getChars_2_12 x0 x2 x1 0 G) else (fJ6_getChars_2_12 x0 x2 x1 1 G)
theorem wfJ6_getChars_2_0 {F : zF} (hd : 3 ≤ F.2.2.2) (x0 : Int32) (x1 : Int32) (x2 : Option Nat)  (G : GS) {a : (Int32) × GS} (h : fJ6_getChars_2_0 x0 x1 x2  G = some a) (hk : zKI F a) : J mJ6_getChars_2 F G 0 [(0, vI x0), (1, vI x1), (2, vR x2)] [] := by
  unfold fJ6_getChars_2_0 at h
  refine j_iload_n (j := 1) dJ6_getChars_2_0 rfl rfl ?_
  refine j_istore (lv' := [(5, vI x1), (0, vI x0), (1, vI x1), (2, vR x2)]) dJ6_getChars_2_1 (Nat.le_of_ble_eq_true rfl) rfl ?_
  refine j_iload_n (j := 1) dJ6_getChars_2_3 rfl rfl ?_
  refine j_if_ge (tgt := 11) dJ6_getChars_2_4 (by decide) (fun c1 => ?_) (fun c1 => ?_)
  · rw [if_pos c1] at h
    refine j_iconst (v := 0) dJ6_getChars_2_11 (by decide) ?_
    exact J.sub (zall [1, 3, 0] rfl) (wfJ6_getChars_2_12 hd x0 x2 x1 0 G h hk)
  · rw [if_neg c1] at h
    refine j_iconst (v := 1) dJ6_getChars_2_7 (by decide) ?_
    refine j_goto (tgt := 12) dJ6_getChars_2_8 (by decide) ?_
    exact J.sub (zall [1, 3, 0] rfl) (wfJ6_getChars_2_12 hd x0 x2 x1 1 G h hk)
theorem yJ6_getChars_2_ok {x0 : Int32} {x1 : Int32} {x2 : Option Nat} {G : GS} {r : Int32} {G1 : GS} (h : fJ6_getChars_2_0 x0 x1 x2 G = some (r, G1)) : zRuns yJ6_getChars_2 (ws_ yJ6_getChars_2 cJ6_getChars_2 7 (some Jvm.ClassFile.FieldType.int)) [vI x0, vI x1, vR x2] (.inl (some (vI r)), G, G1, 3) :=
  zentry (M := mJ6_getChars_2) (plainFor_of_name (by decide +kernel)) ⟨rfl, rfl, rfl, rfl⟩ (Nat.le_of_ble_eq_true rfl) (wfJ6_getChars_2_0 (Nat.le_refl _) x0 x1 x2 G h ⟨rfl, rfl⟩)
theorem msJ6_393 : zSS RJ6 393 yJ6_getChars_2 cJ6_getChars_2 7 (some Jvm.ClassFile.FieldType.int) 3 := ⟨lw_S q2044 q2045 q130 q2046, (by decide +kernel), (by decide)⟩
abbrev mJ6_getChars : zM := (cJ6_getChars, RJ6, 5, (some Jvm.ClassFile.FieldType.int), "getChars", [], "(III[B)I")
def fJ6_getChars_0 (x0 : Int32) (x1 : Int32) (x2 : Int32) (x3 : Option Nat)  (G : GS) : Option ((Int32) × GS) :=
  (fJ6_checkBoundsBeginEnd_0 x1 x2 x3 G).bind fun G2 => zb2 (fJ6_getChars_2_0 x0 x2 x3 G2) fun v4 G5 => none
theorem wfJ6_getChars_0 {F : zF} (hd : 4 ≤ F.2.2.2) (x0 : Int32) (x1 : Int32) (x2 : Int32) (x3 : Option Nat)  (G : GS) {a : (Int32) × GS} (h : fJ6_getChars_0 x0 x1 x2 x3  G = some a) (hk : zKI F a) : J mJ6_getChars F G 0 [(0, vI x0), (1, vI x1), (2, vI x2), (3, vR x3)] [] := by
  unfold fJ6_getChars_0 at h
  refine j_iload_n (j := 1) dJ6_getChars_0 rfl rfl ?_
  refine j_iload_n (j := 2) dJ6_getChars_1 rfl rfl ?_
  refine j_aload_n (j := 3) dJ6_getChars_2 rfl rfl ?_
  replace h := zbE h
  obtain ⟨G2, e1, h⟩ := h
  refine j_cont (zrS (As := [vI x1, vI x2, vR x3]) msJ6_96 (yJ6_checkBoundsBeginEnd_ok e1) (Nat.le_trans (Nat.le_of_ble_eq_true rfl) hd) rfl rfl (Nat.le_of_ble_eq_true rfl) dJ6_getChars_3) ?_
  refine j_iload_n (j := 0) dJ6_getChars_6 rfl rfl ?_
  refine j_iload_n (j := 2) dJ6_getChars_7 rfl rfl ?_
  refine j_aload_n (j := 3) dJ6_getChars_8 rfl rfl ?_
  replace h := zb2E h
  obtain ⟨v4, G5, e3, h⟩ := h
  refine j_cont (zrS (As := [vI x0, vI x2, vR x3]) msJ6_393 (yJ6_getChars_2_ok e3) (Nat.le_trans (Nat.le_of_ble_eq_true rfl) hd) rfl rfl (Nat.le_of_ble_eq_true rfl) dJ6_getChars_9) ?_
  refine j_istore (lv' := [(4, vI v4), (0, vI x0), (1, vI x1), (2, vI x2), (3, vR x3)]) dJ6_getChars_12 (Nat.le_of_ble_eq_true rfl) rfl ?_
  cases h
theorem yJ6_getChars_ok {x0 : Int32} {x1 : Int32} {x2 : Int32} {x3 : Option Nat} {G : GS} {r : Int32} {G1 : GS} (h : fJ6_getChars_0 x0 x1 x2 x3 G = some (r, G1)) : zRuns yJ6_getChars (ws_ yJ6_getChars cJ6_getChars 5 (some Jvm.ClassFile.FieldType.int)) [vI x0, vI x1, vI x2, vR x3] (.inl (some (vI r)), G, G1, 4) :=
  zentry (M := mJ6_getChars) (plainFor_of_name (by decide +kernel)) ⟨rfl, rfl, rfl, rfl⟩ (Nat.le_of_ble_eq_true rfl) (wfJ6_getChars_0 (Nat.le_refl _) x0 x1 x2 x3 G h ⟨rfl, rfl⟩)
theorem msJ3_245 : zSS RJ3 245 yJ26_stringSize cJ26_stringSize 4 (some Jvm.ClassFile.FieldType.int) 1 := ⟨lw_S q2007 q2008 q156 q2009, (by decide +kernel), (by decide)⟩
theorem msJ3_248 : zSS RJ3 248 yJ26_getChars cJ26_getChars 7 (some Jvm.ClassFile.FieldType.int) 3 := ⟨lw_S q2028 q2029 q156 q2030, (by decide +kernel), (by decide)⟩
theorem msJ3_251 : zSS RJ3 251 yJ6_getChars cJ6_getChars 5 (some Jvm.ClassFile.FieldType.int) 4 := ⟨lw_S q2035 q2036 q130 q2037, (by decide +kernel), (by decide)⟩
abbrev mJ3_append : zM := (cJ3_append, RJ3, 4, (some (Jvm.ClassFile.FieldType.object "java/lang/AbstractStringBuilder")), "append", [], "(I)Ljava/lang/AbstractStringBuilder;")
def fJ3_append_48 (t : Nat) (x3 : Int32)  (G : GS) : Option ((Option Nat) × GS) :=
  (zpI G 22 t 3 x3).bind fun G1 => some ((some t), G1)
theorem wfJ3_append_48 {F : zF} (hd : 5 ≤ F.2.2.2) (t : Nat) (x3 : Int32)  (G : GS) {a : (Option Nat) × GS} (h : fJ3_append_48 t x3  G = some a) (hk : zKR F a) : J mJ3_append F G 48 [(0, vR (some t)), (3, vI x3)] [] := by
  unfold fJ3_append_48 at h
  refine j_aload_n (j := 0) dJ3_append_48 rfl rfl ?_
  refine j_iload_n (j := 1) dJ3_append_49 rfl rfl ?_
  replace h := zbE h
  obtain ⟨G1, e2, h⟩ := h
  refine j_putI fpJ3_79_J4 (Or.inl rfl) rfl dJ3_append_50 e2 ?_
  refine j_aload_n (j := 0) dJ3_append_53 rfl rfl ?_
  obtain rfl := Option.some.inj h
  exact j_aret hk.1 hk.2 rfl (Or.inl ⟨_, rfl⟩) dJ3_append_54
def fJ3_append_0 (t : Nat) (x1 : Int32)  (G : GS) : Option ((Option Nat) × GS) :=
  (zgI G 22 t 3).bind fun v1 => (fJ26_stringSize_0 x1 G).bind fun v4 => zk [22] G t <| (fJ3_ensureCapacityInternal_0 t (v1 + v4) G).bind fun G7 => zk [22] G7 t <| (fJ3_isLatin1_0 t G7).bind fun v10 => if v10 = 0 then ((zgR G7 22 t 0).bind fun r12 => zb2 (fJ6_getChars_0 x1 v1 (v1 + v4) r12 G7) fun v15 G16 => fJ3_append_48 t (v1 + v4) G16) else ((zgR G7 22 t 0).bind fun r17 => zb2 (fJ26_getChars_0 x1 (v1 + v4) r17 G7) fun v20 G21 => fJ3_append_48 t (v1 + v4) G21)
theorem wfJ3_append_0 {F : zF} (hd : 5 ≤ F.2.2.2) (t : Nat) (x1 : Int32)  (G : GS) {a : (Option Nat) × GS} (h : fJ3_append_0 t x1  G = some a) (hk : zKR F a) : J mJ3_append F G 0 [(0, vR (some t)), (1, vI x1)] [] := by
  unfold fJ3_append_0 at h
  refine j_aload_n (j := 0) dJ3_append_0 rfl rfl ?_
  replace h := zbE h
  obtain ⟨v1, e2, h⟩ := h
  refine j_getI fgJ3_79 (fun _ _ _ => rfl) dJ3_append_1 e2 ?_
  refine j_istore_n (lv' := [(2, vI v1), (0, vR (some t)), (1, vI x1)]) dJ3_append_4 rfl (Nat.le_of_ble_eq_true rfl) rfl ?_
  refine j_iload_n (j := 0) dJ3_append_5 rfl rfl ?_
  refine j_iload_n (j := 2) dJ3_append_6 rfl rfl ?_
  replace h := zbE h
  obtain ⟨v4, e3, h⟩ := h
  refine j_cont (zrS (As := [vI x1]) msJ3_245 (yJ26_stringSize_ok e3) (Nat.le_trans (Nat.le_of_ble_eq_true rfl) hd) rfl rfl (Nat.le_of_ble_eq_true rfl) dJ3_append_7) ?_
  refine j_iadd dJ3_append_10 ?_
  refine j_istore_n (lv' := [(3, vI (v1 + v4)), (2, vI v1), (0, vR (some t)), (1, vI x1)]) dJ3_append_11 rfl (Nat.le_of_ble_eq_true rfl) rfl ?_
  refine j_aload_n (j := 2) dJ3_append_12 rfl rfl ?_
  refine j_iload_n (j := 0) dJ3_append_13 rfl rfl ?_
  replace h := zkE h
  obtain ⟨e5, h⟩ := h
  replace h := zbE h
  obtain ⟨G7, e6, h⟩ := h
  refine j_cont (zrP (As := [vI (v1 + v4)]) msJ3_100_J4 (yJ3_ensureCapacityInternal_ok e6) (Nat.le_trans (Nat.le_of_ble_eq_true rfl) hd) (zk_22 _ e5) rfl rfl (Nat.le_of_ble_eq_true rfl) dJ3_append_14) ?_
  refine j_aload_n (j := 2) dJ3_append_17 rfl rfl ?_
  replace h := zkE h
  obtain ⟨e8, h⟩ := h
  replace h := zbE h
  obtain ⟨v10, e9, h⟩ := h
  refine j_cont (zrU (As := []) msJ3_83_J4 (yJ3_isLatin1_ok e9) (Nat.le_trans (Nat.le_of_ble_eq_true rfl) hd) (zk_22 _ e8) rfl rfl (Nat.le_of_ble_eq_true rfl) dJ3_append_18) ?_
  refine j_if_eq (tgt := 37) dJ3_append_21 (by decide) (fun c11 => ?_) (fun c11 => ?_)
  · rw [if_pos c11] at h
    refine j_iload_n (j := 3) dJ3_append_37 rfl rfl ?_
    refine j_iload_n (j := 1) dJ3_append_38 rfl rfl ?_
    refine j_iload_n (j := 0) dJ3_append_39 rfl rfl ?_
    refine j_aload_n (j := 2) dJ3_append_40 rfl rfl ?_
    replace h := zbE h
    obtain ⟨r12, e13, h⟩ := h
    refine j_getR fgJ3_15 (fun _ _ _ => rfl) dJ3_append_41 e13 ?_
    replace h := zb2E h
    obtain ⟨v15, G16, e14, h⟩ := h
    refine j_cont (zrS (As := [vI x1, vI v1, vI (v1 + v4), vR r12]) msJ3_251 (yJ6_getChars_ok e14) (Nat.le_trans (Nat.le_of_ble_eq_true rfl) hd) rfl rfl (Nat.le_of_ble_eq_true rfl) dJ3_append_44) ?_
    refine j_pop dJ3_append_47 rfl ?_
    exact J.sub (zall [2, 0] rfl) (wfJ3_append_48 hd t (v1 + v4)  G16 h hk)
  · rw [if_neg c11] at h
    refine j_iload_n (j := 3) dJ3_append_24 rfl rfl ?_
    refine j_iload_n (j := 0) dJ3_append_25 rfl rfl ?_
    refine j_aload_n (j := 2) dJ3_append_26 rfl rfl ?_
    replace h := zbE h
    obtain ⟨r17, e18, h⟩ := h
    refine j_getR fgJ3_15 (fun _ _ _ => rfl) dJ3_append_27 e18 ?_
    replace h := zb2E h
    obtain ⟨v20, G21, e19, h⟩ := h
    refine j_cont (zrS (As := [vI x1, vI (v1 + v4), vR r17]) msJ3_248 (yJ26_getChars_ok e19) (Nat.le_trans (Nat.le_of_ble_eq_true rfl) hd) rfl rfl (Nat.le_of_ble_eq_true rfl) dJ3_append_30) ?_
    refine j_pop dJ3_append_33 rfl ?_
    refine j_goto (tgt := 48) dJ3_append_34 (by decide) ?_
    exact J.sub (zall [2, 0] rfl) (wfJ3_append_48 hd t (v1 + v4)  G21 h hk)
theorem yJ3_append_ok {t : Nat} {x1 : Int32} {G : GS} {r : Option Nat} {G1 : GS} (h : fJ3_append_0 t x1 G = some (r, G1)) : zRuns yJ3_append (ws_ yJ3_append cJ3_append 4 (some (Jvm.ClassFile.FieldType.object "java/lang/AbstractStringBuilder"))) [vR (some t), vI x1] (.inl (some (vR r)), G, G1, 5) :=
  zentry (M := mJ3_append) (plainFor_of_name (by decide +kernel)) ⟨rfl, rfl, rfl, rfl⟩ (Nat.le_of_ble_eq_true rfl) (wfJ3_append_0 (Nat.le_refl _) t x1 G h ⟨rfl, rfl⟩)
theorem msJ4_53 : zSP RJ4 53 yJ3_append cJ3_append 4 (some (Jvm.ClassFile.FieldType.object "java/lang/AbstractStringBuilder")) 1 := ⟨lw_SP q2004 q3279 q243 q2005 q127 q2006, (by decide +kernel), (by decide)⟩
abbrev mJ4_append : zM := (cJ4_append, RJ4, 2, (some (Jvm.ClassFile.FieldType.object "java/lang/StringBuilder")), "append", [], "(I)Ljava/lang/StringBuilder;")
def fJ4_append_0 (t : Nat) (x1 : Int32)  (G : GS) : Option ((Option Nat) × GS) :=
  zk [22] G t <| zb2 (fJ3_append_0 t x1 G) fun r3 G4 => some ((some t), G4)
theorem wfJ4_append_0 {F : zF} (hd : 6 ≤ F.2.2.2) (t : Nat) (x1 : Int32)  (G : GS) {a : (Option Nat) × GS} (h : fJ4_append_0 t x1  G = some a) (hk : zKR F a) : J mJ4_append F G 0 [(0, vR (some t)), (1, vI x1)] [] := by
  unfold fJ4_append_0 at h
  refine j_aload_n (j := 0) dJ4_append_0 rfl rfl ?_
  refine j_iload_n (j := 1) dJ4_append_1 rfl rfl ?_
  replace h := zkE h
  obtain ⟨e1, h⟩ := h
  replace h := zb2E h
  obtain ⟨r3, G4, e2, h⟩ := h
  refine j_cont (zrSP (As := [vI x1]) msJ4_53 ⟨21, _, rfl, rfl⟩ (yJ3_append_ok e2) (Nat.le_trans (Nat.le_of_ble_eq_true rfl) hd) (zk_22 _ e1) rfl rfl (Nat.le_of_ble_eq_true rfl) dJ4_append_2) ?_
  refine j_pop dJ4_append_5 rfl ?_
  refine j_aload_n (j := 0) dJ4_append_6 rfl rfl ?_
  obtain rfl := Option.some.inj h
  exact j_aret hk.1 hk.2 rfl (Or.inl ⟨_, rfl⟩) dJ4_append_7
theorem yJ4_append_ok {t : Nat} {x1 : Int32} {G : GS} {r : Option Nat} {G1 : GS} (h : fJ4_append_0 t x1 G = some (r, G1)) : zRuns yJ4_append (ws_ yJ4_append cJ4_append 2 (some (Jvm.ClassFile.FieldType.object "java/lang/StringBuilder"))) [vR (some t), vI x1] (.inl (some (vR r)), G, G1, 6) :=
  zentry (M := mJ4_append) (plainFor_of_name (by decide +kernel)) ⟨rfl, rfl, rfl, rfl⟩ (Nat.le_of_ble_eq_true rfl) (wfJ4_append_0 (Nat.le_refl _) t x1 G h ⟨rfl, rfl⟩)
abbrev mJ3_getValue : zM := (cJ3_getValue, RJ3, 1, (some (Jvm.ClassFile.FieldType.array Jvm.ClassFile.FieldType.byte)), "getValue", [], "()[B")
def fJ3_getValue_0 (t : Nat)  (G : GS) : Option (Option Nat) :=
  (zgR G 22 t 0).bind fun r1 => some r1
theorem wfJ3_getValue_0 {F : zF} (hd : 1 ≤ F.2.2.2) (t : Nat)  (G : GS) {a : Option Nat} (h : fJ3_getValue_0 t  G = some a) (hk : zKPR F G a) : J mJ3_getValue F G 0 [(0, vR (some t))] [] := by
  unfold fJ3_getValue_0 at h
  refine j_aload_n (j := 0) dJ3_getValue_0 rfl rfl ?_
  replace h := zbE h
  obtain ⟨r1, e2, h⟩ := h
  refine j_getR fgJ3_15 (fun _ _ _ => rfl) dJ3_getValue_1 e2 ?_
  obtain rfl := Option.some.inj h
  exact j_aret hk.1 hk.2 rfl (Or.inr ⟨_, rfl⟩) dJ3_getValue_4
theorem yJ3_getValue_ok {t : Nat} {G : GS} {r : Option Nat} (h : fJ3_getValue_0 t G = some r) : zRuns yJ3_getValue (ws_ yJ3_getValue cJ3_getValue 1 (some (Jvm.ClassFile.FieldType.array Jvm.ClassFile.FieldType.byte))) [vR (some t)] (.inl (some (vR r)), G, G, 1) :=
  zentry (M := mJ3_getValue) (plainFor_of_name (by decide +kernel)) ⟨rfl, rfl, rfl, rfl⟩ (Nat.le_of_ble_eq_true rfl) (wfJ3_getValue_0 (Nat.le_refl _) t G h ⟨rfl, rfl⟩)
abbrev mJ15_checkLength : zM := (cJ15_checkLength, RJ15, 2, none, "checkLength", [], "(II)V")
def fJ15_checkLength_0 (x0 : Int32) (x1 : Int32)  (G : GS) : Option (GS) :=
  if x0 ≤ x1 then (some G) else none
theorem wfJ15_checkLength_0 {F : zF} (hd : 11 ≤ F.2.2.2) (x0 : Int32) (x1 : Int32)  (G : GS) {a : GS} (h : fJ15_checkLength_0 x0 x1  G = some a) (hk : zKV F a) : J mJ15_checkLength F G 0 [(0, vI x0), (1, vI x1)] [] := by
  unfold fJ15_checkLength_0 at h
  refine j_iload_n (j := 1) dJ15_checkLength_0 rfl rfl ?_
  refine j_iload_n (j := 0) dJ15_checkLength_1 rfl rfl ?_
  refine j_icmp_ge (tgt := 37) dJ15_checkLength_2 (by decide) (fun c1 => ?_) (fun c1 => ?_)
  · rw [if_pos c1] at h
    obtain rfl := Option.some.inj h
    exact j_vret hk.1 hk.2 rfl dJ15_checkLength_37
  · rw [if_neg c1] at h
    cases h
theorem yJ15_checkLength_ok {x0 : Int32} {x1 : Int32} {G : GS} {G1 : GS} (h : fJ15_checkLength_0 x0 x1 G = some G1) : zRuns yJ15_checkLength (ws_ yJ15_checkLength cJ15_checkLength 2 none) [vI x0, vI x1] (.inl none, G, G1, 11) :=
  zentry (M := mJ15_checkLength) (plainFor_of_name (by decide +kernel)) ⟨rfl, rfl, rfl, rfl⟩ (Nat.le_of_ble_eq_true rfl) (wfJ15_checkLength_0 (Nat.le_refl _) x0 x1 G h ⟨rfl, rfl⟩)
theorem msJ15_343 : zSS RJ15 343 yJ15_checkLength cJ15_checkLength 2 none 2 := ⟨lw_S q2130 q2131 q141 q2132, (by decide +kernel), (by decide)⟩
abbrev mJ15_copyOfRangeByte : zM := (cJ15_copyOfRangeByte, RJ15, 5, (some (Jvm.ClassFile.FieldType.array Jvm.ClassFile.FieldType.byte)), "copyOfRangeByte", [], "([BII)[B")
def fJ15_copyOfRangeByte_0 (x0 : Option Nat) (x1 : Int32) (x2 : Int32)  (G : GS) : Option ((Option Nat) × GS) :=
  (fJ15_checkLength_0 x1 x2 G).bind fun G2 => (zna G2 53 (x2 - x1)).bind fun G3 => x0.bind fun a5 => (zln G3 a5).bind fun v7 => (fJ14_min_0 (v7 - x1) (x2 - x1) G3).bind fun v10 => none
theorem wfJ15_copyOfRangeByte_0 {F : zF} (hd : 12 ≤ F.2.2.2) (x0 : Option Nat) (x1 : Int32) (x2 : Int32)  (G : GS) {a : (Option Nat) × GS} (h : fJ15_copyOfRangeByte_0 x0 x1 x2  G = some a) (hk : zKR F a) : J mJ15_copyOfRangeByte F G 0 [(0, vR x0), (1, vI x1), (2, vI x2)] [] := by
  unfold fJ15_copyOfRangeByte_0 at h
  refine j_iload_n (j := 1) dJ15_copyOfRangeByte_0 rfl rfl ?_
  refine j_iload_n (j := 2) dJ15_copyOfRangeByte_1 rfl rfl ?_
  replace h := zbE h
  obtain ⟨G2, e1, h⟩ := h
  refine j_cont (zrS (As := [vI x1, vI x2]) msJ15_343 (yJ15_checkLength_ok e1) (Nat.le_trans (Nat.le_of_ble_eq_true rfl) hd) rfl rfl (Nat.le_of_ble_eq_true rfl) dJ15_copyOfRangeByte_2) ?_
  refine j_iload_n (j := 2) dJ15_copyOfRangeByte_5 rfl rfl ?_
  refine j_iload_n (j := 1) dJ15_copyOfRangeByte_6 rfl rfl ?_
  refine j_isub dJ15_copyOfRangeByte_7 ?_
  refine j_istore_n (lv' := [(3, vI (x2 - x1)), (0, vR x0), (1, vI x1), (2, vI x2)]) dJ15_copyOfRangeByte_8 rfl (Nat.le_of_ble_eq_true rfl) rfl ?_
  refine j_iload_n (j := 0) dJ15_copyOfRangeByte_9 rfl rfl ?_
  replace h := zbE h
  obtain ⟨G3, e4, h⟩ := h
  refine j_newa (t := 3) (ty := .byte) rfl rfl q244 (fun _ _ _ e1 e2 e3 => by simp only [zfv, e1, e2, e3] <;> rfl) (by decide) (fun _ _ h => h) e4 dJ15_copyOfRangeByte_10 ?_
  refine j_astore (lv' := [(4, vR (some (gz G2))), (3, vI (x2 - x1)), (0, vR x0), (1, vI x1), (2, vI x2)]) dJ15_copyOfRangeByte_12 (Nat.le_of_ble_eq_true rfl) rfl ?_
  refine j_aload_n (j := 2) dJ15_copyOfRangeByte_14 rfl rfl ?_
  refine j_iload_n (j := 3) dJ15_copyOfRangeByte_15 rfl rfl ?_
  refine j_aload (j := 0) dJ15_copyOfRangeByte_16 rfl ?_
  refine j_iconst (v := 0) dJ15_copyOfRangeByte_18 (by decide) ?_
  refine j_aload_n (j := 2) dJ15_copyOfRangeByte_19 rfl rfl ?_
  replace h := zbE h
  obtain ⟨a5, e6, h⟩ := h
  subst e6
  replace h := zbE h
  obtain ⟨v7, e8, h⟩ := h
  refine j_alen e8 dJ15_copyOfRangeByte_20 ?_
  refine j_iload_n (j := 3) dJ15_copyOfRangeByte_21 rfl rfl ?_
  refine j_isub dJ15_copyOfRangeByte_22 ?_
  refine j_iload_n (j := 1) dJ15_copyOfRangeByte_23 rfl rfl ?_
  replace h := zbE h
  obtain ⟨v10, e9, h⟩ := h
  refine j_cont (zrS (As := [vI (v7 - x1), vI (x2 - x1)]) msJ15_304 (yJ14_min_ok e9) (Nat.le_trans (Nat.le_of_ble_eq_true rfl) hd) rfl rfl (Nat.le_of_ble_eq_true rfl) dJ15_copyOfRangeByte_24) ?_
  cases h
theorem yJ15_copyOfRangeByte_ok {x0 : Option Nat} {x1 : Int32} {x2 : Int32} {G : GS} {r : Option Nat} {G1 : GS} (h : fJ15_copyOfRangeByte_0 x0 x1 x2 G = some (r, G1)) : zRuns yJ15_copyOfRangeByte (ws_ yJ15_copyOfRangeByte cJ15_copyOfRangeByte 5 (some (Jvm.ClassFile.FieldType.array Jvm.ClassFile.FieldType.byte))) [vR x0, vI x1, vI x2] (.inl (some (vR r)), G, G1, 12) :=
  zentry (M := mJ15_copyOfRangeByte) (plainFor_of_name (by decide +kernel)) ⟨rfl, rfl, rfl, rfl⟩ (Nat.le_of_ble_eq_true rfl) (wfJ15_copyOfRangeByte_0 (Nat.le_refl _) x0 x1 x2 G h ⟨rfl, rfl⟩)
theorem msJ15_339 : zSS RJ15 339 yJ15_copyOfRangeByte cJ15_copyOfRangeByte 5 (some (Jvm.ClassFile.FieldType.array Jvm.ClassFile.FieldType.byte)) 3 := ⟨lw_S q2127 q2128 q141 q2129, (by decide +kernel), (by decide)⟩
abbrev mJ15_copyOfRange_2 : zM := (cJ15_copyOfRange_2, RJ15, 3, (some (Jvm.ClassFile.FieldType.array Jvm.ClassFile.FieldType.byte)), "copyOfRange", [], "([BII)[B")
def fJ15_copyOfRange_2_10 (x0 : Option Nat) (x1 : Int32) (x2 : Int32)  (G : GS) : Option ((Option Nat) × GS) :=
  zb2 (fJ15_copyOfRangeByte_0 x0 x1 x2 G) fun r2 G3 => some (r2, G3)
theorem wfJ15_copyOfRange_2_10 {F : zF} (hd : 13 ≤ F.2.2.2) (x0 : Option Nat) (x1 : Int32) (x2 : Int32)  (G : GS) {a : (Option Nat) × GS} (h : fJ15_copyOfRange_2_10 x0 x1 x2  G = some a) (hk : zKR F a) : J mJ15_copyOfRange_2 F G 10 [(0, vR x0), (1, vI x1), (2, vI x2)] [] := by
  unfold fJ15_copyOfRange_2_10 at h
  refine j_aload_n (j := 0) dJ15_copyOfRange_2_10 rfl rfl ?_
  refine j_iload_n (j := 1) dJ15_copyOfRange_2_11 rfl rfl ?_
  refine j_iload_n (j := 2) dJ15_copyOfRange_2_12 rfl rfl ?_
  replace h := zb2E h
  obtain ⟨r2, G3, e1, h⟩ := h
  refine j_cont (zrS (As := [vR x0, vI x1, vI x2]) msJ15_339 (yJ15_copyOfRangeByte_ok e1) (Nat.le_trans (Nat.le_of_ble_eq_true rfl) hd) rfl rfl (Nat.le_of_ble_eq_true rfl) dJ15_copyOfRange_2_13) ?_
  obtain rfl := Option.some.inj h
  exact j_aret hk.1 hk.2 rfl (Or.inr ⟨_, rfl⟩) dJ15_copyOfRange_2_16
def fJ15_copyOfRange_2_0 (x0 : Option Nat) (x1 : Int32) (x2 : Int32)  (G : GS) : Option ((Option Nat) × GS) :=
  if x1 = 0 then (x0.bind fun a2 => (zln G a2).bind fun v4 => if x2 = v4 then none else (fJ15_copyOfRange_2_10 (some a2) x1 x2 G)) else (fJ15_copyOfRange_2_10 x0 x1 x2 G)
theorem wfJ15_copyOfRange_2_0 {F : zF} (hd : 13 ≤ F.2.2.2) (x0 : Option Nat) (x1 : Int32) (x2 : Int32)  (G : GS) {a : (Option Nat) × GS} (h : fJ15_copyOfRange_2_0 x0 x1 x2  G = some a) (hk : zKR F a) : J mJ15_copyOfRange_2 F G 0 [(0, vR x0), (1, vI x1), (2, vI x2)] [] := by
  unfold fJ15_copyOfRange_2_0 at h
  refine j_iload_n (j := 1) dJ15_copyOfRange_2_0 rfl rfl ?_
  refine j_if_ne (tgt := 10) dJ15_copyOfRange_2_1 (by decide) (fun c1 => ?_) (fun c1 => ?_)
  · rw [if_pos c1] at h
    refine j_iload_n (j := 2) dJ15_copyOfRange_2_4 rfl rfl ?_
    refine j_aload_n (j := 0) dJ15_copyOfRange_2_5 rfl rfl ?_
    replace h := zbE h
    obtain ⟨a2, e3, h⟩ := h
    subst e3
    replace h := zbE h
    obtain ⟨v4, e5, h⟩ := h
    refine j_alen e5 dJ15_copyOfRange_2_6 ?_
    refine j_icmp_eq (tgt := 17) dJ15_copyOfRange_2_7 (by decide) (fun c6 => ?_) (fun c6 => ?_)
    · rw [if_pos c6] at h
      refine j_aload_n (j := 0) dJ15_copyOfRange_2_17 rfl rfl ?_
      cases h
    · rw [if_neg c6] at h
      exact J.sub (zall [0, 1, 2] rfl) (wfJ15_copyOfRange_2_10 hd (some a2) x1 x2  G h hk)
  · rw [if_neg c1] at h
    exact J.sub (zall [0, 1, 2] rfl) (wfJ15_copyOfRange_2_10 hd x0 x1 x2  G h hk)
theorem yJ15_copyOfRange_2_ok {x0 : Option Nat} {x1 : Int32} {x2 : Int32} {G : GS} {r : Option Nat} {G1 : GS} (h : fJ15_copyOfRange_2_0 x0 x1 x2 G = some (r, G1)) : zRuns yJ15_copyOfRange_2 (ws_ yJ15_copyOfRange_2 cJ15_copyOfRange_2 3 (some (Jvm.ClassFile.FieldType.array Jvm.ClassFile.FieldType.byte))) [vR x0, vI x1, vI x2] (.inl (some (vR r)), G, G1, 13) :=
  zentry (M := mJ15_copyOfRange_2) (plainFor_of_name (by decide +kernel)) ⟨rfl, rfl, rfl, rfl⟩ (Nat.le_of_ble_eq_true rfl) (wfJ15_copyOfRange_2_0 (Nat.le_refl _) x0 x1 x2 G h ⟨rfl, rfl⟩)
theorem msJ6_71 : zSS RJ6 71 yJ6_getChar cJ6_getChar 2 (some Jvm.ClassFile.FieldType.char) 2 := ⟨lw_S q905 q906 q130 q907, (by decide +kernel), (by decide)⟩
abbrev mJ6_compress_2 : zM := (cJ6_compress_2, RJ6, 7, (some Jvm.ClassFile.FieldType.int), "compress", [], "([BI[BII)I")
def fbJ6_compress_2_10 (x0 : Option Nat) (x1 : Int32) (x2 : Option Nat) (x3 : Int32) (x4 : Int32) (x5 : Int32)  (G : GS) : Option ((Int32 × Int32 × Int32 × GS) ⊕ ((Int32) × GS)) :=
  if x4 ≤ x5 then (zo (some (x4, G))) else (zb2 (fJ6_getChar_0 x0 x1 G) fun v3 G4 => if v3 ≤ 255 then (x2.bind fun a6 => (zsB G4 53 a6 x3 v3.toInt8.toInt32).bind fun G8 => some (.inl ((x1 + 1), (x3 + 1), (x5 + 1), G8))) else (zo (some (x5, G4))))
def flJ6_compress_2_10 (x0 : Option Nat) (x1 : Int32) (x2 : Option Nat) (x3 : Int32) (x4 : Int32) (x5 : Int32) (G : GS) : Option ((Int32) × GS) := zloop (fun s : Int32 × Int32 × Int32 × GS => fbJ6_compress_2_10 x0 s.1 x2 s.2.1 x4 s.2.2.1 s.2.2.2) (x1, x3, x5, G)
theorem wfbJ6_compress_2_10 {F : zF} (hd : 4 ≤ F.2.2.2) (x0 : Option Nat) (x1 : Int32) (x2 : Option Nat) (x3 : Int32) (x4 : Int32) (x5 : Int32) (G : GS) {a : (Int32 × Int32 × Int32 × GS) ⊕ ((Int32) × GS)} (h : fbJ6_compress_2_10 x0 x1 x2 x3 x4 x5 G = some a) (hk : (zcase (fun s : Int32 × Int32 × Int32 × GS => J mJ6_compress_2 F s.2.2.2 10 [(0, vR x0), (1, vI s.1), (2, vR x2), (3, vI s.2.1), (4, vI x4), (5, vI s.2.2.1)] []) (zKI F)) a) : J mJ6_compress_2 F G 10 [(0, vR x0), (1, vI x1), (2, vR x2), (3, vI x3), (4, vI x4), (5, vI x5)] [] := by
  unfold fbJ6_compress_2_10 at h
  refine j_iload (j := 5) dJ6_compress_2_10 rfl ?_
  refine j_iload (j := 4) dJ6_compress_2_12 rfl ?_
  refine j_icmp_ge (tgt := 53) dJ6_compress_2_14 (by decide) (fun c1 => ?_) (fun c1 => ?_)
  · rw [if_pos c1] at h
    replace h := zoE h
    obtain ⟨a, h, rfl⟩ := h
    replace hk := hk
    refine j_iload (j := 4) dJ6_compress_2_53 rfl ?_
    obtain rfl := Option.some.inj h
    exact j_iret hk.1 hk.2 rfl dJ6_compress_2_55
  · rw [if_neg c1] at h
    refine j_aload_n (j := 0) dJ6_compress_2_17 rfl rfl ?_
    refine j_iload_n (j := 1) dJ6_compress_2_18 rfl rfl ?_
    replace h := zb2E h
    obtain ⟨v3, G4, e2, h⟩ := h
    refine j_cont (zrS (As := [vR x0, vI x1]) msJ6_71 (yJ6_getChar_ok e2) (Nat.le_trans (Nat.le_of_ble_eq_true rfl) hd) rfl rfl (Nat.le_of_ble_eq_true rfl) dJ6_compress_2_19) ?_
    refine j_istore (lv' := [(6, vI v3), (0, vR x0), (1, vI x1), (2, vR x2), (3, vI x3), (4, vI x4), (5, vI x5)]) dJ6_compress_2_22 (Nat.le_of_ble_eq_true rfl) rfl ?_
    refine j_iload (j := 0) dJ6_compress_2_24 rfl ?_
    refine j_sipush (v := 255) dJ6_compress_2_26 (by decide) ?_
    refine j_icmp_le (tgt := 35) dJ6_compress_2_29 (by decide) (fun c5 => ?_) (fun c5 => ?_)
    · rw [if_pos c5] at h
      refine j_aload_n (j := 3) dJ6_compress_2_35 rfl rfl ?_
      refine j_iload_n (j := 4) dJ6_compress_2_36 rfl rfl ?_
      refine j_iload (j := 0) dJ6_compress_2_37 rfl ?_
      refine j_i2b dJ6_compress_2_39 ?_
      replace h := zbE h
      obtain ⟨a6, e7, h⟩ := h
      subst e7
      replace h := zbE h
      obtain ⟨G8, e9, h⟩ := h
      refine j_bast e9 dJ6_compress_2_40 ?_
      refine j_iinc (j := 2) (v := (x1 + 1)) (lv' := [(1, vI (x1 + 1)), (6, vI v3), (0, vR x0), (2, vR (some a6)), (3, vI x3), (4, vI x4), (5, vI x5)]) dJ6_compress_2_41 rfl rfl (Nat.le_of_ble_eq_true rfl) rfl ?_
      refine j_iinc (j := 4) (v := (x3 + 1)) (lv' := [(3, vI (x3 + 1)), (1, vI (x1 + 1)), (6, vI v3), (0, vR x0), (2, vR (some a6)), (4, vI x4), (5, vI x5)]) dJ6_compress_2_44 rfl rfl (Nat.le_of_ble_eq_true rfl) rfl ?_
      refine j_iinc (j := 6) (v := (x5 + 1)) (lv' := [(5, vI (x5 + 1)), (3, vI (x3 + 1)), (1, vI (x1 + 1)), (6, vI v3), (0, vR x0), (2, vR (some a6)), (4, vI x4)]) dJ6_compress_2_47 rfl rfl (Nat.le_of_ble_eq_true rfl) rfl ?_
      refine j_goto (tgt := 10) dJ6_compress_2_50 (by decide) ?_
      obtain rfl := Option.some.inj h
      exact J.sub (zall [4, 2, 5, 1, 6, 0] rfl) hk
    · rw [if_neg c5] at h
      replace h := zoE h
      obtain ⟨a, h, rfl⟩ := h
      replace hk := hk
      refine j_iload (j := 6) dJ6_compress_2_32 rfl ?_
      obtain rfl := Option.some.inj h
      exact j_iret hk.1 hk.2 rfl dJ6_compress_2_34
theorem wflJ6_compress_2_10 {F : zF} (hd : 4 ≤ F.2.2.2) (x0 : Option Nat) (x1 : Int32) (x2 : Option Nat) (x3 : Int32) (x4 : Int32) (x5 : Int32) (G : GS) {a : (Int32) × GS} (h : flJ6_compress_2_10 x0 x1 x2 x3 x4 x5 G = some a) (hk : zKI F a) : J mJ6_compress_2 F G 10 [(0, vR x0), (1, vI x1), (2, vR x2), (3, vI x3), (4, vI x4), (5, vI x5)] [] := by
  unfold flJ6_compress_2_10 at h
  exact zloop_walk (P := (fun s : Int32 × Int32 × Int32 × GS => J mJ6_compress_2 F s.2.2.2 10 [(0, vR x0), (1, vI s.1), (2, vR x2), (3, vI s.2.1), (4, vI x4), (5, vI s.2.2.1)] [])) (fun s b e hk => wfbJ6_compress_2_10 hd x0 s.1 x2 s.2.1 x4 s.2.2.1 s.2.2.2 e hk) (x1, x3, x5, G) _ h hk
def fJ6_compress_2_0 (x0 : Option Nat) (x1 : Int32) (x2 : Option Nat) (x3 : Int32) (x4 : Int32)  (G : GS) : Option ((Int32) × GS) :=
  (fJ6_checkBoundsOffCount_0 x1 x4 x0 G).bind fun G2 => flJ6_compress_2_10 x0 x1 x2 x3 x4 0 G2
theorem wfJ6_compress_2_0 {F : zF} (hd : 4 ≤ F.2.2.2) (x0 : Option Nat) (x1 : Int32) (x2 : Option Nat) (x3 : Int32) (x4 : Int32)  (G : GS) {a : (Int32) × GS} (h : fJ6_compress_2_0 x0 x1 x2 x3 x4  G = some a) (hk : zKI F a) : J mJ6_compress_2 F G 0 [(0, vR x0), (1, vI x1), (2, vR x2), (3, vI x3), (4, vI x4)] [] := by
  unfold fJ6_compress_2_0 at h
  refine j_iload_n (j := 1) dJ6_compress_2_0 rfl rfl ?_
  refine j_iload (j := 4) dJ6_compress_2_1 rfl ?_
  refine j_aload_n (j := 0) dJ6_compress_2_3 rfl rfl ?_
  replace h := zbE h
  obtain ⟨G2, e1, h⟩ := h
  refine j_cont (zrS (As := [vI x1, vI x4, vR x0]) msJ6_173 (yJ6_checkBoundsOffCount_ok e1) (Nat.le_trans (Nat.le_of_ble_eq_true rfl) hd) rfl rfl (Nat.le_of_ble_eq_true rfl) dJ6_compress_2_4) ?_
  refine j_iconst (v := 0) dJ6_compress_2_7 (by decide) ?_
  refine j_istore (lv' := [(5, vI 0), (0, vR x0), (1, vI x1), (2, vR x2), (3, vI x3), (4, vI x4)]) dJ6_compress_2_8 (Nat.le_of_ble_eq_true rfl) rfl ?_
  exact J.sub (zall [1, 2, 3, 4, 5, 0] rfl) (wflJ6_compress_2_10 hd x0 x1 x2 x3 x4 0  G2 h hk)
theorem yJ6_compress_2_ok {x0 : Option Nat} {x1 : Int32} {x2 : Option Nat} {x3 : Int32} {x4 : Int32} {G : GS} {r : Int32} {G1 : GS} (h : fJ6_compress_2_0 x0 x1 x2 x3 x4 G = some (r, G1)) : zRuns yJ6_compress_2 (ws_ yJ6_compress_2 cJ6_compress_2 7 (some Jvm.ClassFile.FieldType.int)) [vR x0, vI x1, vR x2, vI x3, vI x4] (.inl (some (vI r)), G, G1, 4) :=
  zentry (M := mJ6_compress_2) (plainFor_of_name (by decide +kernel)) ⟨rfl, rfl, rfl, rfl⟩ (Nat.le_of_ble_eq_true rfl) (wfJ6_compress_2_0 (Nat.le_refl _) x0 x1 x2 x3 x4 G h ⟨rfl, rfl⟩)
theorem msJ6_123 : zSS RJ6 123 yJ6_compress_2 cJ6_compress_2 7 (some Jvm.ClassFile.FieldType.int) 5 := ⟨lw_S q2140 q2141 q130 q2142, (by decide +kernel), (by decide)⟩
theorem msJ6_126 : zSS RJ6 126 yJ15_copyOfRange_2 cJ15_copyOfRange_2 3 (some (Jvm.ClassFile.FieldType.array Jvm.ClassFile.FieldType.byte)) 3 := ⟨lw_S q2143 q2125 q141 q2126, (by decide +kernel), (by decide)⟩
abbrev mJ6_compress : zM := (cJ6_compress, RJ6, 6, (some (Jvm.ClassFile.FieldType.array Jvm.ClassFile.FieldType.byte)), "compress", [], "([BII)[B")
def fJ6_compress_0 (x0 : Option Nat) (x1 : Int32) (x2 : Int32)  (G : GS) : Option ((Option Nat) × GS) :=
  (zna G 53 x2).bind fun G1 => zb2 (fJ6_compress_2_0 x0 x1 (some (gz G)) 0 x2 G1) fun v4 G5 => if v4 = x2 then (some ((some (gz G)), G5)) else (zb2 (fJ6_newBytesLength_0 (x1 + x2) G5) fun v8 G9 => zb2 (fJ15_copyOfRange_2_0 x0 (x1 <<< ((1 : Int32) &&& 31)) v8 G9) fun r11 G12 => zb2 (fJ6_getChar_0 r11 v4 G12) fun v14 G15 => if 255 < v14 then (some (r11, G15)) else (zb2 (fJ6_compress_2_0 r11 0 (some (gz G)) 0 x2 G15) fun v18 G19 => if v18 = x2 then (some ((some (gz G)), G19)) else (some (r11, G19))))
theorem wfJ6_compress_0 {F : zF} (hd : 14 ≤ F.2.2.2) (x0 : Option Nat) (x1 : Int32) (x2 : Int32)  (G : GS) {a : (Option Nat) × GS} (h : fJ6_compress_0 x0 x1 x2  G = some a) (hk : zKR F a) : J mJ6_compress F G 0 [(0, vR x0), (1, vI x1), (2, vI x2)] [] := by
  unfold fJ6_compress_0 at h
  refine j_iload_n (j := 2) dJ6_compress_0 rfl rfl ?_
  replace h := zbE h
  obtain ⟨G1, e2, h⟩ := h
  refine j_newa (t := 3) (ty := .byte) rfl rfl q244 (fun _ _ _ e1 e2 e3 => by simp only [zfv, e1, e2, e3] <;> rfl) (by decide) (fun _ _ h => h) e2 dJ6_compress_1 ?_
  refine j_astore_n (lv' := [(3, vR (some (gz G))), (0, vR x0), (1, vI x1), (2, vI x2)]) dJ6_compress_3 rfl (Nat.le_of_ble_eq_true rfl) rfl ?_
  refine j_aload_n (j := 1) dJ6_compress_4 rfl rfl ?_
  refine j_iload_n (j := 2) dJ6_compress_5 rfl rfl ?_
  refine j_aload_n (j := 0) dJ6_compress_6 rfl rfl ?_
  refine j_iconst (v := 0) dJ6_compress_7 (by decide) ?_
  refine j_iload_n (j := 3) dJ6_compress_8 rfl rfl ?_
  replace h := zb2E h
  obtain ⟨v4, G5, e3, h⟩ := h
  refine j_cont (zrS (As := [vR x0, vI x1, vR (some (gz G)), vI 0, vI x2]) msJ6_123 (yJ6_compress_2_ok e3) (Nat.le_trans (Nat.le_of_ble_eq_true rfl) hd) rfl rfl (Nat.le_of_ble_eq_true rfl) dJ6_compress_9) ?_
  refine j_istore (lv' := [(4, vI v4), (3, vR (some (gz G))), (0, vR x0), (1, vI x1), (2, vI x2)]) dJ6_compress_12 (Nat.le_of_ble_eq_true rfl) rfl ?_
  refine j_iload (j := 0) dJ6_compress_14 rfl ?_
  refine j_iload_n (j := 4) dJ6_compress_16 rfl rfl ?_
  refine j_icmp_eq (tgt := 64) dJ6_compress_17 (by decide) (fun c6 => ?_) (fun c6 => ?_)
  · rw [if_pos c6] at h
    refine j_aload_n (j := 1) dJ6_compress_64 rfl rfl ?_
    obtain rfl := Option.some.inj h
    exact j_aret hk.1 hk.2 rfl (Or.inr ⟨_, rfl⟩) dJ6_compress_65
  · rw [if_neg c6] at h
    refine j_aload_n (j := 2) dJ6_compress_20 rfl rfl ?_
    refine j_iload_n (j := 3) dJ6_compress_21 rfl rfl ?_
    refine j_iconst (v := 1) dJ6_compress_22 (by decide) ?_
    refine j_ishl dJ6_compress_23 ?_
    refine j_iload_n (j := 3) dJ6_compress_24 rfl rfl ?_
    refine j_iload_n (j := 4) dJ6_compress_25 rfl rfl ?_
    refine j_iadd dJ6_compress_26 ?_
    replace h := zb2E h
    obtain ⟨v8, G9, e7, h⟩ := h
    refine j_cont (zrS (As := [vI (x1 + x2)]) msJ6_11 (yJ6_newBytesLength_ok e7) (Nat.le_trans (Nat.le_of_ble_eq_true rfl) hd) rfl rfl (Nat.le_of_ble_eq_true rfl) dJ6_compress_27) ?_
    replace h := zb2E h
    obtain ⟨r11, G12, e10, h⟩ := h
    refine j_cont (zrS (As := [vR x0, vI (x1 <<< ((1 : Int32) &&& 31)), vI v8]) msJ6_126 (yJ15_copyOfRange_2_ok e10) (Nat.le_trans (Nat.le_of_ble_eq_true rfl) hd) rfl rfl (Nat.le_of_ble_eq_true rfl) dJ6_compress_30) ?_
    refine j_astore (lv' := [(5, vR r11), (4, vI v4), (3, vR (some (gz G))), (0, vR x0), (1, vI x1), (2, vI x2)]) dJ6_compress_33 (Nat.le_of_ble_eq_true rfl) rfl ?_
    refine j_aload (j := 0) dJ6_compress_35 rfl ?_
    refine j_iload (j := 1) dJ6_compress_37 rfl ?_
    replace h := zb2E h
    obtain ⟨v14, G15, e13, h⟩ := h
    refine j_cont (zrS (As := [vR r11, vI v4]) msJ6_71 (yJ6_getChar_ok e13) (Nat.le_trans (Nat.le_of_ble_eq_true rfl) hd) rfl rfl (Nat.le_of_ble_eq_true rfl) dJ6_compress_39) ?_
    refine j_sipush (v := 255) dJ6_compress_42 (by decide) ?_
    refine j_icmp_gt (tgt := 61) dJ6_compress_45 (by decide) (fun c16 => ?_) (fun c16 => ?_)
    · rw [if_pos c16] at h
      refine j_aload (j := 0) dJ6_compress_61 rfl ?_
      obtain rfl := Option.some.inj h
      exact j_aret hk.1 hk.2 rfl (Or.inr ⟨_, rfl⟩) dJ6_compress_63
    · rw [if_neg c16] at h
      refine j_aload (j := 0) dJ6_compress_48 rfl ?_
      refine j_iconst (v := 0) dJ6_compress_50 (by decide) ?_
      refine j_aload_n (j := 2) dJ6_compress_51 rfl rfl ?_
      refine j_iconst (v := 0) dJ6_compress_52 (by decide) ?_
      refine j_iload_n (j := 5) dJ6_compress_53 rfl rfl ?_
      replace h := zb2E h
      obtain ⟨v18, G19, e17, h⟩ := h
      refine j_cont (zrS (As := [vR r11, vI 0, vR (some (gz G)), vI 0, vI x2]) msJ6_123 (yJ6_compress_2_ok e17) (Nat.le_trans (Nat.le_of_ble_eq_true rfl) hd) rfl rfl (Nat.le_of_ble_eq_true rfl) dJ6_compress_54) ?_
      refine j_iload_n (j := 5) dJ6_compress_57 rfl rfl ?_
      refine j_icmp_eq (tgt := 64) dJ6_compress_58 (by decide) (fun c20 => ?_) (fun c20 => ?_)
      · rw [if_pos c20] at h
        refine j_aload_n (j := 2) dJ6_compress_64 rfl rfl ?_
        obtain rfl := Option.some.inj h
        exact j_aret hk.1 hk.2 rfl (Or.inr ⟨_, rfl⟩) dJ6_compress_65
      · rw [if_neg c20] at h
        refine j_aload (j := 0) dJ6_compress_61 rfl ?_
        obtain rfl := Option.some.inj h
        exact j_aret hk.1 hk.2 rfl (Or.inr ⟨_, rfl⟩) dJ6_compress_63
theorem yJ6_compress_ok {x0 : Option Nat} {x1 : Int32} {x2 : Int32} {G : GS} {r : Option Nat} {G1 : GS} (h : fJ6_compress_0 x0 x1 x2 G = some (r, G1)) : zRuns yJ6_compress (ws_ yJ6_compress cJ6_compress 6 (some (Jvm.ClassFile.FieldType.array Jvm.ClassFile.FieldType.byte))) [vR x0, vI x1, vI x2] (.inl (some (vR r)), G, G1, 14) :=
  zentry (M := mJ6_compress) (plainFor_of_name (by decide +kernel)) ⟨rfl, rfl, rfl, rfl⟩ (Nat.le_of_ble_eq_true rfl) (wfJ6_compress_0 (Nat.le_refl _) x0 x1 x2 G h ⟨rfl, rfl⟩)
abbrev mJ6_coderFromArrayLen : zM := (cJ6_coderFromArrayLen, RJ6, 2, (some Jvm.ClassFile.FieldType.byte), "coderFromArrayLen", [], "([BI)B")
def fJ6_coderFromArrayLen_0 (x0 : Option Nat) (x1 : Int32)  (G : GS) : Option (Int32) :=
  x0.bind fun a1 => (zln G a1).bind fun v3 => zcond (zby ((((x1 - v3).toUInt32 >>> ((31 : Int32).toUInt32 &&& Int32.toUInt32 31)).toInt32).toInt8.toInt32)) (some ((((x1 - v3).toUInt32 >>> ((31 : Int32).toUInt32 &&& Int32.toUInt32 31)).toInt32).toInt8.toInt32))
theorem wfJ6_coderFromArrayLen_0 {F : zF} (hd : 1 ≤ F.2.2.2) (x0 : Option Nat) (x1 : Int32)  (G : GS) {a : Int32} (h : fJ6_coderFromArrayLen_0 x0 x1  G = some a) (hk : zKPI F G a) : J mJ6_coderFromArrayLen F G 0 [(0, vR x0), (1, vI x1)] [] := by
  unfold fJ6_coderFromArrayLen_0 at h
  refine j_iload_n (j := 1) dJ6_coderFromArrayLen_0 rfl rfl ?_
  refine j_aload_n (j := 0) dJ6_coderFromArrayLen_1 rfl rfl ?_
  replace h := zbE h
  obtain ⟨a1, e2, h⟩ := h
  subst e2
  replace h := zbE h
  obtain ⟨v3, e4, h⟩ := h
  refine j_alen e4 dJ6_coderFromArrayLen_2 ?_
  refine j_isub dJ6_coderFromArrayLen_3 ?_
  refine j_bipush (v := 31) dJ6_coderFromArrayLen_4 (by decide) ?_
  refine j_iushr dJ6_coderFromArrayLen_6 ?_
  refine j_i2b dJ6_coderFromArrayLen_7 ?_
  replace h := zcondE h
  obtain ⟨e5, h⟩ := h
  obtain rfl := Option.some.inj h
  exact j_zret hk.1 hk.2 rfl (zby_n e5) dJ6_coderFromArrayLen_8
theorem yJ6_coderFromArrayLen_ok {x0 : Option Nat} {x1 : Int32} {G : GS} {r : Int32} (h : fJ6_coderFromArrayLen_0 x0 x1 G = some r) : zRuns yJ6_coderFromArrayLen (ws_ yJ6_coderFromArrayLen cJ6_coderFromArrayLen 2 (some Jvm.ClassFile.FieldType.byte)) [vR x0, vI x1] (.inl (some (vI r)), G, G, 1) :=
  zentry (M := mJ6_coderFromArrayLen) (plainFor_of_name (by decide +kernel)) ⟨rfl, rfl, rfl, rfl⟩ (Nat.le_of_ble_eq_true rfl) (wfJ6_coderFromArrayLen_0 (Nat.le_refl _) x0 x1 G h ⟨rfl, rfl⟩)
theorem msJ5_552_J4 : zSU RJ5 552 "java/lang/StringBuilder" "java/lang/AbstractStringBuilder" ⟨"java/lang/AbstractStringBuilder", "getValue", "()[B"⟩ yJ3_getValue cJ3_getValue 1 (some (Jvm.ClassFile.FieldType.array Jvm.ClassFile.FieldType.byte)) 0 := ⟨lw_U q2117 q2119 q2120 q2118 q127 q2121, rfl, (by decide +kernel), (by decide)⟩
abbrev mJ5_init_2 : zM := (cJ5_init_2, RJ5, 5, none, "<init>", [], "(Ljava/lang/AbstractStringBuilder;Ljava/lang/Void;)V")
def fJ5_init_2_0 (t : Nat) (x1 : Option Nat) (x2 : Option Nat)  (G : GS) : Option (GS) :=
  x1.bind fun a1 => zk [22] G a1 <| (fJ3_getValue_0 a1 G).bind fun r5 => none
theorem wfJ5_init_2_0 {F : zF} (hd : 15 ≤ F.2.2.2) (t : Nat) (x1 : Option Nat) (x2 : Option Nat)  (G : GS) {a : GS} (h : fJ5_init_2_0 t x1 x2  G = some a) (hk : zKV F a) : J mJ5_init_2 F G 0 [(0, vR (some t)), (1, vR x1), (2, vR x2)] [] := by
  unfold fJ5_init_2_0 at h
  refine j_aload_n (j := 0) dJ5_init_2_0 rfl rfl ?_
  refine j_objinit q2116 q181 q182 (Nat.le_trans (Nat.le_of_ble_eq_true rfl) hd) (Nat.le_of_ble_eq_true rfl) dJ5_init_2_1 ?_
  refine j_aload_n (j := 1) dJ5_init_2_4 rfl rfl ?_
  replace h := zbE h
  obtain ⟨a1, e2, h⟩ := h
  subst e2
  replace h := zkE h
  obtain ⟨e3, h⟩ := h
  replace h := zbE h
  obtain ⟨r5, e4, h⟩ := h
  refine j_cont (zrU (As := []) msJ5_552_J4 (yJ3_getValue_ok e4) (Nat.le_trans (Nat.le_of_ble_eq_true rfl) hd) (zk_22 _ e3) rfl rfl (Nat.le_of_ble_eq_true rfl) dJ5_init_2_5) ?_
  refine j_astore_n (lv' := [(3, vR r5), (0, vR (some t)), (1, vR (some a1)), (2, vR x2)]) dJ5_init_2_8 rfl (Nat.le_of_ble_eq_true rfl) rfl ?_
  refine j_aload_n (j := 2) dJ5_init_2_9 rfl rfl ?_
  cases h
theorem yJ5_init_2_ok {t : Nat} {x1 : Option Nat} {x2 : Option Nat} {G : GS} {G1 : GS} (h : fJ5_init_2_0 t x1 x2 G = some G1) : zRuns yJ5_init_2 (ws_ yJ5_init_2 cJ5_init_2 5 none) [vR (some t), vR x1, vR x2] (.inl none, G, G1, 15) :=
  zentry (M := mJ5_init_2) (plainFor_of_name (by decide +kernel)) ⟨rfl, rfl, rfl, rfl⟩ (Nat.le_of_ble_eq_true rfl) (wfJ5_init_2_0 (Nat.le_refl _) t x1 x2 G h ⟨rfl, rfl⟩)
theorem msJ5_489 : zSI RJ5 489 yJ5_init_2 cJ5_init_2 5 2 := ⟨q2115, q129, q2113, q2114, rfl, (by decide +kernel), (by decide)⟩
abbrev mJ5_init : zM := (cJ5_init, RJ5, 2, none, "<init>", [], "(Ljava/lang/StringBuilder;)V")
def fJ5_init_0 (t : Nat) (x1 : Option Nat)  (G : GS) : Option (GS) :=
  (fJ5_init_2_0 t x1 none G).bind fun G2 => some G2
theorem wfJ5_init_0 {F : zF} (hd : 16 ≤ F.2.2.2) (t : Nat) (x1 : Option Nat)  (G : GS) {a : GS} (h : fJ5_init_0 t x1  G = some a) (hk : zKV F a) : J mJ5_init F G 0 [(0, vR (some t)), (1, vR x1)] [] := by
  unfold fJ5_init_0 at h
  refine j_aload_n (j := 0) dJ5_init_0 rfl rfl ?_
  refine j_aload_n (j := 1) dJ5_init_1 rfl rfl ?_
  refine j_null dJ5_init_2 ?_
  replace h := zbE h
  obtain ⟨G2, e1, h⟩ := h
  refine j_cont (zrI (As := [vR x1, vR none]) msJ5_489 (yJ5_init_2_ok e1) (Nat.le_trans (Nat.le_of_ble_eq_true rfl) hd) rfl rfl (Nat.le_of_ble_eq_true rfl) dJ5_init_3) ?_
  obtain rfl := Option.some.inj h
  exact j_vret hk.1 hk.2 rfl dJ5_init_6
theorem yJ5_init_ok {t : Nat} {x1 : Option Nat} {G : GS} {G1 : GS} (h : fJ5_init_0 t x1 G = some G1) : zRuns yJ5_init (ws_ yJ5_init cJ5_init 2 none) [vR (some t), vR x1] (.inl none, G, G1, 16) :=
  zentry (M := mJ5_init) (plainFor_of_name (by decide +kernel)) ⟨rfl, rfl, rfl, rfl⟩ (Nat.le_of_ble_eq_true rfl) (wfJ5_init_0 (Nat.le_refl _) t x1 G h ⟨rfl, rfl⟩)
abbrev mJ4_toString : zM := (cJ4_toString, RJ4, 1, (some (Jvm.ClassFile.FieldType.object "java/lang/String")), "toString", [], "()Ljava/lang/String;")
def fJ4_toString_0 (t : Nat)  (G : GS) : Option ((Option Nat) × GS) :=
  none
theorem wfJ4_toString_0 {F : zF} (hd : 17 ≤ F.2.2.2) (t : Nat)  (G : GS) {a : (Option Nat) × GS} (h : fJ4_toString_0 t  G = some a) (hk : zKR F a) : J mJ4_toString F G 0 [(0, vR (some t))] [] := by
  unfold fJ4_toString_0 at h
  cases h
theorem yJ4_toString_ok {t : Nat} {G : GS} {r : Option Nat} {G1 : GS} (h : fJ4_toString_0 t G = some (r, G1)) : zRuns yJ4_toString (ws_ yJ4_toString cJ4_toString 1 (some (Jvm.ClassFile.FieldType.object "java/lang/String"))) [vR (some t)] (.inl (some (vR r)), G, G1, 17) :=
  zentry (M := mJ4_toString) (plainFor_of_name (by decide +kernel)) ⟨rfl, rfl, rfl, rfl⟩ (Nat.le_of_ble_eq_true rfl) (wfJ4_toString_0 (Nat.le_refl _) t G h ⟨rfl, rfl⟩)
theorem msJ2_22 : zSI RJ2 22 yJ4_init cJ4_init 1 0 := ⟨q216, q128, q2273, q215, rfl, (by decide +kernel), (by decide)⟩
abbrev mJ2_outOfBoundsMsg : zM := (cJ2_outOfBoundsMsg, RJ2, 2, (some (Jvm.ClassFile.FieldType.object "java/lang/String")), "outOfBoundsMsg", [], "(I)Ljava/lang/String;")
def fJ2_outOfBoundsMsg_0 (t : Nat) (x1 : Int32)  (G : GS) : Option ((Option Nat) × GS) :=
  zl (al G 22 0 4) fun G1 => (fJ4_init_0 (gz G) G1).bind fun G4 => none
theorem wfJ2_outOfBoundsMsg_0 {F : zF} (hd : 18 ≤ F.2.2.2) (t : Nat) (x1 : Int32)  (G : GS) {a : (Option Nat) × GS} (h : fJ2_outOfBoundsMsg_0 t x1  G = some a) (hk : zKR F a) : J mJ2_outOfBoundsMsg F G 0 [(0, vR (some t)), (1, vI x1)] [] := by
  unfold fJ2_outOfBoundsMsg_0 at h
  replace h := zlE h
  obtain ⟨G1, e2, h⟩ := h
  refine j_new (c := 21) (n := 4) (r := (RJ4, TJ4, 4, tyJ4)) rfl rfl in_J4 tyJ4_ok nwJ4 q2272 q213 q128 dJ2_outOfBoundsMsg_0 ?_
  rw [show al G (21 + 1) 0 4 = G1 from e2.symm]
  refine j_dup dJ2_outOfBoundsMsg_3 rfl ?_
  replace h := zbE h
  obtain ⟨G4, e3, h⟩ := h
  refine j_cont (zrI (As := []) msJ2_22 (yJ4_init_ok e3) (Nat.le_trans (Nat.le_of_ble_eq_true rfl) hd) rfl rfl (Nat.le_of_ble_eq_true rfl) dJ2_outOfBoundsMsg_4) ?_
  cases h
theorem yJ2_outOfBoundsMsg_ok {t : Nat} {x1 : Int32} {G : GS} {r : Option Nat} {G1 : GS} (h : fJ2_outOfBoundsMsg_0 t x1 G = some (r, G1)) : zRuns yJ2_outOfBoundsMsg (ws_ yJ2_outOfBoundsMsg cJ2_outOfBoundsMsg 2 (some (Jvm.ClassFile.FieldType.object "java/lang/String"))) [vR (some t), vI x1] (.inl (some (vR r)), G, G1, 18) :=
  zentry (M := mJ2_outOfBoundsMsg) (plainFor_of_name (by decide +kernel)) ⟨rfl, rfl, rfl, rfl⟩ (Nat.le_of_ble_eq_true rfl) (wfJ2_outOfBoundsMsg_0 (Nat.le_refl _) t x1 G h ⟨rfl, rfl⟩)
abbrev mJ2_rangeCheckForAdd : zM := (cJ2_rangeCheckForAdd, RJ2, 2, none, "rangeCheckForAdd", [], "(I)V")
def fJ2_rangeCheckForAdd_12 (t : Nat) (x1 : Int32)  (G : GS) : Option (GS) :=
  none
theorem wfJ2_rangeCheckForAdd_12 {F : zF} (hd : 19 ≤ F.2.2.2) (t : Nat) (x1 : Int32)  (G : GS) {a : GS} (h : fJ2_rangeCheckForAdd_12 t x1  G = some a) (hk : zKV F a) : J mJ2_rangeCheckForAdd F G 12 [(0, vR (some t)), (1, vI x1)] [] := by
  unfold fJ2_rangeCheckForAdd_12 at h
  cases h
def fJ2_rangeCheckForAdd_0 (t : Nat) (x1 : Int32)  (G : GS) : Option (GS) :=
  (zgI G 12 t 2).bind fun v1 => if v1 < x1 then (fJ2_rangeCheckForAdd_12 t x1 G) else (if 0 ≤ x1 then (some G) else (fJ2_rangeCheckForAdd_12 t x1 G))
theorem wfJ2_rangeCheckForAdd_0 {F : zF} (hd : 19 ≤ F.2.2.2) (t : Nat) (x1 : Int32)  (G : GS) {a : GS} (h : fJ2_rangeCheckForAdd_0 t x1  G = some a) (hk : zKV F a) : J mJ2_rangeCheckForAdd F G 0 [(0, vR (some t)), (1, vI x1)] [] := by
  unfold fJ2_rangeCheckForAdd_0 at h
  refine j_iload_n (j := 1) dJ2_rangeCheckForAdd_0 rfl rfl ?_
  refine j_aload_n (j := 0) dJ2_rangeCheckForAdd_1 rfl rfl ?_
  replace h := zbE h
  obtain ⟨v1, e2, h⟩ := h
  refine j_getI fgJ2_48 (fun _ _ _ => rfl) dJ2_rangeCheckForAdd_2 e2 ?_
  refine j_icmp_gt (tgt := 12) dJ2_rangeCheckForAdd_5 (by decide) (fun c3 => ?_) (fun c3 => ?_)
  · rw [if_pos c3] at h
    exact J.sub (zall [0, 1] rfl) (wfJ2_rangeCheckForAdd_12 hd t x1  G h hk)
  · rw [if_neg c3] at h
    refine j_iload_n (j := 1) dJ2_rangeCheckForAdd_8 rfl rfl ?_
    refine j_if_ge (tgt := 25) dJ2_rangeCheckForAdd_9 (by decide) (fun c4 => ?_) (fun c4 => ?_)
    · rw [if_pos c4] at h
      obtain rfl := Option.some.inj h
      exact j_vret hk.1 hk.2 rfl dJ2_rangeCheckForAdd_25
    · rw [if_neg c4] at h
      exact J.sub (zall [0, 1] rfl) (wfJ2_rangeCheckForAdd_12 hd t x1  G h hk)
theorem yJ2_rangeCheckForAdd_ok {t : Nat} {x1 : Int32} {G : GS} {G1 : GS} (h : fJ2_rangeCheckForAdd_0 t x1 G = some G1) : zRuns yJ2_rangeCheckForAdd (ws_ yJ2_rangeCheckForAdd cJ2_rangeCheckForAdd 2 none) [vR (some t), vI x1] (.inl none, G, G1, 19) :=
  zentry (M := mJ2_rangeCheckForAdd) (plainFor_of_name (by decide +kernel)) ⟨rfl, rfl, rfl, rfl⟩ (Nat.le_of_ble_eq_true rfl) (wfJ2_rangeCheckForAdd_0 (Nat.le_refl _) t x1 G h ⟨rfl, rfl⟩)
theorem msJ2_135 : zSV RJ2 135 RJ2 yJ2_rangeCheckForAdd cJ2_rangeCheckForAdd 2 none 1 := ⟨lw_V q2263 q2265 qs42 q126 q2266, (by decide +kernel), (by decide)⟩
abbrev mJ2_add_3 : zM := (cJ2_add_3, RJ2, 5, none, "add", [], "(ILjava/lang/Object;)V")
def fJ2_add_3_38 (t : Nat) (x1 : Int32) (x2 : Option Nat) (x3 : Int32) (x4 : Option Nat)  (G : GS) : Option (GS) :=
  x4.bind fun a1 => (zcpR G a1 x1 a1 (x1 + 1) (x3 - x1)).bind fun G3 => (zsR G3 54 a1 x1 x2 [3, 6, 10, 21, 61]).bind fun G5 => (zpI G5 12 t 2 (x3 + 1)).bind fun G7 => some G7
theorem wfJ2_add_3_38 {F : zF} (hd : 20 ≤ F.2.2.2) (t : Nat) (x1 : Int32) (x2 : Option Nat) (x3 : Int32) (x4 : Option Nat)  (G : GS) {a : GS} (h : fJ2_add_3_38 t x1 x2 x3 x4  G = some a) (hk : zKV F a) : J mJ2_add_3 F G 38 [(0, vR (some t)), (1, vI x1), (2, vR x2), (3, vI x3), (4, vR x4)] [] := by
  unfold fJ2_add_3_38 at h
  refine j_aload (j := 4) dJ2_add_3_38 rfl ?_
  refine j_iload_n (j := 1) dJ2_add_3_40 rfl rfl ?_
  refine j_aload (j := 4) dJ2_add_3_41 rfl ?_
  refine j_iload_n (j := 1) dJ2_add_3_43 rfl rfl ?_
  refine j_iconst (v := 1) dJ2_add_3_44 (by decide) ?_
  refine j_iadd dJ2_add_3_45 ?_
  refine j_iload_n (j := 3) dJ2_add_3_46 rfl rfl ?_
  refine j_iload_n (j := 1) dJ2_add_3_47 rfl rfl ?_
  refine j_isub dJ2_add_3_48 ?_
  replace h := zbE h
  obtain ⟨a1, e2, h⟩ := h
  subst e2
  replace h := zbE h
  obtain ⟨G3, e4, h⟩ := h
  refine j_cpR e4 q1842 q816 q815 q142 (Nat.le_trans (Nat.le_of_ble_eq_true rfl) hd) (Nat.le_of_ble_eq_true rfl) dJ2_add_3_49 ?_
  refine j_aload (j := 4) dJ2_add_3_52 rfl ?_
  refine j_iload_n (j := 1) dJ2_add_3_54 rfl rfl ?_
  refine j_aload_n (j := 2) dJ2_add_3_55 rfl rfl ?_
  replace h := zbE h
  obtain ⟨G5, e6, h⟩ := h
  refine j_aast (t := 4) rfl e6 zobjK dJ2_add_3_56 ?_
  refine j_aload_n (j := 0) dJ2_add_3_57 rfl rfl ?_
  refine j_iload_n (j := 3) dJ2_add_3_58 rfl rfl ?_
  refine j_iconst (v := 1) dJ2_add_3_59 (by decide) ?_
  refine j_iadd dJ2_add_3_60 ?_
  replace h := zbE h
  obtain ⟨G7, e8, h⟩ := h
  refine j_putI fpJ2_48_J2 (Or.inl rfl) rfl dJ2_add_3_61 e8 ?_
  obtain rfl := Option.some.inj h
  exact j_vret hk.1 hk.2 rfl dJ2_add_3_64
def fJ2_add_3_0 (t : Nat) (x1 : Int32) (x2 : Option Nat)  (G : GS) : Option (GS) :=
  zk [12] G t <| (fJ2_rangeCheckForAdd_0 t x1 G).bind fun G3 => (zgI G3 12 t 0).bind fun v4 => (zpI G3 12 t 0 (v4 + 1)).bind fun G6 => (zgI G6 12 t 2).bind fun v8 => (zgR G6 12 t 1).bind fun r10 => r10.bind fun a12 => (zln G6 a12).bind fun v14 => if v8 = v14 then (zk [12] G6 t <| zb2 (fJ2_grow_0 t G6) fun r19 G20 => fJ2_add_3_38 t x1 x2 v8 r19 G20) else (fJ2_add_3_38 t x1 x2 v8 (some a12) G6)
theorem wfJ2_add_3_0 {F : zF} (hd : 20 ≤ F.2.2.2) (t : Nat) (x1 : Int32) (x2 : Option Nat)  (G : GS) {a : GS} (h : fJ2_add_3_0 t x1 x2  G = some a) (hk : zKV F a) : J mJ2_add_3 F G 0 [(0, vR (some t)), (1, vI x1), (2, vR x2)] [] := by
  unfold fJ2_add_3_0 at h
  refine j_aload_n (j := 0) dJ2_add_3_0 rfl rfl ?_
  refine j_iload_n (j := 1) dJ2_add_3_1 rfl rfl ?_
  replace h := zkE h
  obtain ⟨e1, h⟩ := h
  replace h := zbE h
  obtain ⟨G3, e2, h⟩ := h
  refine j_cont (zrV (As := [vI x1]) msJ2_135 (yJ2_rangeCheckForAdd_ok e2) (Nat.le_trans (Nat.le_of_ble_eq_true rfl) hd) (zk_12 _ e1) rfl rfl (Nat.le_of_ble_eq_true rfl) dJ2_add_3_2) ?_
  refine j_aload_n (j := 0) dJ2_add_3_5 rfl rfl ?_
  refine j_dup dJ2_add_3_6 rfl ?_
  replace h := zbE h
  obtain ⟨v4, e5, h⟩ := h
  refine j_getI fgJ2_63 (fun _ _ _ => rfl) dJ2_add_3_7 e5 ?_
  refine j_iconst (v := 1) dJ2_add_3_10 (by decide) ?_
  refine j_iadd dJ2_add_3_11 ?_
  replace h := zbE h
  obtain ⟨G6, e7, h⟩ := h
  refine j_putI fpJ2_63_J2 (Or.inl rfl) rfl dJ2_add_3_12 e7 ?_
  refine j_aload_n (j := 0) dJ2_add_3_15 rfl rfl ?_
  replace h := zbE h
  obtain ⟨v8, e9, h⟩ := h
  refine j_getI fgJ2_48 (fun _ _ _ => rfl) dJ2_add_3_16 e9 ?_
  refine j_dup dJ2_add_3_19 rfl ?_
  refine j_istore_n (lv' := [(3, vI v8), (0, vR (some t)), (1, vI x1), (2, vR x2)]) dJ2_add_3_20 rfl (Nat.le_of_ble_eq_true rfl) rfl ?_
  refine j_aload_n (j := 1) dJ2_add_3_21 rfl rfl ?_
  replace h := zbE h
  obtain ⟨r10, e11, h⟩ := h
  refine j_getR fgJ2_9 (fun _ _ _ => rfl) dJ2_add_3_22 e11 ?_
  refine j_dup dJ2_add_3_25 rfl ?_
  refine j_astore (lv' := [(4, vR r10), (3, vI v8), (0, vR (some t)), (1, vI x1), (2, vR x2)]) dJ2_add_3_26 (Nat.le_of_ble_eq_true rfl) rfl ?_
  replace h := zbE h
  obtain ⟨a12, e13, h⟩ := h
  subst e13
  replace h := zbE h
  obtain ⟨v14, e15, h⟩ := h
  refine j_alen e15 dJ2_add_3_28 ?_
  refine j_icmp_ne (tgt := 38) dJ2_add_3_29 (by decide) (fun c16 => ?_) (fun c16 => ?_)
  · rw [if_pos c16] at h
    refine j_aload_n (j := 2) dJ2_add_3_32 rfl rfl ?_
    replace h := zkE h
    obtain ⟨e17, h⟩ := h
    replace h := zb2E h
    obtain ⟨r19, G20, e18, h⟩ := h
    refine j_cont (zrV (As := []) msJ2_129 (yJ2_grow_ok e18) (Nat.le_trans (Nat.le_of_ble_eq_true rfl) hd) (zk_12 _ e17) rfl rfl (Nat.le_of_ble_eq_true rfl) dJ2_add_3_33) ?_
    refine j_astore (lv' := [(4, vR r19), (3, vI v8), (0, vR (some t)), (1, vI x1), (2, vR x2)]) dJ2_add_3_36 (Nat.le_of_ble_eq_true rfl) rfl ?_
    exact J.sub (zall [2, 3, 4, 1, 0] rfl) (wfJ2_add_3_38 hd t x1 x2 v8 r19  G20 h hk)
  · rw [if_neg c16] at h
    exact J.sub (zall [2, 3, 4, 1, 0] rfl) (wfJ2_add_3_38 hd t x1 x2 v8 (some a12)  G6 h hk)
theorem yJ2_add_3_ok {t : Nat} {x1 : Int32} {x2 : Option Nat} {G : GS} {G1 : GS} (h : fJ2_add_3_0 t x1 x2 G = some G1) : zRuns yJ2_add_3 (ws_ yJ2_add_3 cJ2_add_3 5 none) [vR (some t), vI x1, vR x2] (.inl none, G, G1, 20) :=
  zentry (M := mJ2_add_3) (plainFor_of_name (by decide +kernel)) ⟨rfl, rfl, rfl, rfl⟩ (Nat.le_of_ble_eq_true rfl) (wfJ2_add_3_0 (Nat.le_refl _) t x1 x2 G h ⟨rfl, rfl⟩)
theorem fgX4_84 : zFG RX4 84 3 2 (.int) := ⟨(RX4, TX4, 3, tyX4), rfl, by decide, in_X4, rfl, "SelahGenerator$Workshop", Or.inl rfl, Or.inl q2205⟩
theorem fpX4_84_X4 : zFP RX4 84 3 2 (.int) false := ⟨(RX4, TX4, 3, tyX4), rfl, by decide, in_X4, tyX4_ok, nmX4, rfl, rfl, (by decide), "SelahGenerator$Workshop", Or.inl rfl, q2205⟩
theorem msX4_101_J2 : zSF RX4 101 RJ2 ⟨"java/util/List", "add", "(ILjava/lang/Object;)V"⟩ yJ2_add_3 cJ2_add_3 5 none 2 := ⟨lw_F q2255 q2258 q2260 q126 q2262, zfw 4 rfl, ⟨11, _, rfl, rfl⟩, (by decide +kernel), (by decide)⟩
theorem msX4_91_J2 : zSF RX4 91 RJ2 ⟨"java/util/List", "remove", "(I)Ljava/lang/Object;"⟩ yJ2_remove cJ2_remove 4 (some (Jvm.ClassFile.FieldType.object "java/lang/Object")) 1 := ⟨lw_F q2248 q1833 q1835 q126 q1837, zfw 12 rfl, ⟨11, _, rfl, rfl⟩, (by decide +kernel), (by decide)⟩
abbrev mX4_replaceFirst : zM := (cX4_replaceFirst, RX4, 8, (some Jvm.ClassFile.FieldType.boolean), "replaceFirst", [], "(II)Z")
def fX4_replaceFirst_201 (t : Nat) (x1 : Int32) (x2 : Int32) (x3 : Int32)  (G : GS) : Option ((Int32) ⊕ (((Int32) ⊕ String) × GS)) :=
  some (.inl ((x3 + 1)))
theorem wfX4_replaceFirst_201 {F : zF} (hd : 21 ≤ F.2.2.2) (t : Nat) (x1 : Int32) (x2 : Int32) (x3 : Int32)  (G : GS) {a : (Int32) ⊕ (((Int32) ⊕ String) × GS)} (h : fX4_replaceFirst_201 t x1 x2 x3  G = some a) (hk : (zcase (fun s : Int32 => J mX4_replaceFirst F G 2 [(0, vR (some t)), (1, vI x1), (2, vI x2), (3, vI s)] []) (zKXI F)) a) : J mX4_replaceFirst F G 201 [(0, vR (some t)), (1, vI x1), (2, vI x2), (3, vI x3)] [] := by
  unfold fX4_replaceFirst_201 at h
  refine j_iinc (j := 3) (v := (x3 + 1)) (lv' := [(3, vI (x3 + 1)), (0, vR (some t)), (1, vI x1), (2, vI x2)]) dX4_replaceFirst_201 rfl rfl (Nat.le_of_ble_eq_true rfl) rfl ?_
  refine j_goto (tgt := 2) dX4_replaceFirst_204 (by decide) ?_
  obtain rfl := Option.some.inj h
  exact J.sub (zall [1, 2, 3, 0] rfl) hk
def fbX4_replaceFirst_139 (t : Nat) (x1 : Int32) (x3 : Int32) (x5 : Option Nat) (x6 : Option Nat) (x7 : Int32)  (G : GS) : Option ((Int32 × GS) ⊕ (((Int32) ⊕ String) × GS)) :=
  x5.bind fun a1 => zk [12] G a1 <| (fJ2_size_0 a1 G).bind fun v5 => if v5 ≤ x7 then (zo (zcond (zbb 1) (some (.inl 1, G)))) else ((zgR G 4 t 0).bind fun r8 => zl (al G 3 0 2) fun G10 => zk [12] G10 a1 <| (fJ2_get_0 a1 x7 G10).bind fun r14 => zkq [3] G10 r14 (r14.bind fun a16 => (zgR G10 3 a16 1).bind fun r18 => x6.bind fun a20 => zk [3] G10 a20 <| zb2 (fX3_rest_0 a20 1 r18 G10) fun r24 G25 => (fX3_init_0 (gz G) x1 r24 G25).bind fun G27 => r8.bind fun a28 => zk [12] G27 a28 <| (fJ2_add_3_0 a28 (x3 + x7) (some (gz G)) G27).bind fun G32 => some (.inl ((x7 + 1), G32))))
def flX4_replaceFirst_139 (t : Nat) (x1 : Int32) (x3 : Int32) (x5 : Option Nat) (x6 : Option Nat) (x7 : Int32) (G : GS) : Option (((Int32) ⊕ String) × GS) := zloop (fun s : Int32 × GS => fbX4_replaceFirst_139 t x1 x3 x5 x6 s.1 s.2) (x7, G)
theorem wfbX4_replaceFirst_139 {F : zF} (hd : 21 ≤ F.2.2.2) (t : Nat) (x1 : Int32) (x3 : Int32) (x5 : Option Nat) (x6 : Option Nat) (x7 : Int32) (G : GS) {a : (Int32 × GS) ⊕ (((Int32) ⊕ String) × GS)} (h : fbX4_replaceFirst_139 t x1 x3 x5 x6 x7 G = some a) (hk : (zcase (fun s : Int32 × GS => J mX4_replaceFirst F s.2 139 [(0, vR (some t)), (1, vI x1), (3, vI x3), (5, vR x5), (6, vR x6), (7, vI s.1)] []) (zKXI F)) a) : J mX4_replaceFirst F G 139 [(0, vR (some t)), (1, vI x1), (3, vI x3), (5, vR x5), (6, vR x6), (7, vI x7)] [] := by
  unfold fbX4_replaceFirst_139 at h
  refine j_iload (j := 5) dX4_replaceFirst_139 rfl ?_
  refine j_aload (j := 3) dX4_replaceFirst_141 rfl ?_
  replace h := zbE h
  obtain ⟨a1, e2, h⟩ := h
  subst e2
  replace h := zkE h
  obtain ⟨e3, h⟩ := h
  replace h := zbE h
  obtain ⟨v5, e4, h⟩ := h
  refine j_cont (zrF (As := []) msX4_60_J2 (yJ2_size_ok e4) (Nat.le_trans (Nat.le_of_ble_eq_true rfl) hd) (zk_12 _ e3) rfl rfl (Nat.le_of_ble_eq_true rfl) dX4_replaceFirst_143) ?_
  refine j_icmp_ge (tgt := 199) dX4_replaceFirst_148 (by decide) (fun c6 => ?_) (fun c6 => ?_)
  · rw [if_pos c6] at h
    replace h := zoE h
    obtain ⟨a, h, rfl⟩ := h
    replace hk := hk
    refine j_iconst (v := 1) dX4_replaceFirst_199 (by decide) ?_
    replace h := zcondE h
    obtain ⟨e7, h⟩ := h
    obtain rfl := Option.some.inj h
    exact j_zret hk.1 hk.2 rfl (zbb_n e7) dX4_replaceFirst_200
  · rw [if_neg c6] at h
    refine j_aload_n (j := 0) dX4_replaceFirst_151 rfl rfl ?_
    replace h := zbE h
    obtain ⟨r8, e9, h⟩ := h
    refine j_getR fgX4_14 (fun _ _ _ => rfl) dX4_replaceFirst_152 e9 ?_
    refine j_iload_n (j := 2) dX4_replaceFirst_155 rfl rfl ?_
    refine j_iload (j := 5) dX4_replaceFirst_156 rfl ?_
    refine j_iadd dX4_replaceFirst_158 ?_
    replace h := zlE h
    obtain ⟨G10, e11, h⟩ := h
    refine j_new (c := 2) (n := 2) (r := (RX3, TX3, 2, tyX3)) rfl rfl in_X3 tyX3_ok nwX3 q399 q1727 q138 dX4_replaceFirst_159 ?_
    rw [show al G (2 + 1) 0 2 = G10 from e11.symm]
    refine j_dup dX4_replaceFirst_162 rfl ?_
    refine j_iload_n (j := 1) dX4_replaceFirst_163 rfl rfl ?_
    refine j_aload (j := 4) dX4_replaceFirst_164 rfl ?_
    refine j_iconst (v := 1) dX4_replaceFirst_166 (by decide) ?_
    refine j_aload (j := 3) dX4_replaceFirst_167 rfl ?_
    refine j_iload (j := 5) dX4_replaceFirst_169 rfl ?_
    replace h := zkE h
    obtain ⟨e12, h⟩ := h
    replace h := zbE h
    obtain ⟨r14, e13, h⟩ := h
    refine j_cont (zrF (As := [vI x7]) msX4_80_J2 (yJ2_get_ok e13) (Nat.le_trans (Nat.le_of_ble_eq_true rfl) hd) (zk_12 _ e12) rfl rfl (Nat.le_of_ble_eq_true rfl) dX4_replaceFirst_171) ?_
    replace h := zkqE h
    obtain ⟨e15, h⟩ := h
    refine j_castq (fun k => j_castN dX4_replaceFirst_176 k) (fun b q33 k => j_castS (zk_3 _ (e15 b q33)) ⟨2, _, rfl, rfl⟩ q399 dX4_replaceFirst_176 k) ?_
    replace h := zbE h
    obtain ⟨a16, e17, h⟩ := h
    subst e17
    replace h := zbE h
    obtain ⟨r18, e19, h⟩ := h
    refine j_getR fgX4_42 (fun _ _ _ => rfl) dX4_replaceFirst_179 e19 ?_
    replace h := zbE h
    obtain ⟨a20, e21, h⟩ := h
    subst e21
    replace h := zkE h
    obtain ⟨e22, h⟩ := h
    replace h := zb2E h
    obtain ⟨r24, G25, e23, h⟩ := h
    refine j_cont (zrV (As := [vI 1, vR r18]) msX4_94 (yX3_rest_ok e23) (Nat.le_trans (Nat.le_of_ble_eq_true rfl) hd) (zk_3 _ e22) rfl rfl (Nat.le_of_ble_eq_true rfl) dX4_replaceFirst_182) ?_
    replace h := zbE h
    obtain ⟨G27, e26, h⟩ := h
    refine j_cont (zrI (As := [vI x1, vR r24]) msX4_98 (yX3_init_ok e26) (Nat.le_trans (Nat.le_of_ble_eq_true rfl) hd) rfl rfl (Nat.le_of_ble_eq_true rfl) dX4_replaceFirst_185) ?_
    replace h := zbE h
    obtain ⟨a28, e29, h⟩ := h
    subst e29
    replace h := zkE h
    obtain ⟨e30, h⟩ := h
    replace h := zbE h
    obtain ⟨G32, e31, h⟩ := h
    refine j_cont (zrF (As := [vI (x3 + x7), vR (some (gz G))]) msX4_101_J2 (yJ2_add_3_ok e31) (Nat.le_trans (Nat.le_of_ble_eq_true rfl) hd) (zk_12 _ e30) rfl rfl (Nat.le_of_ble_eq_true rfl) dX4_replaceFirst_188) ?_
    refine j_iinc (j := 5) (v := (x7 + 1)) (lv' := [(7, vI (x7 + 1)), (0, vR (some t)), (1, vI x1), (3, vI x3), (5, vR (some a1)), (6, vR (some a20))]) dX4_replaceFirst_193 rfl rfl (Nat.le_of_ble_eq_true rfl) rfl ?_
    refine j_goto (tgt := 139) dX4_replaceFirst_196 (by decide) ?_
    obtain rfl := Option.some.inj h
    exact J.sub (zall [1, 2, 3, 4, 5, 0] rfl) hk
theorem wflX4_replaceFirst_139 {F : zF} (hd : 21 ≤ F.2.2.2) (t : Nat) (x1 : Int32) (x3 : Int32) (x5 : Option Nat) (x6 : Option Nat) (x7 : Int32) (G : GS) {a : ((Int32) ⊕ String) × GS} (h : flX4_replaceFirst_139 t x1 x3 x5 x6 x7 G = some a) (hk : zKXI F a) : J mX4_replaceFirst F G 139 [(0, vR (some t)), (1, vI x1), (3, vI x3), (5, vR x5), (6, vR x6), (7, vI x7)] [] := by
  unfold flX4_replaceFirst_139 at h
  exact zloop_walk (P := (fun s : Int32 × GS => J mX4_replaceFirst F s.2 139 [(0, vR (some t)), (1, vI x1), (3, vI x3), (5, vR x5), (6, vR x6), (7, vI s.1)] [])) (fun s b e hk => wfbX4_replaceFirst_139 hd t x1 x3 x5 x6 s.1 s.2 e hk) (x7, G) _ h hk
def fX4_replaceFirst_81 (t : Nat) (x1 : Int32) (x3 : Int32) (x4 : Option Nat)  (G : GS) : Option (((Int32) ⊕ String) × GS) :=
  (zgI G 4 t 2).bind fun v1 => if v1 = 100 then (zl (al G 0 0 6) fun G4 => some (.inr "SelahGenerator$Failed", G4)) else ((zgI G 4 t 2).bind fun v6 => (zpI G 4 t 2 (v6 + 1)).bind fun G8 => x4.bind fun a10 => (zgR G8 3 a10 1).bind fun r12 => r12.bind fun a14 => (zaI G8 50 a14 (0 : Int32)).bind fun v16 => zk [4] G8 t <| zb2 (fX4_of_0 t v16 G8) fun r20 G21 => (zgR G21 4 t 0).bind fun r22 => r22.bind fun a24 => zk [12] G21 a24 <| zb2 (fJ2_remove_0 a24 x3 G21) fun r28 G29 => zkq [3] G29 r28 (flX4_replaceFirst_139 t x1 x3 r20 r28 0 G29))
theorem wfX4_replaceFirst_81 {F : zF} (hd : 21 ≤ F.2.2.2) (t : Nat) (x1 : Int32) (x3 : Int32) (x4 : Option Nat)  (G : GS) {a : ((Int32) ⊕ String) × GS} (h : fX4_replaceFirst_81 t x1 x3 x4  G = some a) (hk : zKXI F a) : J mX4_replaceFirst F G 81 [(0, vR (some t)), (1, vI x1), (3, vI x3), (4, vR x4)] [] := by
  unfold fX4_replaceFirst_81 at h
  refine j_aload_n (j := 0) dX4_replaceFirst_81 rfl rfl ?_
  replace h := zbE h
  obtain ⟨v1, e2, h⟩ := h
  refine j_getI fgX4_84 (fun _ _ _ => rfl) dX4_replaceFirst_82 e2 ?_
  refine j_bipush (v := 100) dX4_replaceFirst_85 (by decide) ?_
  refine j_icmp_ne (tgt := 98) dX4_replaceFirst_87 (by decide) (fun c3 => ?_) (fun c3 => ?_)
  · rw [if_pos c3] at h
    replace h := zlE h
    obtain ⟨G4, e5, h⟩ := h
    refine j_throwN exX4_54_56 dX4_replaceFirst_90 dX4_replaceFirst_93 dX4_replaceFirst_94 dX4_replaceFirst_97 (Nat.le_trans (Nat.le_of_ble_eq_true rfl) hd) (Nat.le_of_ble_eq_true rfl) ?_
    rw [show al G 0 0 6 = G4 from e5.symm]
    obtain rfl := Option.some.inj h
    exact jx_out hk.1 hk.2 (by decide)
  · rw [if_neg c3] at h
    refine j_aload_n (j := 0) dX4_replaceFirst_98 rfl rfl ?_
    refine j_dup dX4_replaceFirst_99 rfl ?_
    replace h := zbE h
    obtain ⟨v6, e7, h⟩ := h
    refine j_getI fgX4_84 (fun _ _ _ => rfl) dX4_replaceFirst_100 e7 ?_
    refine j_iconst (v := 1) dX4_replaceFirst_103 (by decide) ?_
    refine j_iadd dX4_replaceFirst_104 ?_
    replace h := zbE h
    obtain ⟨G8, e9, h⟩ := h
    refine j_putI fpX4_84_X4 (Or.inl rfl) rfl dX4_replaceFirst_105 e9 ?_
    refine j_aload_n (j := 0) dX4_replaceFirst_108 rfl rfl ?_
    refine j_aload (j := 3) dX4_replaceFirst_109 rfl ?_
    replace h := zbE h
    obtain ⟨a10, e11, h⟩ := h
    subst e11
    replace h := zbE h
    obtain ⟨r12, e13, h⟩ := h
    refine j_getR fgX4_42 (fun _ _ _ => rfl) dX4_replaceFirst_111 e13 ?_
    refine j_iconst (v := 0) dX4_replaceFirst_114 (by decide) ?_
    replace h := zbE h
    obtain ⟨a14, e15, h⟩ := h
    subst e15
    replace h := zbE h
    obtain ⟨v16, e17, h⟩ := h
    refine j_iald (Or.inl rfl) e17 dX4_replaceFirst_115 ?_
    replace h := zkE h
    obtain ⟨e18, h⟩ := h
    replace h := zb2E h
    obtain ⟨r20, G21, e19, h⟩ := h
    refine j_cont (zrV (As := [vI v16]) msX4_87 (yX4_of_ok e19) (Nat.le_trans (Nat.le_of_ble_eq_true rfl) hd) (zk_4 _ e18) rfl rfl (Nat.le_of_ble_eq_true rfl) dX4_replaceFirst_116) ?_
    refine j_astore (lv' := [(5, vR r20), (0, vR (some t)), (1, vI x1), (3, vI x3), (4, vR (some a10))]) dX4_replaceFirst_119 (Nat.le_of_ble_eq_true rfl) rfl ?_
    refine j_aload_n (j := 1) dX4_replaceFirst_121 rfl rfl ?_
    replace h := zbE h
    obtain ⟨r22, e23, h⟩ := h
    refine j_getR fgX4_14 (fun _ _ _ => rfl) dX4_replaceFirst_122 e23 ?_
    refine j_iload_n (j := 3) dX4_replaceFirst_125 rfl rfl ?_
    replace h := zbE h
    obtain ⟨a24, e25, h⟩ := h
    subst e25
    replace h := zkE h
    obtain ⟨e26, h⟩ := h
    replace h := zb2E h
    obtain ⟨r28, G29, e27, h⟩ := h
    refine j_cont (zrF (As := [vI x3]) msX4_91_J2 (yJ2_remove_ok e27) (Nat.le_trans (Nat.le_of_ble_eq_true rfl) hd) (zk_12 _ e26) rfl rfl (Nat.le_of_ble_eq_true rfl) dX4_replaceFirst_126) ?_
    replace h := zkqE h
    obtain ⟨e30, h⟩ := h
    refine j_castq (fun k => j_castN dX4_replaceFirst_131 k) (fun b q31 k => j_castS (zk_3 _ (e30 b q31)) ⟨2, _, rfl, rfl⟩ q399 dX4_replaceFirst_131 k) ?_
    refine j_astore (lv' := [(6, vR r28), (5, vR r20), (0, vR (some t)), (1, vI x1), (3, vI x3), (4, vR (some a10))]) dX4_replaceFirst_134 (Nat.le_of_ble_eq_true rfl) rfl ?_
    refine j_iconst (v := 0) dX4_replaceFirst_136 (by decide) ?_
    refine j_istore (lv' := [(7, vI 0), (6, vR r28), (5, vR r20), (0, vR (some t)), (1, vI x1), (3, vI x3), (4, vR (some a10))]) dX4_replaceFirst_137 (Nat.le_of_ble_eq_true rfl) rfl ?_
    exact J.sub (zall [3, 4, 5, 2, 1, 0] rfl) (wflX4_replaceFirst_139 hd t x1 x3 r20 r28 0  G29 h hk)
def fbX4_replaceFirst_2 (t : Nat) (x1 : Int32) (x2 : Int32) (x3 : Int32)  (G : GS) : Option ((Int32) ⊕ (((Int32) ⊕ String) × GS)) :=
  (zgR G 4 t 0).bind fun r1 => r1.bind fun a3 => zk [12] G a3 <| (fJ2_size_0 a3 G).bind fun v7 => if v7 ≤ x3 then (zo (zcond (zbb 0) (some (.inl 0, G)))) else ((zgR G 4 t 0).bind fun r10 => r10.bind fun a12 => zk [12] G a12 <| (fJ2_get_0 a12 x3 G).bind fun r16 => zkq [3] G r16 (r16.bind fun a18 => (zgI G 3 a18 0).bind fun v20 => if v20 = x1 then ((zgR G 3 a18 1).bind fun r23 => r23.bind fun a25 => (zln G a25).bind fun v27 => if v27 = 0 then (fX4_replaceFirst_201 t x1 x2 x3 G) else ((zgR G 3 a18 1).bind fun r30 => r30.bind fun a32 => (zaI G 50 a32 (0 : Int32)).bind fun v34 => (fX1_isNonterminal_0 v34 G).bind fun v37 => if v37 = 0 then (fX4_replaceFirst_201 t x1 x2 x3 G) else ((zgR G 3 a18 1).bind fun r39 => r39.bind fun a41 => (zaI G 50 a41 (0 : Int32)).bind fun v43 => if ((x2 >>> ((v43 - 20) &&& 31)) &&& 1) = 0 then (fX4_replaceFirst_201 t x1 x2 x3 G) else (zo (fX4_replaceFirst_81 t x1 x3 (some a18) G))))) else (fX4_replaceFirst_201 t x1 x2 x3 G)))
def flX4_replaceFirst_2 (t : Nat) (x1 : Int32) (x2 : Int32) (x3 : Int32) (G : GS) : Option (((Int32) ⊕ String) × GS) := zloop (fun s : Int32 => fbX4_replaceFirst_2 t x1 x2 s G) (x3)
theorem wfbX4_replaceFirst_2 {F : zF} (hd : 21 ≤ F.2.2.2) (t : Nat) (x1 : Int32) (x2 : Int32) (x3 : Int32) (G : GS) {a : (Int32) ⊕ (((Int32) ⊕ String) × GS)} (h : fbX4_replaceFirst_2 t x1 x2 x3 G = some a) (hk : (zcase (fun s : Int32 => J mX4_replaceFirst F G 2 [(0, vR (some t)), (1, vI x1), (2, vI x2), (3, vI s)] []) (zKXI F)) a) : J mX4_replaceFirst F G 2 [(0, vR (some t)), (1, vI x1), (2, vI x2), (3, vI x3)] [] := by
  unfold fbX4_replaceFirst_2 at h
  refine j_iload_n (j := 3) dX4_replaceFirst_2 rfl rfl ?_
  refine j_aload_n (j := 0) dX4_replaceFirst_3 rfl rfl ?_
  replace h := zbE h
  obtain ⟨r1, e2, h⟩ := h
  refine j_getR fgX4_14 (fun _ _ _ => rfl) dX4_replaceFirst_4 e2 ?_
  replace h := zbE h
  obtain ⟨a3, e4, h⟩ := h
  subst e4
  replace h := zkE h
  obtain ⟨e5, h⟩ := h
  replace h := zbE h
  obtain ⟨v7, e6, h⟩ := h
  refine j_cont (zrF (As := []) msX4_60_J2 (yJ2_size_ok e6) (Nat.le_trans (Nat.le_of_ble_eq_true rfl) hd) (zk_12 _ e5) rfl rfl (Nat.le_of_ble_eq_true rfl) dX4_replaceFirst_7) ?_
  refine j_icmp_ge (tgt := 207) dX4_replaceFirst_12 (by decide) (fun c8 => ?_) (fun c8 => ?_)
  · rw [if_pos c8] at h
    replace h := zoE h
    obtain ⟨a, h, rfl⟩ := h
    replace hk := hk
    refine j_iconst (v := 0) dX4_replaceFirst_207 (by decide) ?_
    replace h := zcondE h
    obtain ⟨e9, h⟩ := h
    obtain rfl := Option.some.inj h
    exact j_zret hk.1 hk.2 rfl (zbb_n e9) dX4_replaceFirst_208
  · rw [if_neg c8] at h
    refine j_aload_n (j := 0) dX4_replaceFirst_15 rfl rfl ?_
    replace h := zbE h
    obtain ⟨r10, e11, h⟩ := h
    refine j_getR fgX4_14 (fun _ _ _ => rfl) dX4_replaceFirst_16 e11 ?_
    refine j_iload_n (j := 3) dX4_replaceFirst_19 rfl rfl ?_
    replace h := zbE h
    obtain ⟨a12, e13, h⟩ := h
    subst e13
    replace h := zkE h
    obtain ⟨e14, h⟩ := h
    replace h := zbE h
    obtain ⟨r16, e15, h⟩ := h
    refine j_cont (zrF (As := [vI x3]) msX4_80_J2 (yJ2_get_ok e15) (Nat.le_trans (Nat.le_of_ble_eq_true rfl) hd) (zk_12 _ e14) rfl rfl (Nat.le_of_ble_eq_true rfl) dX4_replaceFirst_20) ?_
    replace h := zkqE h
    obtain ⟨e17, h⟩ := h
    refine j_castq (fun k => j_castN dX4_replaceFirst_25 k) (fun b q46 k => j_castS (zk_3 _ (e17 b q46)) ⟨2, _, rfl, rfl⟩ q399 dX4_replaceFirst_25 k) ?_
    refine j_astore (lv' := [(4, vR r16), (0, vR (some t)), (1, vI x1), (2, vI x2), (3, vI x3)]) dX4_replaceFirst_28 (Nat.le_of_ble_eq_true rfl) rfl ?_
    refine j_aload (j := 0) dX4_replaceFirst_30 rfl ?_
    replace h := zbE h
    obtain ⟨a18, e19, h⟩ := h
    subst e19
    replace h := zbE h
    obtain ⟨v20, e21, h⟩ := h
    refine j_getI fgX4_38 (fun _ _ _ => rfl) dX4_replaceFirst_32 e21 ?_
    refine j_iload_n (j := 2) dX4_replaceFirst_35 rfl rfl ?_
    refine j_icmp_ne (tgt := 201) dX4_replaceFirst_36 (by decide) (fun c22 => ?_) (fun c22 => ?_)
    · rw [if_pos c22] at h
      refine j_aload (j := 0) dX4_replaceFirst_39 rfl ?_
      replace h := zbE h
      obtain ⟨r23, e24, h⟩ := h
      refine j_getR fgX4_42 (fun _ _ _ => rfl) dX4_replaceFirst_41 e24 ?_
      replace h := zbE h
      obtain ⟨a25, e26, h⟩ := h
      subst e26
      replace h := zbE h
      obtain ⟨v27, e28, h⟩ := h
      refine j_alen e28 dX4_replaceFirst_44 ?_
      refine j_if_eq (tgt := 201) dX4_replaceFirst_45 (by decide) (fun c29 => ?_) (fun c29 => ?_)
      · rw [if_pos c29] at h
        exact J.sub (zall [1, 2, 3, 4] rfl) (wfX4_replaceFirst_201 hd t x1 x2 x3  G h hk)
      · rw [if_neg c29] at h
        refine j_aload (j := 0) dX4_replaceFirst_48 rfl ?_
        replace h := zbE h
        obtain ⟨r30, e31, h⟩ := h
        refine j_getR fgX4_42 (fun _ _ _ => rfl) dX4_replaceFirst_50 e31 ?_
        refine j_iconst (v := 0) dX4_replaceFirst_53 (by decide) ?_
        replace h := zbE h
        obtain ⟨a32, e33, h⟩ := h
        subst e33
        replace h := zbE h
        obtain ⟨v34, e35, h⟩ := h
        refine j_iald (Or.inl rfl) e35 dX4_replaceFirst_54 ?_
        replace h := zbE h
        obtain ⟨v37, e36, h⟩ := h
        refine j_cont (zrSN (As := [vI v34]) msX4_46 q401 (yX1_isNonterminal_ok e36) (Nat.le_trans (Nat.le_of_ble_eq_true rfl) hd) rfl rfl (Nat.le_of_ble_eq_true rfl) dX4_replaceFirst_55) ?_
        refine j_if_eq (tgt := 201) dX4_replaceFirst_58 (by decide) (fun c38 => ?_) (fun c38 => ?_)
        · rw [if_pos c38] at h
          exact J.sub (zall [1, 2, 3, 4] rfl) (wfX4_replaceFirst_201 hd t x1 x2 x3  G h hk)
        · rw [if_neg c38] at h
          refine j_iload_n (j := 3) dX4_replaceFirst_61 rfl rfl ?_
          refine j_aload (j := 0) dX4_replaceFirst_62 rfl ?_
          replace h := zbE h
          obtain ⟨r39, e40, h⟩ := h
          refine j_getR fgX4_42 (fun _ _ _ => rfl) dX4_replaceFirst_64 e40 ?_
          refine j_iconst (v := 0) dX4_replaceFirst_67 (by decide) ?_
          replace h := zbE h
          obtain ⟨a41, e42, h⟩ := h
          subst e42
          replace h := zbE h
          obtain ⟨v43, e44, h⟩ := h
          refine j_iald (Or.inl rfl) e44 dX4_replaceFirst_68 ?_
          refine j_bipush (v := 20) dX4_replaceFirst_69 (by decide) ?_
          refine j_isub dX4_replaceFirst_71 ?_
          refine j_ishr dX4_replaceFirst_72 ?_
          refine j_iconst (v := 1) dX4_replaceFirst_73 (by decide) ?_
          refine j_iand dX4_replaceFirst_74 ?_
          refine j_if_ne (tgt := 81) dX4_replaceFirst_75 (by decide) (fun c45 => ?_) (fun c45 => ?_)
          · rw [if_pos c45] at h
            refine j_goto (tgt := 201) dX4_replaceFirst_78 (by decide) ?_
            exact J.sub (zall [1, 2, 3, 4] rfl) (wfX4_replaceFirst_201 hd t x1 x2 x3  G h hk)
          · rw [if_neg c45] at h
            replace h := zoE h
            obtain ⟨a, h, rfl⟩ := h
            replace hk := hk
            exact J.sub (zall [1, 2, 4, 0] rfl) (wfX4_replaceFirst_81 hd t x1 x3 (some a18)  G h hk)
    · rw [if_neg c22] at h
      exact J.sub (zall [1, 2, 3, 4] rfl) (wfX4_replaceFirst_201 hd t x1 x2 x3  G h hk)
theorem wflX4_replaceFirst_2 {F : zF} (hd : 21 ≤ F.2.2.2) (t : Nat) (x1 : Int32) (x2 : Int32) (x3 : Int32) (G : GS) {a : ((Int32) ⊕ String) × GS} (h : flX4_replaceFirst_2 t x1 x2 x3 G = some a) (hk : zKXI F a) : J mX4_replaceFirst F G 2 [(0, vR (some t)), (1, vI x1), (2, vI x2), (3, vI x3)] [] := by
  unfold flX4_replaceFirst_2 at h
  exact zloop_walk (P := (fun s : Int32 => J mX4_replaceFirst F G 2 [(0, vR (some t)), (1, vI x1), (2, vI x2), (3, vI s)] [])) (fun s b e hk => wfbX4_replaceFirst_2 hd t x1 x2 s G e hk) (x3) _ h hk
def fX4_replaceFirst_0 (t : Nat) (x1 : Int32) (x2 : Int32)  (G : GS) : Option (((Int32) ⊕ String) × GS) :=
  flX4_replaceFirst_2 t x1 x2 0 G
theorem wfX4_replaceFirst_0 {F : zF} (hd : 21 ≤ F.2.2.2) (t : Nat) (x1 : Int32) (x2 : Int32)  (G : GS) {a : ((Int32) ⊕ String) × GS} (h : fX4_replaceFirst_0 t x1 x2  G = some a) (hk : zKXI F a) : J mX4_replaceFirst F G 0 [(0, vR (some t)), (1, vI x1), (2, vI x2)] [] := by
  unfold fX4_replaceFirst_0 at h
  refine j_iconst (v := 0) dX4_replaceFirst_0 (by decide) ?_
  refine j_istore_n (lv' := [(3, vI 0), (0, vR (some t)), (1, vI x1), (2, vI x2)]) dX4_replaceFirst_1 rfl (Nat.le_of_ble_eq_true rfl) rfl ?_
  exact J.sub (zall [1, 2, 3, 0] rfl) (wflX4_replaceFirst_2 hd t x1 x2 0  G h hk)
theorem yX4_replaceFirst_ok {t : Nat} {x1 : Int32} {x2 : Int32} {G : GS} {r : (Int32) ⊕ String} {G1 : GS} (h : fX4_replaceFirst_0 t x1 x2 G = some (r, G1)) : zRuns yX4_replaceFirst (ws_ yX4_replaceFirst cX4_replaceFirst 8 (some Jvm.ClassFile.FieldType.boolean)) [vR (some t), vI x1, vI x2] (zout (fun v => some (vI v)) r, G, G1, 21) :=
  zentry (M := mX4_replaceFirst) (plainFor_of_name (by decide +kernel)) ⟨rfl, rfl, rfl, rfl⟩ (Nat.le_of_ble_eq_true rfl) (wfX4_replaceFirst_0 (Nat.le_refl _) t x1 x2 G h ⟨rfl, rfl⟩)
abbrev mJ2_clear : zM := (cJ2_clear, RJ2, 4, none, "clear", [], "()V")
def fbJ2_clear_27 (x1 : Option Nat) (x2 : Int32) (x3 : Int32)  (G : GS) : Option ((Int32 × GS) ⊕ (GS)) :=
  if x2 ≤ x3 then (zo (some G)) else (x1.bind fun a2 => (zsR G 54 a2 x3 (none : Option Nat) [3]).bind fun G4 => some (.inl ((x3 + 1), G4)))
def flJ2_clear_27 (x1 : Option Nat) (x2 : Int32) (x3 : Int32) (G : GS) : Option (GS) := zloop (fun s : Int32 × GS => fbJ2_clear_27 x1 x2 s.1 s.2) (x3, G)
theorem wfbJ2_clear_27 {F : zF} (hd : 1 ≤ F.2.2.2) (x1 : Option Nat) (x2 : Int32) (x3 : Int32) (G : GS) {a : (Int32 × GS) ⊕ (GS)} (h : fbJ2_clear_27 x1 x2 x3 G = some a) (hk : (zcase (fun s : Int32 × GS => J mJ2_clear F s.2 27 [(1, vR x1), (2, vI x2), (3, vI s.1)] []) (zKV F)) a) : J mJ2_clear F G 27 [(1, vR x1), (2, vI x2), (3, vI x3)] [] := by
  unfold fbJ2_clear_27 at h
  refine j_iload_n (j := 2) dJ2_clear_27 rfl rfl ?_
  refine j_iload_n (j := 1) dJ2_clear_28 rfl rfl ?_
  refine j_icmp_ge (tgt := 42) dJ2_clear_29 (by decide) (fun c1 => ?_) (fun c1 => ?_)
  · rw [if_pos c1] at h
    replace h := zoE h
    obtain ⟨a, h, rfl⟩ := h
    replace hk := hk
    obtain rfl := Option.some.inj h
    exact j_vret hk.1 hk.2 rfl dJ2_clear_42
  · rw [if_neg c1] at h
    refine j_aload_n (j := 0) dJ2_clear_32 rfl rfl ?_
    refine j_iload_n (j := 2) dJ2_clear_33 rfl rfl ?_
    refine j_null dJ2_clear_34 ?_
    replace h := zbE h
    obtain ⟨a2, e3, h⟩ := h
    subst e3
    replace h := zbE h
    obtain ⟨G4, e5, h⟩ := h
    refine j_aast (t := 4) rfl e5 (fun k hk => ⟨_, zk_3 k hk, (Or.inl (zxw 93 rfl))⟩) dJ2_clear_35 ?_
    refine j_iinc (j := 2) (v := (x3 + 1)) (lv' := [(3, vI (x3 + 1)), (1, vR (some a2)), (2, vI x2)]) dJ2_clear_36 rfl rfl (Nat.le_of_ble_eq_true rfl) rfl ?_
    refine j_goto (tgt := 27) dJ2_clear_39 (by decide) ?_
    obtain rfl := Option.some.inj h
    exact J.sub (zall [1, 2, 0] rfl) hk
theorem wflJ2_clear_27 {F : zF} (hd : 1 ≤ F.2.2.2) (x1 : Option Nat) (x2 : Int32) (x3 : Int32) (G : GS) {a : GS} (h : flJ2_clear_27 x1 x2 x3 G = some a) (hk : zKV F a) : J mJ2_clear F G 27 [(1, vR x1), (2, vI x2), (3, vI x3)] [] := by
  unfold flJ2_clear_27 at h
  exact zloop_walk (P := (fun s : Int32 × GS => J mJ2_clear F s.2 27 [(1, vR x1), (2, vI x2), (3, vI s.1)] [])) (fun s b e hk => wfbJ2_clear_27 hd x1 x2 s.1 s.2 e hk) (x3, G) _ h hk
def fJ2_clear_0 (t : Nat)  (G : GS) : Option (GS) :=
  (zgI G 12 t 0).bind fun v1 => (zpI G 12 t 0 (v1 + 1)).bind fun G3 => (zgR G3 12 t 1).bind fun r5 => (zgI G3 12 t 2).bind fun v7 => (zpI G3 12 t 2 0).bind fun G9 => flJ2_clear_27 r5 v7 0 G9
theorem wfJ2_clear_0 {F : zF} (hd : 1 ≤ F.2.2.2) (t : Nat)  (G : GS) {a : GS} (h : fJ2_clear_0 t  G = some a) (hk : zKV F a) : J mJ2_clear F G 0 [(0, vR (some t))] [] := by
  unfold fJ2_clear_0 at h
  refine j_aload_n (j := 0) dJ2_clear_0 rfl rfl ?_
  refine j_dup dJ2_clear_1 rfl ?_
  replace h := zbE h
  obtain ⟨v1, e2, h⟩ := h
  refine j_getI fgJ2_63 (fun _ _ _ => rfl) dJ2_clear_2 e2 ?_
  refine j_iconst (v := 1) dJ2_clear_5 (by decide) ?_
  refine j_iadd dJ2_clear_6 ?_
  replace h := zbE h
  obtain ⟨G3, e4, h⟩ := h
  refine j_putI fpJ2_63_J2 (Or.inl rfl) rfl dJ2_clear_7 e4 ?_
  refine j_aload_n (j := 0) dJ2_clear_10 rfl rfl ?_
  replace h := zbE h
  obtain ⟨r5, e6, h⟩ := h
  refine j_getR fgJ2_9 (fun _ _ _ => rfl) dJ2_clear_11 e6 ?_
  refine j_astore_n (lv' := [(1, vR r5), (0, vR (some t))]) dJ2_clear_14 rfl (Nat.le_of_ble_eq_true rfl) rfl ?_
  refine j_aload_n (j := 1) dJ2_clear_15 rfl rfl ?_
  replace h := zbE h
  obtain ⟨v7, e8, h⟩ := h
  refine j_getI fgJ2_48 (fun _ _ _ => rfl) dJ2_clear_16 e8 ?_
  refine j_istore_n (lv' := [(2, vI v7), (1, vR r5), (0, vR (some t))]) dJ2_clear_19 rfl (Nat.le_of_ble_eq_true rfl) rfl ?_
  refine j_aload_n (j := 2) dJ2_clear_20 rfl rfl ?_
  refine j_iconst (v := 0) dJ2_clear_21 (by decide) ?_
  refine j_dup_x1 dJ2_clear_22 rfl rfl ?_
  replace h := zbE h
  obtain ⟨G9, e10, h⟩ := h
  refine j_putI fpJ2_48_J2 (Or.inl rfl) rfl dJ2_clear_23 e10 ?_
  refine j_istore_n (lv' := [(3, vI 0), (2, vI v7), (1, vR r5), (0, vR (some t))]) dJ2_clear_26 rfl (Nat.le_of_ble_eq_true rfl) rfl ?_
  exact J.sub (zall [2, 1, 0] rfl) (wflJ2_clear_27 hd r5 v7 0  G9 h hk)
theorem yJ2_clear_ok {t : Nat} {G : GS} {G1 : GS} (h : fJ2_clear_0 t G = some G1) : zRuns yJ2_clear (ws_ yJ2_clear cJ2_clear 4 none) [vR (some t)] (.inl none, G, G1, 1) :=
  zentry (M := mJ2_clear) (plainFor_of_name (by decide +kernel)) ⟨rfl, rfl, rfl, rfl⟩ (Nat.le_of_ble_eq_true rfl) (wfJ2_clear_0 (Nat.le_refl _) t G h ⟨rfl, rfl⟩)
end
