/-! printed: functions and walks -/
set_option maxRecDepth 100000
noncomputable section
theorem msX12_85 : zSV RX12 85 RX12 yX12_once cX12_once 4 (some Jvm.ClassFile.FieldType.long) 3 := ⟨lw_V q1598 q1600 qs31 q173 q1601, (by decide +kernel), (by decide)⟩
theorem msX12_89 : zSS RX12 89 yJ14_min_2 cJ14_min_2 4 (some Jvm.ClassFile.FieldType.long) 2 := ⟨lw_S q1602 q1603 q140 q1604, (by decide +kernel), (by decide)⟩
abbrev mX12_goBehind : zM := (cX12_goBehind, RX12, 8, none, "goBehind", [], "(II[J)V")
def fX12_goBehind_68 (rec : zWay) (t : Nat) (x1 : Int32) (x2 : Int32) (x3 : Option Nat) (x4 : Int32) (x5 : Int64)  (G : GS) : Option ((Int32 × GS) ⊕ (GS)) :=
  x3.bind fun a1 => (zsL G 51 a1 x4 x5).bind fun G3 => some (.inl ((x4 + (-1)), G3))
theorem wfX12_goBehind_68 {F : zF} (dr : Nat) (rec : zWay) (hdr : 60 ≤ dr) (hrec : zRec dr rec) (hd : dr + 2 ≤ F.2.2.2) (t : Nat) (x1 : Int32) (x2 : Int32) (x3 : Option Nat) (x4 : Int32) (x5 : Int64)  (G : GS) {a : (Int32 × GS) ⊕ (GS)} (h : fX12_goBehind_68 rec t x1 x2 x3 x4 x5  G = some a) (hk : (zcase (fun s : Int32 × GS => J mX12_goBehind F s.2 6 [(0, vR (some t)), (1, vI x1), (2, vI x2), (3, vR x3), (4, vI s.1)] []) (zKV F)) a) : J mX12_goBehind F G 68 [(0, vR (some t)), (1, vI x1), (2, vI x2), (3, vR x3), (4, vI x4), (5, vL x5)] [] := by
  unfold fX12_goBehind_68 at h
  refine j_aload_n (j := 3) dX12_goBehind_68 rfl rfl ?_
  refine j_iload (j := 4) dX12_goBehind_69 rfl ?_
  refine j_lload (j := 5) dX12_goBehind_71 rfl ?_
  replace h := zbE h
  obtain ⟨a1, e2, h⟩ := h
  subst e2
  replace h := zbE h
  obtain ⟨G3, e4, h⟩ := h
  refine j_last e4 dX12_goBehind_73 ?_
  refine j_iinc (j := 4) (v := (x4 + (-1))) (lv' := [(4, vI (x4 + (-1))), (0, vR (some t)), (1, vI x1), (2, vI x2), (3, vR (some a1)), (5, vL x5)]) dX12_goBehind_74 rfl rfl (Nat.le_of_ble_eq_true rfl) rfl ?_
  refine j_goto (tgt := 6) dX12_goBehind_77 (by decide) ?_
  obtain rfl := Option.some.inj h
  exact J.sub (zall [1, 2, 3, 4, 0] rfl) hk
def fX12_goBehind_62 (rec : zWay) (t : Nat) (x1 : Int32) (x2 : Int32) (x3 : Option Nat) (x4 : Int32) (x5 : Int64) (x7 : Int32)  (G : GS) : Option ((Int64 × Int32 × GS) ⊕ ((Int32 × GS) ⊕ (GS))) :=
  some (.inl (x5, (x7 + 1), G))
theorem wfX12_goBehind_62 {F : zF} (dr : Nat) (rec : zWay) (hdr : 60 ≤ dr) (hrec : zRec dr rec) (hd : dr + 2 ≤ F.2.2.2) (t : Nat) (x1 : Int32) (x2 : Int32) (x3 : Option Nat) (x4 : Int32) (x5 : Int64) (x7 : Int32)  (G : GS) {a : (Int64 × Int32 × GS) ⊕ ((Int32 × GS) ⊕ (GS))} (h : fX12_goBehind_62 rec t x1 x2 x3 x4 x5 x7  G = some a) (hk : (zcase (fun s : Int64 × Int32 × GS => J mX12_goBehind F s.2.2 17 [(0, vR (some t)), (1, vI x1), (2, vI x2), (3, vR x3), (4, vI x4), (5, vL s.1), (7, vI s.2.1)] []) ((zcase (fun s : Int32 × GS => J mX12_goBehind F s.2 6 [(0, vR (some t)), (1, vI x1), (2, vI x2), (3, vR x3), (4, vI s.1)] []) (zKV F)))) a) : J mX12_goBehind F G 62 [(0, vR (some t)), (1, vI x1), (2, vI x2), (3, vR x3), (4, vI x4), (5, vL x5), (7, vI x7)] [] := by
  unfold fX12_goBehind_62 at h
  refine j_iinc (j := 6) (v := (x7 + 1)) (lv' := [(7, vI (x7 + 1)), (0, vR (some t)), (1, vI x1), (2, vI x2), (3, vR x3), (4, vI x4), (5, vL x5)]) dX12_goBehind_62 rfl rfl (Nat.le_of_ble_eq_true rfl) rfl ?_
  refine j_goto (tgt := 17) dX12_goBehind_65 (by decide) ?_
  obtain rfl := Option.some.inj h
  exact J.sub (zall [1, 2, 3, 4, 5, 6, 0] rfl) hk
def fbX12_goBehind_17 (rec : zWay) (t : Nat) (x1 : Int32) (x2 : Int32) (x3 : Option Nat) (x4 : Int32) (x5 : Int64) (x7 : Int32)  (G : GS) : Option ((Int64 × Int32 × GS) ⊕ ((Int32 × GS) ⊕ (GS))) :=
  if x4 < x7 then (zo (fX12_goBehind_68 rec t x1 x2 x3 x4 x5 G)) else (x3.bind fun a2 => (zaL G 51 a2 x7).bind fun l4 => if (lg_cmp l4 (0 : Int64)) ≤ 0 then (fX12_goBehind_62 rec t x1 x2 (some a2) x4 x5 x7 G) else ((zaL G 51 a2 x7).bind fun l7 => zk [11] G t <| zb2 (fX12_once_0 rec t x1 (x2 + x7) (x2 + x4) G) fun l11 G12 => (fJ14_min_2_0 1000000 (x5 + (l7 * l11)) G12).bind fun l14 => fX12_goBehind_62 rec t x1 x2 (some a2) x4 l14 x7 G12))
def flX12_goBehind_17 (rec : zWay) (t : Nat) (x1 : Int32) (x2 : Int32) (x3 : Option Nat) (x4 : Int32) (x5 : Int64) (x7 : Int32) (G : GS) : Option ((Int32 × GS) ⊕ (GS)) := zloop (fun s : Int64 × Int32 × GS => fbX12_goBehind_17 rec t x1 x2 x3 x4 s.1 s.2.1 s.2.2) (x5, x7, G)
theorem wfbX12_goBehind_17 {F : zF} (dr : Nat) (rec : zWay) (hdr : 60 ≤ dr) (hrec : zRec dr rec) (hd : dr + 2 ≤ F.2.2.2) (t : Nat) (x1 : Int32) (x2 : Int32) (x3 : Option Nat) (x4 : Int32) (x5 : Int64) (x7 : Int32) (G : GS) {a : (Int64 × Int32 × GS) ⊕ ((Int32 × GS) ⊕ (GS))} (h : fbX12_goBehind_17 rec t x1 x2 x3 x4 x5 x7 G = some a) (hk : (zcase (fun s : Int64 × Int32 × GS => J mX12_goBehind F s.2.2 17 [(0, vR (some t)), (1, vI x1), (2, vI x2), (3, vR x3), (4, vI x4), (5, vL s.1), (7, vI s.2.1)] []) ((zcase (fun s : Int32 × GS => J mX12_goBehind F s.2 6 [(0, vR (some t)), (1, vI x1), (2, vI x2), (3, vR x3), (4, vI s.1)] []) (zKV F)))) a) : J mX12_goBehind F G 17 [(0, vR (some t)), (1, vI x1), (2, vI x2), (3, vR x3), (4, vI x4), (5, vL x5), (7, vI x7)] [] := by
  unfold fbX12_goBehind_17 at h
  refine j_iload (j := 6) dX12_goBehind_17 rfl ?_
  refine j_iload (j := 4) dX12_goBehind_19 rfl ?_
  refine j_icmp_gt (tgt := 68) dX12_goBehind_21 (by decide) (fun c1 => ?_) (fun c1 => ?_)
  · rw [if_pos c1] at h
    replace h := zoE h
    obtain ⟨a, h, rfl⟩ := h
    replace hk := hk
    exact J.sub (zall [0, 1, 2, 3, 4, 5] rfl) (wfX12_goBehind_68 dr rec hdr hrec hd t x1 x2 x3 x4 x5  G h hk)
  · rw [if_neg c1] at h
    refine j_aload_n (j := 3) dX12_goBehind_24 rfl rfl ?_
    refine j_iload (j := 6) dX12_goBehind_25 rfl ?_
    replace h := zbE h
    obtain ⟨a2, e3, h⟩ := h
    subst e3
    replace h := zbE h
    obtain ⟨l4, e5, h⟩ := h
    refine j_lald rfl e5 dX12_goBehind_27 ?_
    refine j_lconst (v := 0) dX12_goBehind_28 rfl ?_
    refine j_lcmp dX12_goBehind_29 ?_
    refine j_if_le (tgt := 62) dX12_goBehind_30 (by decide) (fun c6 => ?_) (fun c6 => ?_)
    · rw [if_pos c6] at h
      exact J.sub (zall [0, 1, 2, 3, 4, 5, 6] rfl) (wfX12_goBehind_62 dr rec hdr hrec hd t x1 x2 (some a2) x4 x5 x7  G h hk)
    · rw [if_neg c6] at h
      refine j_ldc2 (v := 1000000) q1597 dX12_goBehind_33 ?_
      refine j_lload (j := 5) dX12_goBehind_36 rfl ?_
      refine j_aload_n (j := 3) dX12_goBehind_38 rfl rfl ?_
      refine j_iload (j := 6) dX12_goBehind_39 rfl ?_
      replace h := zbE h
      obtain ⟨l7, e8, h⟩ := h
      refine j_lald rfl e8 dX12_goBehind_41 ?_
      refine j_aload_n (j := 0) dX12_goBehind_42 rfl rfl ?_
      refine j_iload_n (j := 1) dX12_goBehind_43 rfl rfl ?_
      refine j_iload_n (j := 2) dX12_goBehind_44 rfl rfl ?_
      refine j_iload (j := 6) dX12_goBehind_45 rfl ?_
      refine j_iadd dX12_goBehind_47 ?_
      refine j_iload_n (j := 2) dX12_goBehind_48 rfl rfl ?_
      refine j_iload (j := 4) dX12_goBehind_49 rfl ?_
      refine j_iadd dX12_goBehind_51 ?_
      replace h := zkE h
      obtain ⟨e9, h⟩ := h
      replace h := zb2E h
      obtain ⟨l11, G12, e10, h⟩ := h
      refine j_cont (zrV (As := [vI x1, vI (x2 + x7), vI (x2 + x4)]) msX12_85 (yX12_once_ok dr rec hdr hrec e10) (by omega) (zk_11 _ e9) rfl rfl (Nat.le_of_ble_eq_true rfl) dX12_goBehind_52) ?_
      refine j_lmul dX12_goBehind_55 ?_
      refine j_ladd dX12_goBehind_56 ?_
      replace h := zbE h
      obtain ⟨l14, e13, h⟩ := h
      refine j_cont (zrS (As := [vL 1000000, vL (x5 + (l7 * l11))]) msX12_89 (yJ14_min_2_ok e13) (by omega) rfl rfl (Nat.le_of_ble_eq_true rfl) dX12_goBehind_57) ?_
      refine j_lstore (lv' := [(5, vL l14), (0, vR (some t)), (1, vI x1), (2, vI x2), (3, vR (some a2)), (4, vI x4), (7, vI x7)]) dX12_goBehind_60 (Nat.le_of_ble_eq_true rfl) rfl ?_
      exact J.sub (zall [1, 2, 3, 4, 5, 0, 6] rfl) (wfX12_goBehind_62 dr rec hdr hrec hd t x1 x2 (some a2) x4 l14 x7  G12 h hk)
theorem wflX12_goBehind_17 {F : zF} (dr : Nat) (rec : zWay) (hdr : 60 ≤ dr) (hrec : zRec dr rec) (hd : dr + 2 ≤ F.2.2.2) (t : Nat) (x1 : Int32) (x2 : Int32) (x3 : Option Nat) (x4 : Int32) (x5 : Int64) (x7 : Int32) (G : GS) {a : (Int32 × GS) ⊕ (GS)} (h : flX12_goBehind_17 rec t x1 x2 x3 x4 x5 x7 G = some a) (hk : (zcase (fun s : Int32 × GS => J mX12_goBehind F s.2 6 [(0, vR (some t)), (1, vI x1), (2, vI x2), (3, vR x3), (4, vI s.1)] []) (zKV F)) a) : J mX12_goBehind F G 17 [(0, vR (some t)), (1, vI x1), (2, vI x2), (3, vR x3), (4, vI x4), (5, vL x5), (7, vI x7)] [] := by
  unfold flX12_goBehind_17 at h
  exact zloop_walk (P := (fun s : Int64 × Int32 × GS => J mX12_goBehind F s.2.2 17 [(0, vR (some t)), (1, vI x1), (2, vI x2), (3, vR x3), (4, vI x4), (5, vL s.1), (7, vI s.2.1)] [])) (fun s b e hk => wfbX12_goBehind_17 dr rec hdr hrec hd t x1 x2 x3 x4 s.1 s.2.1 s.2.2 e hk) (x5, x7, G) _ h hk
def fbX12_goBehind_6 (rec : zWay) (t : Nat) (x1 : Int32) (x2 : Int32) (x3 : Option Nat) (x4 : Int32)  (G : GS) : Option ((Int32 × GS) ⊕ (GS)) :=
  if x4 < 0 then (zo (some G)) else (flX12_goBehind_17 rec t x1 x2 x3 x4 0 0 G)
def flX12_goBehind_6 (rec : zWay) (t : Nat) (x1 : Int32) (x2 : Int32) (x3 : Option Nat) (x4 : Int32) (G : GS) : Option (GS) := zloop (fun s : Int32 × GS => fbX12_goBehind_6 rec t x1 x2 x3 s.1 s.2) (x4, G)
theorem wfbX12_goBehind_6 {F : zF} (dr : Nat) (rec : zWay) (hdr : 60 ≤ dr) (hrec : zRec dr rec) (hd : dr + 2 ≤ F.2.2.2) (t : Nat) (x1 : Int32) (x2 : Int32) (x3 : Option Nat) (x4 : Int32) (G : GS) {a : (Int32 × GS) ⊕ (GS)} (h : fbX12_goBehind_6 rec t x1 x2 x3 x4 G = some a) (hk : (zcase (fun s : Int32 × GS => J mX12_goBehind F s.2 6 [(0, vR (some t)), (1, vI x1), (2, vI x2), (3, vR x3), (4, vI s.1)] []) (zKV F)) a) : J mX12_goBehind F G 6 [(0, vR (some t)), (1, vI x1), (2, vI x2), (3, vR x3), (4, vI x4)] [] := by
  unfold fbX12_goBehind_6 at h
  refine j_iload (j := 4) dX12_goBehind_6 rfl ?_
  refine j_if_lt (tgt := 80) dX12_goBehind_8 (by decide) (fun c1 => ?_) (fun c1 => ?_)
  · rw [if_pos c1] at h
    replace h := zoE h
    obtain ⟨a, h, rfl⟩ := h
    replace hk := hk
    obtain rfl := Option.some.inj h
    exact j_vret hk.1 hk.2 rfl dX12_goBehind_80
  · rw [if_neg c1] at h
    refine j_lconst (v := 0) dX12_goBehind_11 rfl ?_
    refine j_lstore (lv' := [(5, vL 0), (0, vR (some t)), (1, vI x1), (2, vI x2), (3, vR x3), (4, vI x4)]) dX12_goBehind_12 (Nat.le_of_ble_eq_true rfl) rfl ?_
    refine j_iconst (v := 0) dX12_goBehind_14 (by decide) ?_
    refine j_istore (lv' := [(7, vI 0), (5, vL 0), (0, vR (some t)), (1, vI x1), (2, vI x2), (3, vR x3), (4, vI x4)]) dX12_goBehind_15 (Nat.le_of_ble_eq_true rfl) rfl ?_
    exact J.sub (zall [2, 3, 4, 5, 6, 1, 0] rfl) (wflX12_goBehind_17 dr rec hdr hrec hd t x1 x2 x3 x4 0 0  G h hk)
theorem wflX12_goBehind_6 {F : zF} (dr : Nat) (rec : zWay) (hdr : 60 ≤ dr) (hrec : zRec dr rec) (hd : dr + 2 ≤ F.2.2.2) (t : Nat) (x1 : Int32) (x2 : Int32) (x3 : Option Nat) (x4 : Int32) (G : GS) {a : GS} (h : flX12_goBehind_6 rec t x1 x2 x3 x4 G = some a) (hk : zKV F a) : J mX12_goBehind F G 6 [(0, vR (some t)), (1, vI x1), (2, vI x2), (3, vR x3), (4, vI x4)] [] := by
  unfold flX12_goBehind_6 at h
  exact zloop_walk (P := (fun s : Int32 × GS => J mX12_goBehind F s.2 6 [(0, vR (some t)), (1, vI x1), (2, vI x2), (3, vR x3), (4, vI s.1)] [])) (fun s b e hk => wfbX12_goBehind_6 dr rec hdr hrec hd t x1 x2 x3 s.1 s.2 e hk) (x4, G) _ h hk
def fX12_goBehind_0 (rec : zWay) (t : Nat) (x1 : Int32) (x2 : Int32) (x3 : Option Nat)  (G : GS) : Option (GS) :=
  x3.bind fun a1 => (zln G a1).bind fun v3 => flX12_goBehind_6 rec t x1 x2 (some a1) (v3 - 1) G
theorem wfX12_goBehind_0 {F : zF} (dr : Nat) (rec : zWay) (hdr : 60 ≤ dr) (hrec : zRec dr rec) (hd : dr + 2 ≤ F.2.2.2) (t : Nat) (x1 : Int32) (x2 : Int32) (x3 : Option Nat)  (G : GS) {a : GS} (h : fX12_goBehind_0 rec t x1 x2 x3  G = some a) (hk : zKV F a) : J mX12_goBehind F G 0 [(0, vR (some t)), (1, vI x1), (2, vI x2), (3, vR x3)] [] := by
  unfold fX12_goBehind_0 at h
  refine j_aload_n (j := 3) dX12_goBehind_0 rfl rfl ?_
  replace h := zbE h
  obtain ⟨a1, e2, h⟩ := h
  subst e2
  replace h := zbE h
  obtain ⟨v3, e4, h⟩ := h
  refine j_alen e4 dX12_goBehind_1 ?_
  refine j_iconst (v := 1) dX12_goBehind_2 (by decide) ?_
  refine j_isub dX12_goBehind_3 ?_
  refine j_istore (lv' := [(4, vI (v3 - 1)), (0, vR (some t)), (1, vI x1), (2, vI x2), (3, vR (some a1))]) dX12_goBehind_4 (Nat.le_of_ble_eq_true rfl) rfl ?_
  exact J.sub (zall [1, 2, 3, 4, 0] rfl) (wflX12_goBehind_6 dr rec hdr hrec hd t x1 x2 (some a1) (v3 - 1)  G h hk)
theorem yX12_goBehind_ok (dr : Nat) (rec : zWay) (hdr : 60 ≤ dr) (hrec : zRec dr rec) {t : Nat} {x1 : Int32} {x2 : Int32} {x3 : Option Nat} {G : GS} {G1 : GS} (h : fX12_goBehind_0 rec t x1 x2 x3 G = some G1) : zRuns yX12_goBehind (ws_ yX12_goBehind cX12_goBehind 8 none) [vR (some t), vI x1, vI x2, vR x3] (.inl none, G, G1, dr + 2) :=
  zentry (M := mX12_goBehind) (plainFor_of_name (by decide +kernel)) ⟨rfl, rfl, rfl, rfl⟩ (Nat.le_of_ble_eq_true rfl) (wfX12_goBehind_0 dr rec hdr hrec (Nat.le_refl _) t x1 x2 x3 G h ⟨rfl, rfl⟩)
theorem msX12_74 : zSV RX12 74 RX12 yX12_goBehind cX12_goBehind 8 none 3 := ⟨lw_V q1593 q1595 qs30 q173 q1596, (by decide +kernel), (by decide)⟩
abbrev mX12_along : zM := (cX12_along, RX12, 9, (some Jvm.ClassFile.FieldType.int), "along", [], "([III)I")
def fX12_along_93 (rec : zWay) (x2 : Int32) (x3 : Int32) (x4 : Option Nat)  (G : GS) : Option ((Int32) × GS) :=
  x4.bind fun a1 => (zaL G 51 a1 (x3 - x2)).bind fun l3 => some (l3.toInt32, G)
theorem wfX12_along_93 {F : zF} (dr : Nat) (rec : zWay) (hdr : 60 ≤ dr) (hrec : zRec dr rec) (hd : dr + 3 ≤ F.2.2.2) (x2 : Int32) (x3 : Int32) (x4 : Option Nat)  (G : GS) {a : (Int32) × GS} (h : fX12_along_93 rec x2 x3 x4  G = some a) (hk : zKI F a) : J mX12_along F G 93 [(2, vI x2), (3, vI x3), (4, vR x4)] [] := by
  unfold fX12_along_93 at h
  refine j_aload (j := 2) dX12_along_93 rfl ?_
  refine j_iload_n (j := 1) dX12_along_95 rfl rfl ?_
  refine j_iload_n (j := 0) dX12_along_96 rfl rfl ?_
  refine j_isub dX12_along_97 ?_
  replace h := zbE h
  obtain ⟨a1, e2, h⟩ := h
  subst e2
  replace h := zbE h
  obtain ⟨l3, e4, h⟩ := h
  refine j_lald rfl e4 dX12_along_98 ?_
  refine j_l2i dX12_along_99 ?_
  obtain rfl := Option.some.inj h
  exact j_iret hk.1 hk.2 rfl dX12_along_100
def fbX12_along_64 (rec : zWay) (t : Nat) (x2 : Int32) (x3 : Int32) (x4 : Option Nat) (x5 : Option Nat) (x6 : Int32) (x7 : Int32)  (G : GS) : Option ((Int32 × GS) ⊕ ((Int32) × GS)) :=
  if x6 ≤ x7 then (zo (fX12_along_93 rec x2 x3 x4 G)) else (x5.bind fun a2 => (zaI G 50 a2 x7).bind fun v4 => zk [11] G t <| (fX12_goBehind_0 rec t v4 x2 x4 G).bind fun G8 => some (.inl ((x7 + 1), G8)))
def flX12_along_64 (rec : zWay) (t : Nat) (x2 : Int32) (x3 : Int32) (x4 : Option Nat) (x5 : Option Nat) (x6 : Int32) (x7 : Int32) (G : GS) : Option ((Int32) × GS) := zloop (fun s : Int32 × GS => fbX12_along_64 rec t x2 x3 x4 x5 x6 s.1 s.2) (x7, G)
theorem wfbX12_along_64 {F : zF} (dr : Nat) (rec : zWay) (hdr : 60 ≤ dr) (hrec : zRec dr rec) (hd : dr + 3 ≤ F.2.2.2) (t : Nat) (x2 : Int32) (x3 : Int32) (x4 : Option Nat) (x5 : Option Nat) (x6 : Int32) (x7 : Int32) (G : GS) {a : (Int32 × GS) ⊕ ((Int32) × GS)} (h : fbX12_along_64 rec t x2 x3 x4 x5 x6 x7 G = some a) (hk : (zcase (fun s : Int32 × GS => J mX12_along F s.2 64 [(0, vR (some t)), (2, vI x2), (3, vI x3), (4, vR x4), (5, vR x5), (6, vI x6), (7, vI s.1)] []) (zKI F)) a) : J mX12_along F G 64 [(0, vR (some t)), (2, vI x2), (3, vI x3), (4, vR x4), (5, vR x5), (6, vI x6), (7, vI x7)] [] := by
  unfold fbX12_along_64 at h
  refine j_iload (j := 6) dX12_along_64 rfl ?_
  refine j_iload (j := 5) dX12_along_66 rfl ?_
  refine j_icmp_ge (tgt := 93) dX12_along_68 (by decide) (fun c1 => ?_) (fun c1 => ?_)
  · rw [if_pos c1] at h
    replace h := zoE h
    obtain ⟨a, h, rfl⟩ := h
    replace hk := hk
    exact J.sub (zall [1, 2, 3] rfl) (wfX12_along_93 dr rec hdr hrec hd x2 x3 x4  G h hk)
  · rw [if_neg c1] at h
    refine j_aload (j := 4) dX12_along_71 rfl ?_
    refine j_iload (j := 6) dX12_along_73 rfl ?_
    replace h := zbE h
    obtain ⟨a2, e3, h⟩ := h
    subst e3
    replace h := zbE h
    obtain ⟨v4, e5, h⟩ := h
    refine j_iald (Or.inl rfl) e5 dX12_along_75 ?_
    refine j_istore (lv' := [(8, vI v4), (0, vR (some t)), (2, vI x2), (3, vI x3), (4, vR x4), (5, vR (some a2)), (6, vI x6), (7, vI x7)]) dX12_along_76 (Nat.le_of_ble_eq_true rfl) rfl ?_
    refine j_aload_n (j := 1) dX12_along_78 rfl rfl ?_
    refine j_iload (j := 0) dX12_along_79 rfl ?_
    refine j_iload_n (j := 2) dX12_along_81 rfl rfl ?_
    refine j_aload (j := 4) dX12_along_82 rfl ?_
    replace h := zkE h
    obtain ⟨e6, h⟩ := h
    replace h := zbE h
    obtain ⟨G8, e7, h⟩ := h
    refine j_cont (zrV (As := [vI v4, vI x2, vR x4]) msX12_74 (yX12_goBehind_ok dr rec hdr hrec e7) (by omega) (zk_11 _ e6) rfl rfl (Nat.le_of_ble_eq_true rfl) dX12_along_84) ?_
    refine j_iinc (j := 7) (v := (x7 + 1)) (lv' := [(7, vI (x7 + 1)), (8, vI v4), (0, vR (some t)), (2, vI x2), (3, vI x3), (4, vR x4), (5, vR (some a2)), (6, vI x6)]) dX12_along_87 rfl rfl (Nat.le_of_ble_eq_true rfl) rfl ?_
    refine j_goto (tgt := 64) dX12_along_90 (by decide) ?_
    obtain rfl := Option.some.inj h
    exact J.sub (zall [2, 3, 4, 5, 6, 7, 0] rfl) hk
theorem wflX12_along_64 {F : zF} (dr : Nat) (rec : zWay) (hdr : 60 ≤ dr) (hrec : zRec dr rec) (hd : dr + 3 ≤ F.2.2.2) (t : Nat) (x2 : Int32) (x3 : Int32) (x4 : Option Nat) (x5 : Option Nat) (x6 : Int32) (x7 : Int32) (G : GS) {a : (Int32) × GS} (h : flX12_along_64 rec t x2 x3 x4 x5 x6 x7 G = some a) (hk : zKI F a) : J mX12_along F G 64 [(0, vR (some t)), (2, vI x2), (3, vI x3), (4, vR x4), (5, vR x5), (6, vI x6), (7, vI x7)] [] := by
  unfold flX12_along_64 at h
  exact zloop_walk (P := (fun s : Int32 × GS => J mX12_along F s.2 64 [(0, vR (some t)), (2, vI x2), (3, vI x3), (4, vR x4), (5, vR x5), (6, vI x6), (7, vI s.1)] [])) (fun s b e hk => wfbX12_along_64 dr rec hdr hrec hd t x2 x3 x4 x5 x6 s.1 s.2 e hk) (x7, G) _ h hk
def fX12_along_39 (rec : zWay) (t : Nat) (x1 : Option Nat) (x2 : Int32) (x3 : Int32)  (G : GS) : Option ((Int32) × GS) :=
  (zna G 51 ((x3 - x2) + 1)).bind fun G1 => (zsL G1 51 (gz G) (0 : Int32) 1).bind fun G3 => x1.bind fun a5 => (zln G3 a5).bind fun v7 => flX12_along_64 rec t x2 x3 (some (gz G)) (some a5) v7 0 G3
theorem wfX12_along_39 {F : zF} (dr : Nat) (rec : zWay) (hdr : 60 ≤ dr) (hrec : zRec dr rec) (hd : dr + 3 ≤ F.2.2.2) (t : Nat) (x1 : Option Nat) (x2 : Int32) (x3 : Int32)  (G : GS) {a : (Int32) × GS} (h : fX12_along_39 rec t x1 x2 x3  G = some a) (hk : zKI F a) : J mX12_along F G 39 [(0, vR (some t)), (1, vR x1), (2, vI x2), (3, vI x3)] [] := by
  unfold fX12_along_39 at h
  refine j_iload_n (j := 3) dX12_along_39 rfl rfl ?_
  refine j_iload_n (j := 2) dX12_along_40 rfl rfl ?_
  refine j_isub dX12_along_41 ?_
  refine j_iconst (v := 1) dX12_along_42 (by decide) ?_
  refine j_iadd dX12_along_43 ?_
  replace h := zbE h
  obtain ⟨G1, e2, h⟩ := h
  refine j_newa (t := 1) (ty := .long) rfl rfl q1339 (fun _ _ _ e1 e2 e3 => by simp only [zfv, e1, e2, e3] <;> rfl) (by decide) (fun _ _ h => h) e2 dX12_along_44 ?_
  refine j_astore (lv' := [(4, vR (some (gz G))), (0, vR (some t)), (1, vR x1), (2, vI x2), (3, vI x3)]) dX12_along_46 (Nat.le_of_ble_eq_true rfl) rfl ?_
  refine j_aload (j := 0) dX12_along_48 rfl ?_
  refine j_iconst (v := 0) dX12_along_50 (by decide) ?_
  refine j_lconst (v := 1) dX12_along_51 rfl ?_
  replace h := zbE h
  obtain ⟨G3, e4, h⟩ := h
  refine j_last e4 dX12_along_52 ?_
  refine j_aload_n (j := 2) dX12_along_53 rfl rfl ?_
  refine j_astore (lv' := [(5, vR x1), (4, vR (some (gz G))), (0, vR (some t)), (1, vR x1), (2, vI x2), (3, vI x3)]) dX12_along_54 (Nat.le_of_ble_eq_true rfl) rfl ?_
  refine j_aload (j := 0) dX12_along_56 rfl ?_
  replace h := zbE h
  obtain ⟨a5, e6, h⟩ := h
  subst e6
  replace h := zbE h
  obtain ⟨v7, e8, h⟩ := h
  refine j_alen e8 dX12_along_58 ?_
  refine j_istore (lv' := [(6, vI v7), (5, vR (some a5)), (4, vR (some (gz G))), (0, vR (some t)), (1, vR (some a5)), (2, vI x2), (3, vI x3)]) dX12_along_59 (Nat.le_of_ble_eq_true rfl) rfl ?_
  refine j_iconst (v := 0) dX12_along_61 (by decide) ?_
  refine j_istore (lv' := [(7, vI 0), (6, vI v7), (5, vR (some a5)), (4, vR (some (gz G))), (0, vR (some t)), (1, vR (some a5)), (2, vI x2), (3, vI x3)]) dX12_along_62 (Nat.le_of_ble_eq_true rfl) rfl ?_
  exact J.sub (zall [4, 6, 7, 3, 2, 1, 0] rfl) (wflX12_along_64 dr rec hdr hrec hd t x2 x3 (some (gz G)) (some a5) v7 0  G3 h hk)
def fX12_along_0 (rec : zWay) (t : Nat) (x1 : Option Nat) (x2 : Int32) (x3 : Int32)  (G : GS) : Option ((Int32) × GS) :=
  x1.bind fun a1 => (zln G a1).bind fun v3 => if v3 = 0 then (if x2 = x3 then (some (1, G)) else (some (0, G))) else ((zaI G 50 a1 (0 : Int32)).bind fun v7 => (fX1_isNonterminal_0 v7 G).bind fun v10 => if v10 = 0 then ((zaI G 50 a1 (0 : Int32)).bind fun v12 => zk [11] G t <| (fX12_isAt_0 t x2 x3 v12 G).bind fun v16 => if v16 = 0 then (some (0, G)) else (fX12_along_39 rec t (some a1) x2 x3 G)) else (fX12_along_39 rec t (some a1) x2 x3 G))
theorem wfX12_along_0 {F : zF} (dr : Nat) (rec : zWay) (hdr : 60 ≤ dr) (hrec : zRec dr rec) (hd : dr + 3 ≤ F.2.2.2) (t : Nat) (x1 : Option Nat) (x2 : Int32) (x3 : Int32)  (G : GS) {a : (Int32) × GS} (h : fX12_along_0 rec t x1 x2 x3  G = some a) (hk : zKI F a) : J mX12_along F G 0 [(0, vR (some t)), (1, vR x1), (2, vI x2), (3, vI x3)] [] := by
  unfold fX12_along_0 at h
  refine j_aload_n (j := 1) dX12_along_0 rfl rfl ?_
  replace h := zbE h
  obtain ⟨a1, e2, h⟩ := h
  subst e2
  replace h := zbE h
  obtain ⟨v3, e4, h⟩ := h
  refine j_alen e4 dX12_along_1 ?_
  refine j_if_ne (tgt := 16) dX12_along_2 (by decide) (fun c5 => ?_) (fun c5 => ?_)
  · rw [if_pos c5] at h
    refine j_iload_n (j := 2) dX12_along_5 rfl rfl ?_
    refine j_iload_n (j := 3) dX12_along_6 rfl rfl ?_
    refine j_icmp_ne (tgt := 14) dX12_along_7 (by decide) (fun c6 => ?_) (fun c6 => ?_)
    · rw [if_pos c6] at h
      refine j_iconst (v := 1) dX12_along_10 (by decide) ?_
      refine j_goto (tgt := 15) dX12_along_11 (by decide) ?_
      obtain rfl := Option.some.inj h
      exact j_iret hk.1 hk.2 rfl dX12_along_15
    · rw [if_neg c6] at h
      refine j_iconst (v := 0) dX12_along_14 (by decide) ?_
      obtain rfl := Option.some.inj h
      exact j_iret hk.1 hk.2 rfl dX12_along_15
  · rw [if_neg c5] at h
    refine j_aload_n (j := 1) dX12_along_16 rfl rfl ?_
    refine j_iconst (v := 0) dX12_along_17 (by decide) ?_
    replace h := zbE h
    obtain ⟨v7, e8, h⟩ := h
    refine j_iald (Or.inl rfl) e8 dX12_along_18 ?_
    replace h := zbE h
    obtain ⟨v10, e9, h⟩ := h
    refine j_cont (zrSN (As := [vI v7]) msX12_66 q401 (yX1_isNonterminal_ok e9) (by omega) rfl rfl (Nat.le_of_ble_eq_true rfl) dX12_along_19) ?_
    refine j_if_ne (tgt := 39) dX12_along_22 (by decide) (fun c11 => ?_) (fun c11 => ?_)
    · rw [if_pos c11] at h
      refine j_aload_n (j := 0) dX12_along_25 rfl rfl ?_
      refine j_iload_n (j := 2) dX12_along_26 rfl rfl ?_
      refine j_iload_n (j := 3) dX12_along_27 rfl rfl ?_
      refine j_aload_n (j := 1) dX12_along_28 rfl rfl ?_
      refine j_iconst (v := 0) dX12_along_29 (by decide) ?_
      replace h := zbE h
      obtain ⟨v12, e13, h⟩ := h
      refine j_iald (Or.inl rfl) e13 dX12_along_30 ?_
      replace h := zkE h
      obtain ⟨e14, h⟩ := h
      replace h := zbE h
      obtain ⟨v16, e15, h⟩ := h
      refine j_cont (zrV (As := [vI x2, vI x3, vI v12]) msX12_70 (yX12_isAt_ok e15) (by omega) (zk_11 _ e14) rfl rfl (Nat.le_of_ble_eq_true rfl) dX12_along_31) ?_
      refine j_if_ne (tgt := 39) dX12_along_34 (by decide) (fun c17 => ?_) (fun c17 => ?_)
      · rw [if_pos c17] at h
        refine j_iconst (v := 0) dX12_along_37 (by decide) ?_
        obtain rfl := Option.some.inj h
        exact j_iret hk.1 hk.2 rfl dX12_along_38
      · rw [if_neg c17] at h
        exact J.sub (zall [0, 1, 2, 3] rfl) (wfX12_along_39 dr rec hdr hrec hd t (some a1) x2 x3  G h hk)
    · rw [if_neg c11] at h
      exact J.sub (zall [0, 1, 2, 3] rfl) (wfX12_along_39 dr rec hdr hrec hd t (some a1) x2 x3  G h hk)
theorem yX12_along_ok (dr : Nat) (rec : zWay) (hdr : 60 ≤ dr) (hrec : zRec dr rec) {t : Nat} {x1 : Option Nat} {x2 : Int32} {x3 : Int32} {G : GS} {r : Int32} {G1 : GS} (h : fX12_along_0 rec t x1 x2 x3 G = some (r, G1)) : zRuns yX12_along (ws_ yX12_along cX12_along 9 (some Jvm.ClassFile.FieldType.int)) [vR (some t), vR x1, vI x2, vI x3] (.inl (some (vI r)), G, G1, dr + 3) :=
  zentry (M := mX12_along) (plainFor_of_name (by decide +kernel)) ⟨rfl, rfl, rfl, rfl⟩ (Nat.le_of_ble_eq_true rfl) (wfX12_along_0 dr rec hdr hrec (Nat.le_refl _) t x1 x2 x3 G h ⟨rfl, rfl⟩)
theorem fgX12_3 : zFG RX12 3 10 2 (.object "SelahGenerator") := ⟨(RX12, TX12, 3, tyX12), rfl, by decide, in_X12, rfl, "SelahGenerator$Backtracking", Or.inl rfl, Or.inl q1560⟩
theorem fgX12_39 : zFG RX12 39 0 0 (.object "java/util/List") := ⟨(RX1, TX1, 5, tyX1), rfl, by decide, in_X1, rfl, "SelahGenerator", Or.inl rfl, Or.inr ⟨_, zxw 87 rfl⟩⟩
theorem fgX12_48 : zFG RX12 48 2 0 (.int) := ⟨(RX3, TX3, 2, tyX3), rfl, by decide, in_X3, rfl, "SelahGenerator$Rule", Or.inl rfl, Or.inr ⟨_, zxw 89 rfl⟩⟩
theorem fgX12_53 : zFG RX12 53 2 1 (.array (.int)) := ⟨(RX3, TX3, 2, tyX3), rfl, by decide, in_X3, rfl, "SelahGenerator$Rule", Or.inl rfl, Or.inr ⟨_, zxw 90 rfl⟩⟩
theorem msX12_29_J2 : zSF RX12 29 RJ2 ⟨"java/util/List", "size", "()I"⟩ yJ2_size cJ2_size 1 (some Jvm.ClassFile.FieldType.int) 0 := ⟨lw_F q1573 q272 q274 q126 q276, zfw 15 rfl, ⟨11, _, rfl, rfl⟩, (by decide +kernel), (by decide)⟩
theorem msX12_56 : zSV RX12 56 RX12 yX12_along cX12_along 9 (some Jvm.ClassFile.FieldType.int) 3 := ⟨lw_V q1582 q1584 qs28 q173 q1585, (by decide +kernel), (by decide)⟩
theorem msX12_60 : zSS RX12 60 yJ14_min cJ14_min 2 (some Jvm.ClassFile.FieldType.int) 2 := ⟨lw_S q1605 q731 q140 q732, (by decide +kernel), (by decide)⟩
abbrev mX12_ways : zM := (cX12_ways, RX12, 7, (some Jvm.ClassFile.FieldType.int), "ways", [], "(III)I")
def fX12_ways_124 (rec : zWay) (t : Nat) (x4 : Int32) (x5 : Int32)  (G : GS) : Option ((Int32) × GS) :=
  (zgR G 11 t 1).bind fun r1 => r1.bind fun a3 => (zsI G 50 a3 x4 x5).bind fun G5 => some (x5, G5)
theorem wfX12_ways_124 {F : zF} (dr : Nat) (rec : zWay) (hdr : 60 ≤ dr) (hrec : zRec dr rec) (hd : dr + 4 ≤ F.2.2.2) (t : Nat) (x4 : Int32) (x5 : Int32)  (G : GS) {a : (Int32) × GS} (h : fX12_ways_124 rec t x4 x5  G = some a) (hk : zKI F a) : J mX12_ways F G 124 [(0, vR (some t)), (4, vI x4), (5, vI x5)] [] := by
  unfold fX12_ways_124 at h
  refine j_aload_n (j := 0) dX12_ways_124 rfl rfl ?_
  replace h := zbE h
  obtain ⟨r1, e2, h⟩ := h
  refine j_getR fgX12_19 (fun _ _ _ => rfl) dX12_ways_125 e2 ?_
  refine j_iload (j := 1) dX12_ways_128 rfl ?_
  refine j_iload (j := 2) dX12_ways_130 rfl ?_
  replace h := zbE h
  obtain ⟨a3, e4, h⟩ := h
  subst e4
  replace h := zbE h
  obtain ⟨G5, e6, h⟩ := h
  refine j_iast e6 dX12_ways_132 ?_
  refine j_iload (j := 2) dX12_ways_133 rfl ?_
  obtain rfl := Option.some.inj h
  exact j_iret hk.1 hk.2 rfl dX12_ways_135
def fX12_ways_118 (rec : zWay) (t : Nat) (x1 : Int32) (x2 : Int32) (x3 : Int32) (x4 : Int32) (x5 : Int32) (x6 : Int32)  (G : GS) : Option ((Int32 × Int32 × GS) ⊕ ((Int32) × GS)) :=
  some (.inl (x5, (x6 + 1), G))
theorem wfX12_ways_118 {F : zF} (dr : Nat) (rec : zWay) (hdr : 60 ≤ dr) (hrec : zRec dr rec) (hd : dr + 4 ≤ F.2.2.2) (t : Nat) (x1 : Int32) (x2 : Int32) (x3 : Int32) (x4 : Int32) (x5 : Int32) (x6 : Int32)  (G : GS) {a : (Int32 × Int32 × GS) ⊕ ((Int32) × GS)} (h : fX12_ways_118 rec t x1 x2 x3 x4 x5 x6  G = some a) (hk : (zcase (fun s : Int32 × Int32 × GS => J mX12_ways F s.2.2 41 [(0, vR (some t)), (1, vI x1), (2, vI x2), (3, vI x3), (4, vI x4), (5, vI s.1), (6, vI s.2.1)] []) (zKI F)) a) : J mX12_ways F G 118 [(0, vR (some t)), (1, vI x1), (2, vI x2), (3, vI x3), (4, vI x4), (5, vI x5), (6, vI x6)] [] := by
  unfold fX12_ways_118 at h
  refine j_iinc (j := 6) (v := (x6 + 1)) (lv' := [(6, vI (x6 + 1)), (0, vR (some t)), (1, vI x1), (2, vI x2), (3, vI x3), (4, vI x4), (5, vI x5)]) dX12_ways_118 rfl rfl (Nat.le_of_ble_eq_true rfl) rfl ?_
  refine j_goto (tgt := 41) dX12_ways_121 (by decide) ?_
  obtain rfl := Option.some.inj h
  exact J.sub (zall [1, 2, 3, 4, 5, 6, 0] rfl) hk
def fbX12_ways_41 (rec : zWay) (t : Nat) (x1 : Int32) (x2 : Int32) (x3 : Int32) (x4 : Int32) (x5 : Int32) (x6 : Int32)  (G : GS) : Option ((Int32 × Int32 × GS) ⊕ ((Int32) × GS)) :=
  (zgR G 11 t 2).bind fun r1 => r1.bind fun a3 => (zgR G 1 a3 0).bind fun r5 => r5.bind fun a7 => zk [12] G a7 <| (fJ2_size_0 a7 G).bind fun v11 => if v11 ≤ x6 then (zo (fX12_ways_124 rec t x4 x5 G)) else ((zgR G 11 t 2).bind fun r13 => r13.bind fun a15 => (zgR G 1 a15 0).bind fun r17 => r17.bind fun a19 => zk [12] G a19 <| (fJ2_get_0 a19 x6 G).bind fun r23 => zkq [3] G r23 (r23.bind fun a25 => (zgI G 3 a25 0).bind fun v27 => if v27 = x1 then ((zgR G 11 t 2).bind fun r30 => r30.bind fun a32 => (zgR G 1 a32 0).bind fun r34 => r34.bind fun a36 => zk [12] G a36 <| (fJ2_get_0 a36 x6 G).bind fun r40 => zkq [3] G r40 (r40.bind fun a42 => (zgR G 3 a42 1).bind fun r44 => zk [11] G t <| zb2 (fX12_along_0 rec t r44 x2 x3 G) fun v48 G49 => (fJ14_min_0 1000000 (x5 + v48) G49).bind fun v51 => fX12_ways_118 rec t x1 x2 x3 x4 v51 x6 G49)) else (fX12_ways_118 rec t x1 x2 x3 x4 x5 x6 G)))
def flX12_ways_41 (rec : zWay) (t : Nat) (x1 : Int32) (x2 : Int32) (x3 : Int32) (x4 : Int32) (x5 : Int32) (x6 : Int32) (G : GS) : Option ((Int32) × GS) := zloop (fun s : Int32 × Int32 × GS => fbX12_ways_41 rec t x1 x2 x3 x4 s.1 s.2.1 s.2.2) (x5, x6, G)
theorem wfbX12_ways_41 {F : zF} (dr : Nat) (rec : zWay) (hdr : 60 ≤ dr) (hrec : zRec dr rec) (hd : dr + 4 ≤ F.2.2.2) (t : Nat) (x1 : Int32) (x2 : Int32) (x3 : Int32) (x4 : Int32) (x5 : Int32) (x6 : Int32) (G : GS) {a : (Int32 × Int32 × GS) ⊕ ((Int32) × GS)} (h : fbX12_ways_41 rec t x1 x2 x3 x4 x5 x6 G = some a) (hk : (zcase (fun s : Int32 × Int32 × GS => J mX12_ways F s.2.2 41 [(0, vR (some t)), (1, vI x1), (2, vI x2), (3, vI x3), (4, vI x4), (5, vI s.1), (6, vI s.2.1)] []) (zKI F)) a) : J mX12_ways F G 41 [(0, vR (some t)), (1, vI x1), (2, vI x2), (3, vI x3), (4, vI x4), (5, vI x5), (6, vI x6)] [] := by
  unfold fbX12_ways_41 at h
  refine j_iload (j := 6) dX12_ways_41 rfl ?_
  refine j_aload_n (j := 0) dX12_ways_43 rfl rfl ?_
  replace h := zbE h
  obtain ⟨r1, e2, h⟩ := h
  refine j_getR fgX12_3 (fun _ _ _ => rfl) dX12_ways_44 e2 ?_
  replace h := zbE h
  obtain ⟨a3, e4, h⟩ := h
  subst e4
  replace h := zbE h
  obtain ⟨r5, e6, h⟩ := h
  refine j_getR fgX12_39 (fun _ _ _ => rfl) dX12_ways_47 e6 ?_
  replace h := zbE h
  obtain ⟨a7, e8, h⟩ := h
  subst e8
  replace h := zkE h
  obtain ⟨e9, h⟩ := h
  replace h := zbE h
  obtain ⟨v11, e10, h⟩ := h
  refine j_cont (zrF (As := []) msX12_29_J2 (yJ2_size_ok e10) (by omega) (zk_12 _ e9) rfl rfl (Nat.le_of_ble_eq_true rfl) dX12_ways_50) ?_
  refine j_icmp_ge (tgt := 124) dX12_ways_55 (by decide) (fun c12 => ?_) (fun c12 => ?_)
  · rw [if_pos c12] at h
    replace h := zoE h
    obtain ⟨a, h, rfl⟩ := h
    replace hk := hk
    exact J.sub (zall [0, 4, 5] rfl) (wfX12_ways_124 dr rec hdr hrec hd t x4 x5  G h hk)
  · rw [if_neg c12] at h
    refine j_aload_n (j := 0) dX12_ways_58 rfl rfl ?_
    replace h := zbE h
    obtain ⟨r13, e14, h⟩ := h
    refine j_getR fgX12_3 (fun _ _ _ => rfl) dX12_ways_59 e14 ?_
    replace h := zbE h
    obtain ⟨a15, e16, h⟩ := h
    subst e16
    replace h := zbE h
    obtain ⟨r17, e18, h⟩ := h
    refine j_getR fgX12_39 (fun _ _ _ => rfl) dX12_ways_62 e18 ?_
    refine j_iload (j := 6) dX12_ways_65 rfl ?_
    replace h := zbE h
    obtain ⟨a19, e20, h⟩ := h
    subst e20
    replace h := zkE h
    obtain ⟨e21, h⟩ := h
    replace h := zbE h
    obtain ⟨r23, e22, h⟩ := h
    refine j_cont (zrF (As := [vI x6]) msX12_42_J2 (yJ2_get_ok e22) (by omega) (zk_12 _ e21) rfl rfl (Nat.le_of_ble_eq_true rfl) dX12_ways_67) ?_
    replace h := zkqE h
    obtain ⟨e24, h⟩ := h
    refine j_castq (fun k => j_castN dX12_ways_72 k) (fun b q53 k => j_castS (zk_3 _ (e24 b q53)) ⟨2, _, rfl, rfl⟩ q1580 dX12_ways_72 k) ?_
    replace h := zbE h
    obtain ⟨a25, e26, h⟩ := h
    subst e26
    replace h := zbE h
    obtain ⟨v27, e28, h⟩ := h
    refine j_getI fgX12_48 (fun _ _ _ => rfl) dX12_ways_75 e28 ?_
    refine j_iload_n (j := 1) dX12_ways_78 rfl rfl ?_
    refine j_icmp_ne (tgt := 118) dX12_ways_79 (by decide) (fun c29 => ?_) (fun c29 => ?_)
    · rw [if_pos c29] at h
      refine j_ldc (v := 1000000) q1581 dX12_ways_82 ?_
      refine j_iload (j := 5) dX12_ways_84 rfl ?_
      refine j_aload_n (j := 0) dX12_ways_86 rfl rfl ?_
      refine j_aload_n (j := 0) dX12_ways_87 rfl rfl ?_
      replace h := zbE h
      obtain ⟨r30, e31, h⟩ := h
      refine j_getR fgX12_3 (fun _ _ _ => rfl) dX12_ways_88 e31 ?_
      replace h := zbE h
      obtain ⟨a32, e33, h⟩ := h
      subst e33
      replace h := zbE h
      obtain ⟨r34, e35, h⟩ := h
      refine j_getR fgX12_39 (fun _ _ _ => rfl) dX12_ways_91 e35 ?_
      refine j_iload (j := 6) dX12_ways_94 rfl ?_
      replace h := zbE h
      obtain ⟨a36, e37, h⟩ := h
      subst e37
      replace h := zkE h
      obtain ⟨e38, h⟩ := h
      replace h := zbE h
      obtain ⟨r40, e39, h⟩ := h
      refine j_cont (zrF (As := [vI x6]) msX12_42_J2 (yJ2_get_ok e39) (by omega) (zk_12 _ e38) rfl rfl (Nat.le_of_ble_eq_true rfl) dX12_ways_96) ?_
      replace h := zkqE h
      obtain ⟨e41, h⟩ := h
      refine j_castq (fun k => j_castN dX12_ways_101 k) (fun b q52 k => j_castS (zk_3 _ (e41 b q52)) ⟨2, _, rfl, rfl⟩ q1580 dX12_ways_101 k) ?_
      replace h := zbE h
      obtain ⟨a42, e43, h⟩ := h
      subst e43
      replace h := zbE h
      obtain ⟨r44, e45, h⟩ := h
      refine j_getR fgX12_53 (fun _ _ _ => rfl) dX12_ways_104 e45 ?_
      refine j_iload_n (j := 2) dX12_ways_107 rfl rfl ?_
      refine j_iload_n (j := 3) dX12_ways_108 rfl rfl ?_
      replace h := zkE h
      obtain ⟨e46, h⟩ := h
      replace h := zb2E h
      obtain ⟨v48, G49, e47, h⟩ := h
      refine j_cont (zrV (As := [vR r44, vI x2, vI x3]) msX12_56 (yX12_along_ok dr rec hdr hrec e47) (by omega) (zk_11 _ e46) rfl rfl (Nat.le_of_ble_eq_true rfl) dX12_ways_109) ?_
      refine j_iadd dX12_ways_112 ?_
      replace h := zbE h
      obtain ⟨v51, e50, h⟩ := h
      refine j_cont (zrS (As := [vI 1000000, vI (x5 + v48)]) msX12_60 (yJ14_min_ok e50) (by omega) rfl rfl (Nat.le_of_ble_eq_true rfl) dX12_ways_113) ?_
      refine j_istore (lv' := [(5, vI v51), (0, vR (some t)), (1, vI x1), (2, vI x2), (3, vI x3), (4, vI x4), (6, vI x6)]) dX12_ways_116 (Nat.le_of_ble_eq_true rfl) rfl ?_
      exact J.sub (zall [1, 2, 3, 4, 5, 0, 6] rfl) (wfX12_ways_118 dr rec hdr hrec hd t x1 x2 x3 x4 v51 x6  G49 h hk)
    · rw [if_neg c29] at h
      exact J.sub (zall [0, 1, 2, 3, 4, 5, 6] rfl) (wfX12_ways_118 dr rec hdr hrec hd t x1 x2 x3 x4 x5 x6  G h hk)
theorem wflX12_ways_41 {F : zF} (dr : Nat) (rec : zWay) (hdr : 60 ≤ dr) (hrec : zRec dr rec) (hd : dr + 4 ≤ F.2.2.2) (t : Nat) (x1 : Int32) (x2 : Int32) (x3 : Int32) (x4 : Int32) (x5 : Int32) (x6 : Int32) (G : GS) {a : (Int32) × GS} (h : flX12_ways_41 rec t x1 x2 x3 x4 x5 x6 G = some a) (hk : zKI F a) : J mX12_ways F G 41 [(0, vR (some t)), (1, vI x1), (2, vI x2), (3, vI x3), (4, vI x4), (5, vI x5), (6, vI x6)] [] := by
  unfold flX12_ways_41 at h
  exact zloop_walk (P := (fun s : Int32 × Int32 × GS => J mX12_ways F s.2.2 41 [(0, vR (some t)), (1, vI x1), (2, vI x2), (3, vI x3), (4, vI x4), (5, vI s.1), (6, vI s.2.1)] [])) (fun s b e hk => wfbX12_ways_41 dr rec hdr hrec hd t x1 x2 x3 x4 s.1 s.2.1 s.2.2 e hk) (x5, x6, G) _ h hk
def fX12_ways_0 (rec : zWay) (t : Nat) (x1 : Int32) (x2 : Int32) (x3 : Int32)  (G : GS) : Option ((Int32) × GS) :=
  (zgR G 11 t 1).bind fun r1 => r1.bind fun a3 => (zaI G 50 a3 (((((x1 - 20) * 17) + x2) * 17) + x3)).bind fun v5 => if v5 = (-1) then (flX12_ways_41 rec t x1 x2 x3 (((((x1 - 20) * 17) + x2) * 17) + x3) 0 0 G) else ((zgR G 11 t 1).bind fun r8 => r8.bind fun a10 => (zaI G 50 a10 (((((x1 - 20) * 17) + x2) * 17) + x3)).bind fun v12 => some (v12, G))
theorem wfX12_ways_0 {F : zF} (dr : Nat) (rec : zWay) (hdr : 60 ≤ dr) (hrec : zRec dr rec) (hd : dr + 4 ≤ F.2.2.2) (t : Nat) (x1 : Int32) (x2 : Int32) (x3 : Int32)  (G : GS) {a : (Int32) × GS} (h : fX12_ways_0 rec t x1 x2 x3  G = some a) (hk : zKI F a) : J mX12_ways F G 0 [(0, vR (some t)), (1, vI x1), (2, vI x2), (3, vI x3)] [] := by
  unfold fX12_ways_0 at h
  refine j_iload_n (j := 1) dX12_ways_0 rfl rfl ?_
  refine j_bipush (v := 20) dX12_ways_1 (by decide) ?_
  refine j_isub dX12_ways_3 ?_
  refine j_bipush (v := 17) dX12_ways_4 (by decide) ?_
  refine j_imul dX12_ways_6 ?_
  refine j_iload_n (j := 2) dX12_ways_7 rfl rfl ?_
  refine j_iadd dX12_ways_8 ?_
  refine j_bipush (v := 17) dX12_ways_9 (by decide) ?_
  refine j_imul dX12_ways_11 ?_
  refine j_iload_n (j := 3) dX12_ways_12 rfl rfl ?_
  refine j_iadd dX12_ways_13 ?_
  refine j_istore (lv' := [(4, vI (((((x1 - 20) * 17) + x2) * 17) + x3)), (0, vR (some t)), (1, vI x1), (2, vI x2), (3, vI x3)]) dX12_ways_14 (Nat.le_of_ble_eq_true rfl) rfl ?_
  refine j_aload_n (j := 1) dX12_ways_16 rfl rfl ?_
  replace h := zbE h
  obtain ⟨r1, e2, h⟩ := h
  refine j_getR fgX12_19 (fun _ _ _ => rfl) dX12_ways_17 e2 ?_
  refine j_iload (j := 0) dX12_ways_20 rfl ?_
  replace h := zbE h
  obtain ⟨a3, e4, h⟩ := h
  subst e4
  replace h := zbE h
  obtain ⟨v5, e6, h⟩ := h
  refine j_iald (Or.inl rfl) e6 dX12_ways_22 ?_
  refine j_iconst (v := (-1)) dX12_ways_23 (by decide) ?_
  refine j_icmp_eq (tgt := 35) dX12_ways_24 (by decide) (fun c7 => ?_) (fun c7 => ?_)
  · rw [if_pos c7] at h
    refine j_iconst (v := 0) dX12_ways_35 (by decide) ?_
    refine j_istore (lv' := [(5, vI 0), (4, vI (((((x1 - 20) * 17) + x2) * 17) + x3)), (0, vR (some t)), (1, vI x1), (2, vI x2), (3, vI x3)]) dX12_ways_36 (Nat.le_of_ble_eq_true rfl) rfl ?_
    refine j_iconst (v := 0) dX12_ways_38 (by decide) ?_
    refine j_istore (lv' := [(6, vI 0), (5, vI 0), (4, vI (((((x1 - 20) * 17) + x2) * 17) + x3)), (0, vR (some t)), (1, vI x1), (2, vI x2), (3, vI x3)]) dX12_ways_39 (Nat.le_of_ble_eq_true rfl) rfl ?_
    exact J.sub (zall [3, 4, 5, 6, 2, 1, 0] rfl) (wflX12_ways_41 dr rec hdr hrec hd t x1 x2 x3 (((((x1 - 20) * 17) + x2) * 17) + x3) 0 0  G h hk)
  · rw [if_neg c7] at h
    refine j_aload_n (j := 1) dX12_ways_27 rfl rfl ?_
    replace h := zbE h
    obtain ⟨r8, e9, h⟩ := h
    refine j_getR fgX12_19 (fun _ _ _ => rfl) dX12_ways_28 e9 ?_
    refine j_iload (j := 0) dX12_ways_31 rfl ?_
    replace h := zbE h
    obtain ⟨a10, e11, h⟩ := h
    subst e11
    replace h := zbE h
    obtain ⟨v12, e13, h⟩ := h
    refine j_iald (Or.inl rfl) e13 dX12_ways_33 ?_
    obtain rfl := Option.some.inj h
    exact j_iret hk.1 hk.2 rfl dX12_ways_34
theorem yX12_ways_ok (dr : Nat) (rec : zWay) (hdr : 60 ≤ dr) (hrec : zRec dr rec) {t : Nat} {x1 : Int32} {x2 : Int32} {x3 : Int32} {G : GS} {r : Int32} {G1 : GS} (h : fX12_ways_0 rec t x1 x2 x3 G = some (r, G1)) : zRuns yX12_ways (ws_ yX12_ways cX12_ways 7 (some Jvm.ClassFile.FieldType.int)) [vR (some t), vI x1, vI x2, vI x3] (.inl (some (vI r)), G, G1, dr + 4) :=
  zentry (M := mX12_ways) (plainFor_of_name (by decide +kernel)) ⟨rfl, rfl, rfl, rfl⟩ (Nat.le_of_ble_eq_true rfl) (wfX12_ways_0 dr rec hdr hrec (Nat.le_refl _) t x1 x2 x3 G h ⟨rfl, rfl⟩)
def fX12_W : Nat → zWay
  | 0 => fun _ _ _ _ _ => none
  | n + 1 => fX12_ways_0 (fX12_W n)
theorem zrec_W : ∀ n, zRec (60 + 4 * n) (fX12_W n)
  | 0 => fun t x1 x2 x3 G r G1 h => by cases h
  | n + 1 => fun t x1 x2 x3 G r G1 h => yX12_ways_ok (60 + 4 * n) (fX12_W n) (by omega) (zrec_W n) h
theorem yX12_W_ok (n : Nat) {t : Nat} {x1 : Int32} {x2 : Int32} {x3 : Int32} {G : GS} {r : Int32} {G1 : GS} (h : fX12_W n t x1 x2 x3 G = some (r, G1)) : zRuns yX12_ways (ws_ yX12_ways cX12_ways 7 (some Jvm.ClassFile.FieldType.int)) [vR (some t), vI x1, vI x2, vI x3] (.inl (some (vI r)), G, G1, 60 + 4 * n) := zrec_W n t x1 x2 x3 G r G1 h
abbrev mX12_count : zM := (cX12_count, RX12, 1, (some Jvm.ClassFile.FieldType.int), "count", [], "()I")
def fX12_count_0 (t : Nat)  (G : GS) : Option ((Int32) × GS) :=
  (zgR G 11 t 0).bind fun r1 => r1.bind fun a3 => zk [12] G a3 <| (fJ2_size_0 a3 G).bind fun v7 => zk [11] G t <| zb2 (fX12_W 210 t 20 0 v7 G) fun v10 G11 => some (v10, G11)
theorem wfX12_count_0 {F : zF} (hd : 901 ≤ F.2.2.2) (t : Nat)  (G : GS) {a : (Int32) × GS} (h : fX12_count_0 t  G = some a) (hk : zKI F a) : J mX12_count F G 0 [(0, vR (some t))] [] := by
  unfold fX12_count_0 at h
  refine j_aload_n (j := 0) dX12_count_0 rfl rfl ?_
  refine j_bipush (v := 20) dX12_count_1 (by decide) ?_
  refine j_iconst (v := 0) dX12_count_3 (by decide) ?_
  refine j_aload_n (j := 0) dX12_count_4 rfl rfl ?_
  replace h := zbE h
  obtain ⟨r1, e2, h⟩ := h
  refine j_getR fgX12_15 (fun _ _ _ => rfl) dX12_count_5 e2 ?_
  replace h := zbE h
  obtain ⟨a3, e4, h⟩ := h
  subst e4
  replace h := zkE h
  obtain ⟨e5, h⟩ := h
  replace h := zbE h
  obtain ⟨v7, e6, h⟩ := h
  refine j_cont (zrF (As := []) msX12_29_J2 (yJ2_size_ok e6) (Nat.le_trans (Nat.le_of_ble_eq_true rfl) hd) (zk_12 _ e5) rfl rfl (Nat.le_of_ble_eq_true rfl) dX12_count_8) ?_
  replace h := zkE h
  obtain ⟨e8, h⟩ := h
  replace h := zb2E h
  obtain ⟨v10, G11, e9, h⟩ := h
  refine j_cont (zrV (As := [vI 20, vI 0, vI v7]) msX12_35 (yX12_W_ok 210 e9) (Nat.le_trans (Nat.le_of_ble_eq_true rfl) hd) (zk_11 _ e8) rfl rfl (Nat.le_of_ble_eq_true rfl) dX12_count_13) ?_
  obtain rfl := Option.some.inj h
  exact j_iret hk.1 hk.2 rfl dX12_count_16
theorem yX12_count_ok {t : Nat} {G : GS} {r : Int32} {G1 : GS} (h : fX12_count_0 t G = some (r, G1)) : zRuns yX12_count (ws_ yX12_count cX12_count 1 (some Jvm.ClassFile.FieldType.int)) [vR (some t)] (.inl (some (vI r)), G, G1, 901) :=
  zentry (M := mX12_count) (plainFor_of_name (by decide +kernel)) ⟨rfl, rfl, rfl, rfl⟩ (Nat.le_of_ble_eq_true rfl) (wfX12_count_0 (Nat.le_refl _) t G h ⟨rfl, rfl⟩)
theorem msX1_271 : zSV RX1 271 RX1 yX1_canCount cX1_canCount 2 (some Jvm.ClassFile.FieldType.boolean) 0 := ⟨lw_V q1521 q1523 qs26 q123 q1524, (by decide +kernel), (by decide)⟩
theorem msX1_276 : zSI RX1 276 yX12_init cX12_init 3 2 := ⟨q1555, q173, q1553, q1554, rfl, (by decide +kernel), (by decide)⟩
theorem msX1_279 : zSV RX1 279 RX12 yX12_count cX12_count 1 (some Jvm.ClassFile.FieldType.int) 0 := ⟨lw_V q1568 q1569 q1570 q173 q1571, (by decide +kernel), (by decide)⟩
abbrev mX1_derivations : zM := (cX1_derivations, RX1, 1, (some Jvm.ClassFile.FieldType.int), "derivations", [], "()I")
def fX1_derivations_0 (t : Nat)  (G : GS) : Option (((Int32) ⊕ String) × GS) :=
  zk [1] G t <| zb2 (fX1_canCount_0 t G) fun v3 G4 => zb3 (fX1_may_0 v3 G4) (fun u9 G6 => zl (al G6 11 0 3) fun G10 => (zgR G10 1 t 3).bind fun r12 => r12.bind fun a14 => (zgR G10 9 a14 2).bind fun r16 => (fX12_init_0 (gz G6) (some t) r16 G10).bind fun G19 => zk [11] G19 (gz G6) <| zb2 (fX12_count_0 (gz G6) G19) fun v22 G23 => some (.inl v22, G23)) (fun X7 G8 => some (.inr X7, G8))
theorem wfX1_derivations_0 {F : zF} (hd : 902 ≤ F.2.2.2) (t : Nat)  (G : GS) {a : ((Int32) ⊕ String) × GS} (h : fX1_derivations_0 t  G = some a) (hk : zKXI F a) : J mX1_derivations F G 0 [(0, vR (some t))] [] := by
  unfold fX1_derivations_0 at h
  refine j_aload_n (j := 0) dX1_derivations_0 rfl rfl ?_
  replace h := zkE h
  obtain ⟨e1, h⟩ := h
  replace h := zb2E h
  obtain ⟨v3, G4, e2, h⟩ := h
  refine j_cont (zrV (As := []) msX1_271 (yX1_canCount_ok e2) (Nat.le_trans (Nat.le_of_ble_eq_true rfl) hd) (zk_1 _ e1) rfl rfl (Nat.le_of_ble_eq_true rfl) dX1_derivations_1) ?_
  replace h := zb3E h
  rcases h with ⟨u9, G6, e5, h⟩ | ⟨X7, G8, e5, h⟩
  · refine j_cont (zrS (As := [vI v3]) msX1_79 (yX1_may_ok e5) (Nat.le_trans (Nat.le_of_ble_eq_true rfl) hd) rfl rfl (Nat.le_of_ble_eq_true rfl) dX1_derivations_4) ?_
    replace h := zlE h
    obtain ⟨G10, e11, h⟩ := h
    refine j_new (c := 10) (n := 3) (r := (RX12, TX12, 3, tyX12)) rfl rfl in_X12 tyX12_ok nwX12 q1551 q1552 q173 dX1_derivations_7 ?_
    rw [show al G6 (10 + 1) 0 3 = G10 from e11.symm]
    refine j_dup dX1_derivations_10 rfl ?_
    refine j_aload_n (j := 0) dX1_derivations_11 rfl rfl ?_
    refine j_aload_n (j := 0) dX1_derivations_12 rfl rfl ?_
    replace h := zbE h
    obtain ⟨r12, e13, h⟩ := h
    refine j_getR fgX1_43 (fun _ _ _ => rfl) dX1_derivations_13 e13 ?_
    replace h := zbE h
    obtain ⟨a14, e15, h⟩ := h
    subst e15
    replace h := zbE h
    obtain ⟨r16, e17, h⟩ := h
    refine j_getR fgX1_210 (fun _ _ _ => rfl) dX1_derivations_16 e17 ?_
    replace h := zbE h
    obtain ⟨G19, e18, h⟩ := h
    refine j_cont (zrI (As := [vR (some t), vR r16]) msX1_276 (yX12_init_ok e18) (Nat.le_trans (Nat.le_of_ble_eq_true rfl) hd) rfl rfl (Nat.le_of_ble_eq_true rfl) dX1_derivations_19) ?_
    replace h := zkE h
    obtain ⟨e20, h⟩ := h
    replace h := zb2E h
    obtain ⟨v22, G23, e21, h⟩ := h
    refine j_cont (zrV (As := []) msX1_279 (yX12_count_ok e21) (Nat.le_trans (Nat.le_of_ble_eq_true rfl) hd) (zk_11 _ e20) rfl rfl (Nat.le_of_ble_eq_true rfl) dX1_derivations_22) ?_
    obtain rfl := Option.some.inj h
    exact j_iret hk.1 hk.2 rfl dX1_derivations_25
  · refine j_thr (zrS (As := [vI v3]) msX1_79 (yX1_may_ok e5) (Nat.le_trans (Nat.le_of_ble_eq_true rfl) hd) rfl rfl (Nat.le_of_ble_eq_true rfl) dX1_derivations_4) ?_
    obtain rfl := Option.some.inj h
    exact jx_out hk.1 hk.2 (by decide)
theorem yX1_derivations_ok {t : Nat} {G : GS} {r : (Int32) ⊕ String} {G1 : GS} (h : fX1_derivations_0 t G = some (r, G1)) : zRuns yX1_derivations (ws_ yX1_derivations cX1_derivations 1 (some Jvm.ClassFile.FieldType.int)) [vR (some t)] (zout (fun v => some (vI v)) r, G, G1, 902) :=
  zentry (M := mX1_derivations) (plainFor_of_name (by decide +kernel)) ⟨rfl, rfl, rfl, rfl⟩ (Nat.le_of_ble_eq_true rfl) (wfX1_derivations_0 (Nat.le_refl _) t G h ⟨rfl, rfl⟩)
theorem fgX1_207 : zFG RX1 207 8 5 (.int) := ⟨(RX10, TX10, 8, tyX10), rfl, by decide, in_X10, rfl, "SelahGenerator$Parse", Or.inl rfl, Or.inr ⟨_, zxw 71 rfl⟩⟩
abbrev mX1_parseState : zM := (cX1_parseState, RX1, 1, (some Jvm.ClassFile.FieldType.int), "parseState", [], "()I")
def fX1_parseState_0 (t : Nat)  (G : GS) : Option (Int32) :=
  (zgR G 1 t 3).bind fun r1 => zopt r1 (some 0) (fun a3 => (zgR G 1 t 3).bind fun r4 => r4.bind fun a6 => (zgI G 9 a6 5).bind fun v8 => some v8)
theorem wfX1_parseState_0 {F : zF} (hd : 1 ≤ F.2.2.2) (t : Nat)  (G : GS) {a : Int32} (h : fX1_parseState_0 t  G = some a) (hk : zKPI F G a) : J mX1_parseState F G 0 [(0, vR (some t))] [] := by
  unfold fX1_parseState_0 at h
  refine j_aload_n (j := 0) dX1_parseState_0 rfl rfl ?_
  replace h := zbE h
  obtain ⟨r1, e2, h⟩ := h
  refine j_getR fgX1_43 (fun _ _ _ => rfl) dX1_parseState_1 e2 ?_
  rcases r1 with _ | a3
  · replace h := zopt_n h
    refine j_ifnonnull0 dX1_parseState_4 ?_
    refine j_iconst (v := 0) dX1_parseState_7 (by decide) ?_
    refine j_goto (tgt := 18) dX1_parseState_8 (by decide) ?_
    obtain rfl := Option.some.inj h
    exact j_iret hk.1 hk.2 rfl dX1_parseState_18
  · replace h := zopt_s h
    refine j_ifnonnull1 (tgt := 11) dX1_parseState_4 (by decide) ?_
    refine j_aload_n (j := 0) dX1_parseState_11 rfl rfl ?_
    replace h := zbE h
    obtain ⟨r4, e5, h⟩ := h
    refine j_getR fgX1_43 (fun _ _ _ => rfl) dX1_parseState_12 e5 ?_
    replace h := zbE h
    obtain ⟨a6, e7, h⟩ := h
    subst e7
    replace h := zbE h
    obtain ⟨v8, e9, h⟩ := h
    refine j_getI fgX1_207 (fun _ _ _ => rfl) dX1_parseState_15 e9 ?_
    obtain rfl := Option.some.inj h
    exact j_iret hk.1 hk.2 rfl dX1_parseState_18
theorem yX1_parseState_ok {t : Nat} {G : GS} {r : Int32} (h : fX1_parseState_0 t G = some r) : zRuns yX1_parseState (ws_ yX1_parseState cX1_parseState 1 (some Jvm.ClassFile.FieldType.int)) [vR (some t)] (.inl (some (vI r)), G, G, 1) :=
  zentry (M := mX1_parseState) (plainFor_of_name (by decide +kernel)) ⟨rfl, rfl, rfl, rfl⟩ (Nat.le_of_ble_eq_true rfl) (wfX1_parseState_0 (Nat.le_refl _) t G h ⟨rfl, rfl⟩)
theorem fgX1_250 : zFG RX1 250 8 4 (.object "java/util/List") := ⟨(RX10, TX10, 8, tyX10), rfl, by decide, in_X10, rfl, "SelahGenerator$Parse", Or.inl rfl, Or.inr ⟨_, zxw 70 rfl⟩⟩
abbrev mX1_errorCount : zM := (cX1_errorCount, RX1, 1, (some Jvm.ClassFile.FieldType.int), "errorCount", [], "()I")
def fX1_errorCount_0 (t : Nat)  (G : GS) : Option (Int32) :=
  (zgR G 1 t 3).bind fun r1 => zopt r1 (some 0) (fun a3 => (zgR G 1 t 3).bind fun r4 => r4.bind fun a6 => (zgR G 9 a6 4).bind fun r8 => r8.bind fun a10 => zk [12] G a10 <| (fJ2_size_0 a10 G).bind fun v14 => some v14)
theorem wfX1_errorCount_0 {F : zF} (hd : 2 ≤ F.2.2.2) (t : Nat)  (G : GS) {a : Int32} (h : fX1_errorCount_0 t  G = some a) (hk : zKPI F G a) : J mX1_errorCount F G 0 [(0, vR (some t))] [] := by
  unfold fX1_errorCount_0 at h
  refine j_aload_n (j := 0) dX1_errorCount_0 rfl rfl ?_
  replace h := zbE h
  obtain ⟨r1, e2, h⟩ := h
  refine j_getR fgX1_43 (fun _ _ _ => rfl) dX1_errorCount_1 e2 ?_
  rcases r1 with _ | a3
  · replace h := zopt_n h
    refine j_ifnonnull0 dX1_errorCount_4 ?_
    refine j_iconst (v := 0) dX1_errorCount_7 (by decide) ?_
    refine j_goto (tgt := 23) dX1_errorCount_8 (by decide) ?_
    obtain rfl := Option.some.inj h
    exact j_iret hk.1 hk.2 rfl dX1_errorCount_23
  · replace h := zopt_s h
    refine j_ifnonnull1 (tgt := 11) dX1_errorCount_4 (by decide) ?_
    refine j_aload_n (j := 0) dX1_errorCount_11 rfl rfl ?_
    replace h := zbE h
    obtain ⟨r4, e5, h⟩ := h
    refine j_getR fgX1_43 (fun _ _ _ => rfl) dX1_errorCount_12 e5 ?_
    replace h := zbE h
    obtain ⟨a6, e7, h⟩ := h
    subst e7
    replace h := zbE h
    obtain ⟨r8, e9, h⟩ := h
    refine j_getR fgX1_250 (fun _ _ _ => rfl) dX1_errorCount_15 e9 ?_
    replace h := zbE h
    obtain ⟨a10, e11, h⟩ := h
    subst e11
    replace h := zkE h
    obtain ⟨e12, h⟩ := h
    replace h := zbE h
    obtain ⟨v14, e13, h⟩ := h
    refine j_cont (zrF (As := []) msX1_54_J2 (yJ2_size_ok e13) (Nat.le_trans (Nat.le_of_ble_eq_true rfl) hd) (zk_12 _ e12) rfl rfl (Nat.le_of_ble_eq_true rfl) dX1_errorCount_18) ?_
    obtain rfl := Option.some.inj h
    exact j_iret hk.1 hk.2 rfl dX1_errorCount_23
theorem yX1_errorCount_ok {t : Nat} {G : GS} {r : Int32} (h : fX1_errorCount_0 t G = some r) : zRuns yX1_errorCount (ws_ yX1_errorCount cX1_errorCount 1 (some Jvm.ClassFile.FieldType.int)) [vR (some t)] (.inl (some (vI r)), G, G, 2) :=
  zentry (M := mX1_errorCount) (plainFor_of_name (by decide +kernel)) ⟨rfl, rfl, rfl, rfl⟩ (Nat.le_of_ble_eq_true rfl) (wfX1_errorCount_0 (Nat.le_refl _) t G h ⟨rfl, rfl⟩)
theorem msX1_253 : zSV RX1 253 RX1 yX1_errorCount cX1_errorCount 1 (some Jvm.ClassFile.FieldType.int) 0 := ⟨lw_V q1606 q1513 q1514 q123 q1515, (by decide +kernel), (by decide)⟩
theorem msX1_282 : zSV RX1 282 RX1 yX1_parseState cX1_parseState 1 (some Jvm.ClassFile.FieldType.int) 0 := ⟨lw_V q1520 q1448 q1449 q123 q1450, (by decide +kernel), (by decide)⟩
theorem msX1_285 : zSV RX1 285 RX1 yX1_derivations cX1_derivations 1 (some Jvm.ClassFile.FieldType.int) 0 := ⟨lw_V q1529 q1530 q1531 q123 q1532, (by decide +kernel), (by decide)⟩
abbrev mX1_disagreements : zM := (cX1_disagreements, RX1, 1, (some Jvm.ClassFile.FieldType.int), "disagreements", [], "()I")
def fX1_disagreements_33  (s0 : Int32) (s1 : Int32) (G : GS) : Option (((Int32) ⊕ String) × GS) :=
  if s0 = s1 then (some (.inl 0, G)) else (some (.inl 1, G))
theorem wfX1_disagreements_33 {F : zF} (hd : 903 ≤ F.2.2.2)  (s0 : Int32) (s1 : Int32) (G : GS) {a : ((Int32) ⊕ String) × GS} (h : fX1_disagreements_33  s0 s1 G = some a) (hk : zKXI F a) : J mX1_disagreements F G 33 [] [vI s1, vI s0] := by
  unfold fX1_disagreements_33 at h
  refine j_icmp_ne (tgt := 40) dX1_disagreements_33 (by decide) (fun c1 => ?_) (fun c1 => ?_)
  · rw [if_pos c1] at h
    refine j_iconst (v := 0) dX1_disagreements_36 (by decide) ?_
    refine j_goto (tgt := 41) dX1_disagreements_37 (by decide) ?_
    obtain rfl := Option.some.inj h
    exact j_iret hk.1 hk.2 rfl dX1_disagreements_41
  · rw [if_neg c1] at h
    refine j_iconst (v := 1) dX1_disagreements_40 (by decide) ?_
    obtain rfl := Option.some.inj h
    exact j_iret hk.1 hk.2 rfl dX1_disagreements_41
def fX1_disagreements_0 (t : Nat)  (G : GS) : Option (((Int32) ⊕ String) × GS) :=
  zk [1] G t <| (fX1_parseState_0 t G).bind fun v3 => if v3 = 2 then (zk [1] G t <| zb2 (fX1_canCount_0 t G) fun v7 G8 => if v7 = 0 then (some (.inl 0, G8)) else (zk [1] G8 t <| zb3 (fX1_derivations_0 t G8) (fun v12 G13 => zk [1] G13 t <| (fX1_errorCount_0 t G13).bind fun v18 => if v18 = 0 then (fX1_disagreements_33 v12 1 G13) else (fX1_disagreements_33 v12 0 G13)) (fun X14 G15 => some (.inr X14, G15)))) else (some (.inl 0, G))
theorem wfX1_disagreements_0 {F : zF} (hd : 903 ≤ F.2.2.2) (t : Nat)  (G : GS) {a : ((Int32) ⊕ String) × GS} (h : fX1_disagreements_0 t  G = some a) (hk : zKXI F a) : J mX1_disagreements F G 0 [(0, vR (some t))] [] := by
  unfold fX1_disagreements_0 at h
  refine j_aload_n (j := 0) dX1_disagreements_0 rfl rfl ?_
  replace h := zkE h
  obtain ⟨e1, h⟩ := h
  replace h := zbE h
  obtain ⟨v3, e2, h⟩ := h
  refine j_cont (zrV (As := []) msX1_282 (yX1_parseState_ok e2) (Nat.le_trans (Nat.le_of_ble_eq_true rfl) hd) (zk_1 _ e1) rfl rfl (Nat.le_of_ble_eq_true rfl) dX1_disagreements_1) ?_
  refine j_iconst (v := 2) dX1_disagreements_4 (by decide) ?_
  refine j_icmp_ne (tgt := 15) dX1_disagreements_5 (by decide) (fun c4 => ?_) (fun c4 => ?_)
  · rw [if_pos c4] at h
    refine j_aload_n (j := 0) dX1_disagreements_8 rfl rfl ?_
    replace h := zkE h
    obtain ⟨e5, h⟩ := h
    replace h := zb2E h
    obtain ⟨v7, G8, e6, h⟩ := h
    refine j_cont (zrV (As := []) msX1_271 (yX1_canCount_ok e6) (Nat.le_trans (Nat.le_of_ble_eq_true rfl) hd) (zk_1 _ e5) rfl rfl (Nat.le_of_ble_eq_true rfl) dX1_disagreements_9) ?_
    refine j_if_ne (tgt := 17) dX1_disagreements_12 (by decide) (fun c9 => ?_) (fun c9 => ?_)
    · rw [if_pos c9] at h
      refine j_iconst (v := 0) dX1_disagreements_15 (by decide) ?_
      obtain rfl := Option.some.inj h
      exact j_iret hk.1 hk.2 rfl dX1_disagreements_16
    · rw [if_neg c9] at h
      refine j_aload_n (j := 0) dX1_disagreements_17 rfl rfl ?_
      replace h := zkE h
      obtain ⟨e10, h⟩ := h
      replace h := zb3E h
      rcases h with ⟨v12, G13, e11, h⟩ | ⟨X14, G15, e11, h⟩
      · refine j_cont (zrV (As := []) msX1_285 (yX1_derivations_ok e11) (Nat.le_trans (Nat.le_of_ble_eq_true rfl) hd) (zk_1 _ e10) rfl rfl (Nat.le_of_ble_eq_true rfl) dX1_disagreements_18) ?_
        refine j_aload_n (j := 0) dX1_disagreements_21 rfl rfl ?_
        replace h := zkE h
        obtain ⟨e16, h⟩ := h
        replace h := zbE h
        obtain ⟨v18, e17, h⟩ := h
        refine j_cont (zrV (As := []) msX1_253 (yX1_errorCount_ok e17) (Nat.le_trans (Nat.le_of_ble_eq_true rfl) hd) (zk_1 _ e16) rfl rfl (Nat.le_of_ble_eq_true rfl) dX1_disagreements_22) ?_
        refine j_if_ne (tgt := 32) dX1_disagreements_25 (by decide) (fun c19 => ?_) (fun c19 => ?_)
        · rw [if_pos c19] at h
          refine j_iconst (v := 1) dX1_disagreements_28 (by decide) ?_
          refine j_goto (tgt := 33) dX1_disagreements_29 (by decide) ?_
          exact J.sub (zall [] rfl) (wfX1_disagreements_33 hd  v12 1 G13 h hk)
        · rw [if_neg c19] at h
          refine j_iconst (v := 0) dX1_disagreements_32 (by decide) ?_
          exact J.sub (zall [] rfl) (wfX1_disagreements_33 hd  v12 0 G13 h hk)
      · refine j_thr (zrV (As := []) msX1_285 (yX1_derivations_ok e11) (Nat.le_trans (Nat.le_of_ble_eq_true rfl) hd) (zk_1 _ e10) rfl rfl (Nat.le_of_ble_eq_true rfl) dX1_disagreements_18) ?_
        obtain rfl := Option.some.inj h
        exact jx_out hk.1 hk.2 (by decide)
  · rw [if_neg c4] at h
    refine j_iconst (v := 0) dX1_disagreements_15 (by decide) ?_
    obtain rfl := Option.some.inj h
    exact j_iret hk.1 hk.2 rfl dX1_disagreements_16
theorem yX1_disagreements_ok {t : Nat} {G : GS} {r : (Int32) ⊕ String} {G1 : GS} (h : fX1_disagreements_0 t G = some (r, G1)) : zRuns yX1_disagreements (ws_ yX1_disagreements cX1_disagreements 1 (some Jvm.ClassFile.FieldType.int)) [vR (some t)] (zout (fun v => some (vI v)) r, G, G1, 903) :=
  zentry (M := mX1_disagreements) (plainFor_of_name (by decide +kernel)) ⟨rfl, rfl, rfl, rfl⟩ (Nat.le_of_ble_eq_true rfl) (wfX1_disagreements_0 (Nat.le_refl _) t G h ⟨rfl, rfl⟩)
theorem zk_10 : ∀ k, [10].contains k = true → zKc k = some "SelahGenerator$Fault" := fun k h => by rw [zKc_one h]; rfl
abbrev mX1_fault : zM := (cX1_fault, RX1, 3, (some (Jvm.ClassFile.FieldType.object "SelahGenerator$Fault")), "fault", [], "(I)LSelahGenerator$Fault;")
def fX1_fault_0 (t : Nat) (x1 : Int32)  (G : GS) : Option (((Option Nat) ⊕ String) × GS) :=
  zk [1] G t <| (fX1_errorCount_0 t G).bind fun v3 => zb3 (fX1_valid_0 x1 0 (v3 - 1) G) (fun v5 G6 => (zgR G6 1 t 3).bind fun r9 => r9.bind fun a11 => (zgR G6 9 a11 4).bind fun r13 => r13.bind fun a15 => zk [12] G6 a15 <| (fJ2_get_0 a15 v5 G6).bind fun r19 => zkq [10] G6 r19 (some (.inl r19, G6))) (fun X7 G8 => some (.inr X7, G8))
theorem wfX1_fault_0 {F : zF} (hd : 8 ≤ F.2.2.2) (t : Nat) (x1 : Int32)  (G : GS) {a : ((Option Nat) ⊕ String) × GS} (h : fX1_fault_0 t x1  G = some a) (hk : zKXR F a) : J mX1_fault F G 0 [(0, vR (some t)), (1, vI x1)] [] := by
  unfold fX1_fault_0 at h
  refine j_iload_n (j := 1) dX1_fault_0 rfl rfl ?_
  refine j_iconst (v := 0) dX1_fault_1 (by decide) ?_
  refine j_aload_n (j := 0) dX1_fault_2 rfl rfl ?_
  replace h := zkE h
  obtain ⟨e1, h⟩ := h
  replace h := zbE h
  obtain ⟨v3, e2, h⟩ := h
  refine j_cont (zrV (As := []) msX1_253 (yX1_errorCount_ok e2) (Nat.le_trans (Nat.le_of_ble_eq_true rfl) hd) (zk_1 _ e1) rfl rfl (Nat.le_of_ble_eq_true rfl) dX1_fault_3) ?_
  refine j_iconst (v := 1) dX1_fault_6 (by decide) ?_
  refine j_isub dX1_fault_7 ?_
  replace h := zb3E h
  rcases h with ⟨v5, G6, e4, h⟩ | ⟨X7, G8, e4, h⟩
  · refine j_cont (zrS (As := [vI x1, vI 0, vI (v3 - 1)]) msX1_50 (yX1_valid_ok e4) (Nat.le_trans (Nat.le_of_ble_eq_true rfl) hd) rfl rfl (Nat.le_of_ble_eq_true rfl) dX1_fault_8) ?_
    refine j_istore_n (lv' := [(2, vI v5), (0, vR (some t)), (1, vI x1)]) dX1_fault_11 rfl (Nat.le_of_ble_eq_true rfl) rfl ?_
    refine j_aload_n (j := 1) dX1_fault_12 rfl rfl ?_
    replace h := zbE h
    obtain ⟨r9, e10, h⟩ := h
    refine j_getR fgX1_43 (fun _ _ _ => rfl) dX1_fault_13 e10 ?_
    replace h := zbE h
    obtain ⟨a11, e12, h⟩ := h
    subst e12
    replace h := zbE h
    obtain ⟨r13, e14, h⟩ := h
    refine j_getR fgX1_250 (fun _ _ _ => rfl) dX1_fault_16 e14 ?_
    refine j_iload_n (j := 0) dX1_fault_19 rfl rfl ?_
    replace h := zbE h
    obtain ⟨a15, e16, h⟩ := h
    subst e16
    replace h := zkE h
    obtain ⟨e17, h⟩ := h
    replace h := zbE h
    obtain ⟨r19, e18, h⟩ := h
    refine j_cont (zrF (As := [vI v5]) msX1_64_J2 (yJ2_get_ok e18) (Nat.le_trans (Nat.le_of_ble_eq_true rfl) hd) (zk_12 _ e17) rfl rfl (Nat.le_of_ble_eq_true rfl) dX1_fault_20) ?_
    replace h := zkqE h
    obtain ⟨e20, h⟩ := h
    refine j_castq (fun k => j_castN dX1_fault_25 k) (fun b q21 k => j_castS (zk_10 _ (e20 b q21)) ⟨9, _, rfl, rfl⟩ q2568 dX1_fault_25 k) ?_
    obtain rfl := Option.some.inj h
    exact j_aret hk.1 hk.2 rfl (Or.inl ⟨_, rfl⟩) dX1_fault_28
  · refine j_thr (zrS (As := [vI x1, vI 0, vI (v3 - 1)]) msX1_50 (yX1_valid_ok e4) (Nat.le_trans (Nat.le_of_ble_eq_true rfl) hd) rfl rfl (Nat.le_of_ble_eq_true rfl) dX1_fault_8) ?_
    obtain rfl := Option.some.inj h
    exact jx_out hk.1 hk.2 (by decide)
theorem yX1_fault_ok {t : Nat} {x1 : Int32} {G : GS} {r : (Option Nat) ⊕ String} {G1 : GS} (h : fX1_fault_0 t x1 G = some (r, G1)) : zRuns yX1_fault (ws_ yX1_fault cX1_fault 3 (some (Jvm.ClassFile.FieldType.object "SelahGenerator$Fault"))) [vR (some t), vI x1] (zout (fun v => some (vR v)) r, G, G1, 8) :=
  zentry (M := mX1_fault) (plainFor_of_name (by decide +kernel)) ⟨rfl, rfl, rfl, rfl⟩ (Nat.le_of_ble_eq_true rfl) (wfX1_fault_0 (Nat.le_refl _) t x1 G h ⟨rfl, rfl⟩)
theorem fgX1_264 : zFG RX1 264 9 1 (.int) := ⟨(RX11, TX11, 3, tyX11), rfl, by decide, in_X11, rfl, "SelahGenerator$Fault", Or.inl rfl, Or.inr ⟨_, zxw 73 rfl⟩⟩
theorem msX1_258 : zSV RX1 258 RX1 yX1_fault cX1_fault 3 (some (Jvm.ClassFile.FieldType.object "SelahGenerator$Fault")) 1 := ⟨lw_V q2564 q2566 qs57 q123 q2567, (by decide +kernel), (by decide)⟩
abbrev mX1_errorSymbol : zM := (cX1_errorSymbol, RX1, 2, (some Jvm.ClassFile.FieldType.int), "errorSymbol", [], "(I)I")
def fX1_errorSymbol_0 (t : Nat) (x1 : Int32)  (G : GS) : Option (((Int32) ⊕ String) × GS) :=
  zk [1] G t <| zb3 (fX1_fault_0 t x1 G) (fun r3 G4 => r3.bind fun a7 => (zgI G4 10 a7 1).bind fun v9 => some (.inl v9, G4)) (fun X5 G6 => some (.inr X5, G6))
theorem wfX1_errorSymbol_0 {F : zF} (hd : 9 ≤ F.2.2.2) (t : Nat) (x1 : Int32)  (G : GS) {a : ((Int32) ⊕ String) × GS} (h : fX1_errorSymbol_0 t x1  G = some a) (hk : zKXI F a) : J mX1_errorSymbol F G 0 [(0, vR (some t)), (1, vI x1)] [] := by
  unfold fX1_errorSymbol_0 at h
  refine j_aload_n (j := 0) dX1_errorSymbol_0 rfl rfl ?_
  refine j_iload_n (j := 1) dX1_errorSymbol_1 rfl rfl ?_
  replace h := zkE h
  obtain ⟨e1, h⟩ := h
  replace h := zb3E h
  rcases h with ⟨r3, G4, e2, h⟩ | ⟨X5, G6, e2, h⟩
  · refine j_cont (zrV (As := [vI x1]) msX1_258 (yX1_fault_ok e2) (Nat.le_trans (Nat.le_of_ble_eq_true rfl) hd) (zk_1 _ e1) rfl rfl (Nat.le_of_ble_eq_true rfl) dX1_errorSymbol_2) ?_
    replace h := zbE h
    obtain ⟨a7, e8, h⟩ := h
    subst e8
    replace h := zbE h
    obtain ⟨v9, e10, h⟩ := h
    refine j_getI fgX1_264 (fun _ _ _ => rfl) dX1_errorSymbol_5 e10 ?_
    obtain rfl := Option.some.inj h
    exact j_iret hk.1 hk.2 rfl dX1_errorSymbol_8
  · refine j_thr (zrV (As := [vI x1]) msX1_258 (yX1_fault_ok e2) (Nat.le_trans (Nat.le_of_ble_eq_true rfl) hd) (zk_1 _ e1) rfl rfl (Nat.le_of_ble_eq_true rfl) dX1_errorSymbol_2) ?_
    obtain rfl := Option.some.inj h
    exact jx_out hk.1 hk.2 (by decide)
theorem yX1_errorSymbol_ok {t : Nat} {x1 : Int32} {G : GS} {r : (Int32) ⊕ String} {G1 : GS} (h : fX1_errorSymbol_0 t x1 G = some (r, G1)) : zRuns yX1_errorSymbol (ws_ yX1_errorSymbol cX1_errorSymbol 2 (some Jvm.ClassFile.FieldType.int)) [vR (some t), vI x1] (zout (fun v => some (vI v)) r, G, G1, 9) :=
  zentry (M := mX1_errorSymbol) (plainFor_of_name (by decide +kernel)) ⟨rfl, rfl, rfl, rfl⟩ (Nat.le_of_ble_eq_true rfl) (wfX1_errorSymbol_0 (Nat.le_refl _) t x1 G h ⟨rfl, rfl⟩)
theorem fgX1_262 : zFG RX1 262 9 0 (.int) := ⟨(RX11, TX11, 3, tyX11), rfl, by decide, in_X11, rfl, "SelahGenerator$Fault", Or.inl rfl, Or.inr ⟨_, zxw 72 rfl⟩⟩
abbrev mX1_errorToken : zM := (cX1_errorToken, RX1, 2, (some Jvm.ClassFile.FieldType.int), "errorToken", [], "(I)I")
def fX1_errorToken_0 (t : Nat) (x1 : Int32)  (G : GS) : Option (((Int32) ⊕ String) × GS) :=
  zk [1] G t <| zb3 (fX1_fault_0 t x1 G) (fun r3 G4 => r3.bind fun a7 => (zgI G4 10 a7 0).bind fun v9 => some (.inl v9, G4)) (fun X5 G6 => some (.inr X5, G6))
theorem wfX1_errorToken_0 {F : zF} (hd : 9 ≤ F.2.2.2) (t : Nat) (x1 : Int32)  (G : GS) {a : ((Int32) ⊕ String) × GS} (h : fX1_errorToken_0 t x1  G = some a) (hk : zKXI F a) : J mX1_errorToken F G 0 [(0, vR (some t)), (1, vI x1)] [] := by
  unfold fX1_errorToken_0 at h
  refine j_aload_n (j := 0) dX1_errorToken_0 rfl rfl ?_
  refine j_iload_n (j := 1) dX1_errorToken_1 rfl rfl ?_
  replace h := zkE h
  obtain ⟨e1, h⟩ := h
  replace h := zb3E h
  rcases h with ⟨r3, G4, e2, h⟩ | ⟨X5, G6, e2, h⟩
  · refine j_cont (zrV (As := [vI x1]) msX1_258 (yX1_fault_ok e2) (Nat.le_trans (Nat.le_of_ble_eq_true rfl) hd) (zk_1 _ e1) rfl rfl (Nat.le_of_ble_eq_true rfl) dX1_errorToken_2) ?_
    replace h := zbE h
    obtain ⟨a7, e8, h⟩ := h
    subst e8
    replace h := zbE h
    obtain ⟨v9, e10, h⟩ := h
    refine j_getI fgX1_262 (fun _ _ _ => rfl) dX1_errorToken_5 e10 ?_
    obtain rfl := Option.some.inj h
    exact j_iret hk.1 hk.2 rfl dX1_errorToken_8
  · refine j_thr (zrV (As := [vI x1]) msX1_258 (yX1_fault_ok e2) (Nat.le_trans (Nat.le_of_ble_eq_true rfl) hd) (zk_1 _ e1) rfl rfl (Nat.le_of_ble_eq_true rfl) dX1_errorToken_2) ?_
    obtain rfl := Option.some.inj h
    exact jx_out hk.1 hk.2 (by decide)
theorem yX1_errorToken_ok {t : Nat} {x1 : Int32} {G : GS} {r : (Int32) ⊕ String} {G1 : GS} (h : fX1_errorToken_0 t x1 G = some (r, G1)) : zRuns yX1_errorToken (ws_ yX1_errorToken cX1_errorToken 2 (some Jvm.ClassFile.FieldType.int)) [vR (some t), vI x1] (zout (fun v => some (vI v)) r, G, G1, 9) :=
  zentry (M := mX1_errorToken) (plainFor_of_name (by decide +kernel)) ⟨rfl, rfl, rfl, rfl⟩ (Nat.le_of_ble_eq_true rfl) (wfX1_errorToken_0 (Nat.le_refl _) t x1 G h ⟨rfl, rfl⟩)
theorem fgJ20_20 : zFG RJ20 20 13 2 (.int) := ⟨(RJ20, TJ20, 3, tyJ20), rfl, by decide, in_J20, rfl, "java/util/ArrayDeque", Or.inl rfl, Or.inl q2426⟩
theorem fgJ20_24 : zFG RJ20 24 13 1 (.int) := ⟨(RJ20, TJ20, 3, tyJ20), rfl, by decide, in_J20, rfl, "java/util/ArrayDeque", Or.inl rfl, Or.inl q2425⟩
abbrev mJ20_isEmpty : zM := (cJ20_isEmpty, RJ20, 1, (some Jvm.ClassFile.FieldType.boolean), "isEmpty", [], "()Z")
def fJ20_isEmpty_0 (t : Nat)  (G : GS) : Option (Int32) :=
  (zgI G 14 t 1).bind fun v1 => (zgI G 14 t 2).bind fun v3 => if v1 = v3 then (zcond (zbb 1) (some 1)) else (zcond (zbb 0) (some 0))
theorem wfJ20_isEmpty_0 {F : zF} (hd : 1 ≤ F.2.2.2) (t : Nat)  (G : GS) {a : Int32} (h : fJ20_isEmpty_0 t  G = some a) (hk : zKPI F G a) : J mJ20_isEmpty F G 0 [(0, vR (some t))] [] := by
  unfold fJ20_isEmpty_0 at h
  refine j_aload_n (j := 0) dJ20_isEmpty_0 rfl rfl ?_
  replace h := zbE h
  obtain ⟨v1, e2, h⟩ := h
  refine j_getI fgJ20_24 (fun _ _ _ => rfl) dJ20_isEmpty_1 e2 ?_
  refine j_aload_n (j := 0) dJ20_isEmpty_4 rfl rfl ?_
  replace h := zbE h
  obtain ⟨v3, e4, h⟩ := h
  refine j_getI fgJ20_20 (fun _ _ _ => rfl) dJ20_isEmpty_5 e4 ?_
  refine j_icmp_ne (tgt := 15) dJ20_isEmpty_8 (by decide) (fun c5 => ?_) (fun c5 => ?_)
  · rw [if_pos c5] at h
    refine j_iconst (v := 1) dJ20_isEmpty_11 (by decide) ?_
    refine j_goto (tgt := 16) dJ20_isEmpty_12 (by decide) ?_
    replace h := zcondE h
    obtain ⟨e6, h⟩ := h
    obtain rfl := Option.some.inj h
    exact j_zret hk.1 hk.2 rfl (zbb_n e6) dJ20_isEmpty_16
  · rw [if_neg c5] at h
    refine j_iconst (v := 0) dJ20_isEmpty_15 (by decide) ?_
    replace h := zcondE h
    obtain ⟨e7, h⟩ := h
    obtain rfl := Option.some.inj h
    exact j_zret hk.1 hk.2 rfl (zbb_n e7) dJ20_isEmpty_16
theorem yJ20_isEmpty_ok {t : Nat} {G : GS} {r : Int32} (h : fJ20_isEmpty_0 t G = some r) : zRuns yJ20_isEmpty (ws_ yJ20_isEmpty cJ20_isEmpty 1 (some Jvm.ClassFile.FieldType.boolean)) [vR (some t)] (.inl (some (vI r)), G, G, 1) :=
  zentry (M := mJ20_isEmpty) (plainFor_of_name (by decide +kernel)) ⟨rfl, rfl, rfl, rfl⟩ (Nat.le_of_ble_eq_true rfl) (wfJ20_isEmpty_0 (Nat.le_refl _) t G h ⟨rfl, rfl⟩)
abbrev mJ20_elementAt : zM := (cJ20_elementAt, RJ20, 2, (some (Jvm.ClassFile.FieldType.object "java/lang/Object")), "elementAt", [], "([Ljava/lang/Object;I)Ljava/lang/Object;")
def fJ20_elementAt_0 (x0 : Option Nat) (x1 : Int32)  (G : GS) : Option (Option Nat) :=
  x0.bind fun a1 => (zaR G 54 a1 x1).bind fun r3 => some r3
theorem wfJ20_elementAt_0 {F : zF} (hd : 1 ≤ F.2.2.2) (x0 : Option Nat) (x1 : Int32)  (G : GS) {a : Option Nat} (h : fJ20_elementAt_0 x0 x1  G = some a) (hk : zKPR F G a) : J mJ20_elementAt F G 0 [(0, vR x0), (1, vI x1)] [] := by
  unfold fJ20_elementAt_0 at h
  refine j_aload_n (j := 0) dJ20_elementAt_0 rfl rfl ?_
  refine j_iload_n (j := 1) dJ20_elementAt_1 rfl rfl ?_
  replace h := zbE h
  obtain ⟨a1, e2, h⟩ := h
  subst e2
  replace h := zbE h
  obtain ⟨r3, e4, h⟩ := h
  refine j_aald (Or.inl rfl) e4 dJ20_elementAt_2 ?_
  obtain rfl := Option.some.inj h
  exact j_aret hk.1 hk.2 rfl (Or.inl ⟨_, rfl⟩) dJ20_elementAt_3
theorem yJ20_elementAt_ok {x0 : Option Nat} {x1 : Int32} {G : GS} {r : Option Nat} (h : fJ20_elementAt_0 x0 x1 G = some r) : zRuns yJ20_elementAt (ws_ yJ20_elementAt cJ20_elementAt 2 (some (Jvm.ClassFile.FieldType.object "java/lang/Object"))) [vR x0, vI x1] (.inl (some (vR r)), G, G, 1) :=
  zentry (M := mJ20_elementAt) (plainFor_of_name (by decide +kernel)) ⟨rfl, rfl, rfl, rfl⟩ (Nat.le_of_ble_eq_true rfl) (wfJ20_elementAt_0 (Nat.le_refl _) x0 x1 G h ⟨rfl, rfl⟩)
theorem fgJ20_3 : zFG RJ20 3 13 0 (.array (.object "java/lang/Object")) := ⟨(RJ20, TJ20, 3, tyJ20), rfl, by decide, in_J20, rfl, "java/util/ArrayDeque", Or.inl rfl, Or.inl q2422⟩
theorem msJ20_103 : zSS RJ20 103 yJ20_elementAt cJ20_elementAt 2 (some (Jvm.ClassFile.FieldType.object "java/lang/Object")) 2 := ⟨lw_S q381 q382 q148 q383, (by decide +kernel), (by decide)⟩
abbrev mJ20_peekFirst : zM := (cJ20_peekFirst, RJ20, 1, (some (Jvm.ClassFile.FieldType.object "java/lang/Object")), "peekFirst", [], "()Ljava/lang/Object;")
def fJ20_peekFirst_0 (t : Nat)  (G : GS) : Option (Option Nat) :=
  (zgR G 14 t 0).bind fun r1 => (zgI G 14 t 1).bind fun v3 => (fJ20_elementAt_0 r1 v3 G).bind fun r6 => some r6
theorem wfJ20_peekFirst_0 {F : zF} (hd : 2 ≤ F.2.2.2) (t : Nat)  (G : GS) {a : Option Nat} (h : fJ20_peekFirst_0 t  G = some a) (hk : zKPR F G a) : J mJ20_peekFirst F G 0 [(0, vR (some t))] [] := by
  unfold fJ20_peekFirst_0 at h
  refine j_aload_n (j := 0) dJ20_peekFirst_0 rfl rfl ?_
  replace h := zbE h
  obtain ⟨r1, e2, h⟩ := h
  refine j_getR fgJ20_3 (fun _ _ _ => rfl) dJ20_peekFirst_1 e2 ?_
  refine j_aload_n (j := 0) dJ20_peekFirst_4 rfl rfl ?_
  replace h := zbE h
  obtain ⟨v3, e4, h⟩ := h
  refine j_getI fgJ20_24 (fun _ _ _ => rfl) dJ20_peekFirst_5 e4 ?_
  replace h := zbE h
  obtain ⟨r6, e5, h⟩ := h
  refine j_cont (zrS (As := [vR r1, vI v3]) msJ20_103 (yJ20_elementAt_ok e5) (Nat.le_trans (Nat.le_of_ble_eq_true rfl) hd) rfl rfl (Nat.le_of_ble_eq_true rfl) dJ20_peekFirst_8) ?_
  obtain rfl := Option.some.inj h
  exact j_aret hk.1 hk.2 rfl (Or.inl ⟨_, rfl⟩) dJ20_peekFirst_11
theorem yJ20_peekFirst_ok {t : Nat} {G : GS} {r : Option Nat} (h : fJ20_peekFirst_0 t G = some r) : zRuns yJ20_peekFirst (ws_ yJ20_peekFirst cJ20_peekFirst 1 (some (Jvm.ClassFile.FieldType.object "java/lang/Object"))) [vR (some t)] (.inl (some (vR r)), G, G, 2) :=
  zentry (M := mJ20_peekFirst) (plainFor_of_name (by decide +kernel)) ⟨rfl, rfl, rfl, rfl⟩ (Nat.le_of_ble_eq_true rfl) (wfJ20_peekFirst_0 (Nat.le_refl _) t G h ⟨rfl, rfl⟩)
theorem zk_14 : ∀ k, [14].contains k = true → zKc k = some "java/util/ArrayDeque" := fun k h => by rw [zKc_one h]; rfl
theorem msJ20_124 : zSV RJ20 124 RJ20 yJ20_peekFirst cJ20_peekFirst 1 (some (Jvm.ClassFile.FieldType.object "java/lang/Object")) 0 := ⟨lw_V q1483 q1484 q1485 q148 q1486, (by decide +kernel), (by decide)⟩
abbrev mJ20_peek : zM := (cJ20_peek, RJ20, 1, (some (Jvm.ClassFile.FieldType.object "java/lang/Object")), "peek", [], "()Ljava/lang/Object;")
def fJ20_peek_0 (t : Nat)  (G : GS) : Option (Option Nat) :=
  zk [14] G t <| (fJ20_peekFirst_0 t G).bind fun r3 => some r3
theorem wfJ20_peek_0 {F : zF} (hd : 3 ≤ F.2.2.2) (t : Nat)  (G : GS) {a : Option Nat} (h : fJ20_peek_0 t  G = some a) (hk : zKPR F G a) : J mJ20_peek F G 0 [(0, vR (some t))] [] := by
  unfold fJ20_peek_0 at h
  refine j_aload_n (j := 0) dJ20_peek_0 rfl rfl ?_
  replace h := zkE h
  obtain ⟨e1, h⟩ := h
  replace h := zbE h
  obtain ⟨r3, e2, h⟩ := h
  refine j_cont (zrV (As := []) msJ20_124 (yJ20_peekFirst_ok e2) (Nat.le_trans (Nat.le_of_ble_eq_true rfl) hd) (zk_14 _ e1) rfl rfl (Nat.le_of_ble_eq_true rfl) dJ20_peek_1) ?_
  obtain rfl := Option.some.inj h
  exact j_aret hk.1 hk.2 rfl (Or.inl ⟨_, rfl⟩) dJ20_peek_4
theorem yJ20_peek_ok {t : Nat} {G : GS} {r : Option Nat} (h : fJ20_peek_0 t G = some r) : zRuns yJ20_peek (ws_ yJ20_peek cJ20_peek 1 (some (Jvm.ClassFile.FieldType.object "java/lang/Object"))) [vR (some t)] (.inl (some (vR r)), G, G, 3) :=
  zentry (M := mJ20_peek) (plainFor_of_name (by decide +kernel)) ⟨rfl, rfl, rfl, rfl⟩ (Nat.le_of_ble_eq_true rfl) (wfJ20_peek_0 (Nat.le_refl _) t G h ⟨rfl, rfl⟩)
theorem fpX8_9_X8 : zFP RX8 9 7 0 (.array (.long)) true := ⟨(RX8, TX8, 1, tyX8), rfl, by decide, in_X8, tyX8_ok, nmX8, rfl, rfl, (by intro _; rfl), "SelahGenerator$Strings", Or.inl rfl, q1335⟩
abbrev mX8_init : zM := (cX8_init, RX8, 1, none, "<init>", [], "()V")
def fX8_init_0 (t : Nat)  (G : GS) : Option (GS) :=
  (zna G 51 (3 : Int32)).bind fun G1 => (zpR G1 8 t 0 (some (gz G))).bind fun G3 => some G3
theorem wfX8_init_0 {F : zF} (hd : 2 ≤ F.2.2.2) (t : Nat)  (G : GS) {a : GS} (h : fX8_init_0 t  G = some a) (hk : zKV F a) : J mX8_init F G 0 [(0, vR (some t))] [] := by
  unfold fX8_init_0 at h
  refine j_aload_n (j := 0) dX8_init_0 rfl rfl ?_
  refine j_objinit q1334 q181 q182 (Nat.le_trans (Nat.le_of_ble_eq_true rfl) hd) (Nat.le_of_ble_eq_true rfl) dX8_init_1 ?_
  refine j_aload_n (j := 0) dX8_init_4 rfl rfl ?_
  refine j_iconst (v := 3) dX8_init_5 (by decide) ?_
  replace h := zbE h
  obtain ⟨G1, e2, h⟩ := h
  refine j_newa (t := 1) (ty := .long) rfl rfl q1339 (fun _ _ _ e1 e2 e3 => by simp only [zfv, e1, e2, e3] <;> rfl) (by decide) (fun _ _ h => h) e2 dX8_init_6 ?_
  replace h := zbE h
  obtain ⟨G3, e4, h⟩ := h
  refine j_putR fpX8_9_X8 (Or.inr rfl) (Or.inr ⟨_, rfl⟩) dX8_init_8 e4 ?_
  obtain rfl := Option.some.inj h
  exact j_vret hk.1 hk.2 rfl dX8_init_11
theorem yX8_init_ok {t : Nat} {G : GS} {G1 : GS} (h : fX8_init_0 t G = some G1) : zRuns yX8_init (ws_ yX8_init cX8_init 1 none) [vR (some t)] (.inl none, G, G1, 2) :=
  zentry (M := mX8_init) (plainFor_of_name (by decide +kernel)) ⟨rfl, rfl, rfl, rfl⟩ (Nat.le_of_ble_eq_true rfl) (wfX8_init_0 (Nat.le_refl _) t G h ⟨rfl, rfl⟩)
theorem fgX8_9 : zFG RX8 9 7 0 (.array (.long)) := ⟨(RX8, TX8, 1, tyX8), rfl, by decide, in_X8, rfl, "SelahGenerator$Strings", Or.inl rfl, Or.inl q1335⟩
abbrev mX8_clear : zM := (cX8_clear, RX8, 2, none, "clear", [], "()V")
def fbX8_clear_2 (t : Nat) (x1 : Int32)  (G : GS) : Option ((Int32 × GS) ⊕ (GS)) :=
  (zgR G 8 t 0).bind fun r1 => r1.bind fun a3 => (zln G a3).bind fun v5 => if v5 ≤ x1 then (zo (some G)) else ((zgR G 8 t 0).bind fun r8 => r8.bind fun a10 => (zsL G 51 a10 x1 0).bind fun G12 => some (.inl ((x1 + 1), G12)))
def flX8_clear_2 (t : Nat) (x1 : Int32) (G : GS) : Option (GS) := zloop (fun s : Int32 × GS => fbX8_clear_2 t s.1 s.2) (x1, G)
theorem wfbX8_clear_2 {F : zF} (hd : 1 ≤ F.2.2.2) (t : Nat) (x1 : Int32) (G : GS) {a : (Int32 × GS) ⊕ (GS)} (h : fbX8_clear_2 t x1 G = some a) (hk : (zcase (fun s : Int32 × GS => J mX8_clear F s.2 2 [(0, vR (some t)), (1, vI s.1)] []) (zKV F)) a) : J mX8_clear F G 2 [(0, vR (some t)), (1, vI x1)] [] := by
  unfold fbX8_clear_2 at h
  refine j_iload_n (j := 1) dX8_clear_2 rfl rfl ?_
  refine j_aload_n (j := 0) dX8_clear_3 rfl rfl ?_
  replace h := zbE h
  obtain ⟨r1, e2, h⟩ := h
  refine j_getR fgX8_9 (fun _ _ _ => rfl) dX8_clear_4 e2 ?_
  replace h := zbE h
  obtain ⟨a3, e4, h⟩ := h
  subst e4
  replace h := zbE h
  obtain ⟨v5, e6, h⟩ := h
  refine j_alen e6 dX8_clear_7 ?_
  refine j_icmp_ge (tgt := 24) dX8_clear_8 (by decide) (fun c7 => ?_) (fun c7 => ?_)
  · rw [if_pos c7] at h
    replace h := zoE h
    obtain ⟨a, h, rfl⟩ := h
    replace hk := hk
    obtain rfl := Option.some.inj h
    exact j_vret hk.1 hk.2 rfl dX8_clear_24
  · rw [if_neg c7] at h
    refine j_aload_n (j := 0) dX8_clear_11 rfl rfl ?_
    replace h := zbE h
    obtain ⟨r8, e9, h⟩ := h
    refine j_getR fgX8_9 (fun _ _ _ => rfl) dX8_clear_12 e9 ?_
    refine j_iload_n (j := 1) dX8_clear_15 rfl rfl ?_
    refine j_lconst (v := 0) dX8_clear_16 rfl ?_
    replace h := zbE h
    obtain ⟨a10, e11, h⟩ := h
    subst e11
    replace h := zbE h
    obtain ⟨G12, e13, h⟩ := h
    refine j_last e13 dX8_clear_17 ?_
    refine j_iinc (j := 1) (v := (x1 + 1)) (lv' := [(1, vI (x1 + 1)), (0, vR (some t))]) dX8_clear_18 rfl rfl (Nat.le_of_ble_eq_true rfl) rfl ?_
    refine j_goto (tgt := 2) dX8_clear_21 (by decide) ?_
    obtain rfl := Option.some.inj h
    exact J.sub (zall [1, 0] rfl) hk
theorem wflX8_clear_2 {F : zF} (hd : 1 ≤ F.2.2.2) (t : Nat) (x1 : Int32) (G : GS) {a : GS} (h : flX8_clear_2 t x1 G = some a) (hk : zKV F a) : J mX8_clear F G 2 [(0, vR (some t)), (1, vI x1)] [] := by
  unfold flX8_clear_2 at h
  exact zloop_walk (P := (fun s : Int32 × GS => J mX8_clear F s.2 2 [(0, vR (some t)), (1, vI s.1)] [])) (fun s b e hk => wfbX8_clear_2 hd t s.1 s.2 e hk) (x1, G) _ h hk
def fX8_clear_0 (t : Nat)  (G : GS) : Option (GS) :=
  flX8_clear_2 t 0 G
theorem wfX8_clear_0 {F : zF} (hd : 1 ≤ F.2.2.2) (t : Nat)  (G : GS) {a : GS} (h : fX8_clear_0 t  G = some a) (hk : zKV F a) : J mX8_clear F G 0 [(0, vR (some t))] [] := by
  unfold fX8_clear_0 at h
  refine j_iconst (v := 0) dX8_clear_0 (by decide) ?_
  refine j_istore_n (lv' := [(1, vI 0), (0, vR (some t))]) dX8_clear_1 rfl (Nat.le_of_ble_eq_true rfl) rfl ?_
  exact J.sub (zall [1, 0] rfl) (wflX8_clear_2 hd t 0  G h hk)
theorem yX8_clear_ok {t : Nat} {G : GS} {G1 : GS} (h : fX8_clear_0 t G = some G1) : zRuns yX8_clear (ws_ yX8_clear cX8_clear 2 none) [vR (some t)] (.inl none, G, G1, 1) :=
  zentry (M := mX8_clear) (plainFor_of_name (by decide +kernel)) ⟨rfl, rfl, rfl, rfl⟩ (Nat.le_of_ble_eq_true rfl) (wfX8_clear_0 (Nat.le_refl _) t G h ⟨rfl, rfl⟩)
abbrev mX8_add : zM := (cX8_add, RX8, 2, none, "add", [], "(I)V")
def fX8_add_0 (t : Nat) (x1 : Int32)  (G : GS) : Option (GS) :=
  (zgR G 8 t 0).bind fun r1 => r1.bind fun a3 => (zaL G 51 a3 (x1 >>> ((6 : Int32) &&& 31))).bind fun l5 => (zsL G 51 a3 (x1 >>> ((6 : Int32) &&& 31)) (l5 ||| ((1 : Int64) <<< ((x1 &&& 63).toInt64 &&& 63)))).bind fun G7 => some G7
theorem wfX8_add_0 {F : zF} (hd : 1 ≤ F.2.2.2) (t : Nat) (x1 : Int32)  (G : GS) {a : GS} (h : fX8_add_0 t x1  G = some a) (hk : zKV F a) : J mX8_add F G 0 [(0, vR (some t)), (1, vI x1)] [] := by
  unfold fX8_add_0 at h
  refine j_aload_n (j := 0) dX8_add_0 rfl rfl ?_
  replace h := zbE h
  obtain ⟨r1, e2, h⟩ := h
  refine j_getR fgX8_9 (fun _ _ _ => rfl) dX8_add_1 e2 ?_
  refine j_iload_n (j := 1) dX8_add_4 rfl rfl ?_
  refine j_bipush (v := 6) dX8_add_5 (by decide) ?_
  refine j_ishr dX8_add_7 ?_
  refine j_dup2_11 dX8_add_8 rfl rfl ?_
  replace h := zbE h
  obtain ⟨a3, e4, h⟩ := h
  subst e4
  replace h := zbE h
  obtain ⟨l5, e6, h⟩ := h
  refine j_lald rfl e6 dX8_add_9 ?_
  refine j_lconst (v := 1) dX8_add_10 rfl ?_
  refine j_iload_n (j := 1) dX8_add_11 rfl rfl ?_
  refine j_bipush (v := 63) dX8_add_12 (by decide) ?_
  refine j_iand dX8_add_14 ?_
  refine j_lshl dX8_add_15 ?_
  refine j_lor dX8_add_16 ?_
  replace h := zbE h
  obtain ⟨G7, e8, h⟩ := h
  refine j_last e8 dX8_add_17 ?_
  obtain rfl := Option.some.inj h
  exact j_vret hk.1 hk.2 rfl dX8_add_18
theorem yX8_add_ok {t : Nat} {x1 : Int32} {G : GS} {G1 : GS} (h : fX8_add_0 t x1 G = some G1) : zRuns yX8_add (ws_ yX8_add cX8_add 2 none) [vR (some t), vI x1] (.inl none, G, G1, 1) :=
  zentry (M := mX8_add) (plainFor_of_name (by decide +kernel)) ⟨rfl, rfl, rfl, rfl⟩ (Nat.le_of_ble_eq_true rfl) (wfX8_add_0 (Nat.le_refl _) t x1 G h ⟨rfl, rfl⟩)
abbrev mX8_has : zM := (cX8_has, RX8, 2, (some Jvm.ClassFile.FieldType.boolean), "has", [], "(I)Z")
def fX8_has_0 (t : Nat) (x1 : Int32)  (G : GS) : Option (Int32) :=
  (zgR G 8 t 0).bind fun r1 => r1.bind fun a3 => (zaL G 51 a3 (x1 >>> ((6 : Int32) &&& 31))).bind fun l5 => if (lg_cmp ((l5.toUInt64 >>> ((x1 &&& 63).toInt64.toUInt64 &&& Int64.toUInt64 63)).toInt64 &&& 1) (1 : Int64)) = 0 then (zcond (zbb 1) (some 1)) else (zcond (zbb 0) (some 0))
theorem wfX8_has_0 {F : zF} (hd : 1 ≤ F.2.2.2) (t : Nat) (x1 : Int32)  (G : GS) {a : Int32} (h : fX8_has_0 t x1  G = some a) (hk : zKPI F G a) : J mX8_has F G 0 [(0, vR (some t)), (1, vI x1)] [] := by
  unfold fX8_has_0 at h
  refine j_aload_n (j := 0) dX8_has_0 rfl rfl ?_
  replace h := zbE h
  obtain ⟨r1, e2, h⟩ := h
  refine j_getR fgX8_9 (fun _ _ _ => rfl) dX8_has_1 e2 ?_
  refine j_iload_n (j := 1) dX8_has_4 rfl rfl ?_
  refine j_bipush (v := 6) dX8_has_5 (by decide) ?_
  refine j_ishr dX8_has_7 ?_
  replace h := zbE h
  obtain ⟨a3, e4, h⟩ := h
  subst e4
  replace h := zbE h
  obtain ⟨l5, e6, h⟩ := h
  refine j_lald rfl e6 dX8_has_8 ?_
  refine j_iload_n (j := 1) dX8_has_9 rfl rfl ?_
  refine j_bipush (v := 63) dX8_has_10 (by decide) ?_
  refine j_iand dX8_has_12 ?_
  refine j_lushr dX8_has_13 ?_
  refine j_lconst (v := 1) dX8_has_14 rfl ?_
  refine j_land dX8_has_15 ?_
  refine j_lconst (v := 1) dX8_has_16 rfl ?_
  refine j_lcmp dX8_has_17 ?_
  refine j_if_ne (tgt := 25) dX8_has_18 (by decide) (fun c7 => ?_) (fun c7 => ?_)
  · rw [if_pos c7] at h
    refine j_iconst (v := 1) dX8_has_21 (by decide) ?_
    refine j_goto (tgt := 26) dX8_has_22 (by decide) ?_
    replace h := zcondE h
    obtain ⟨e8, h⟩ := h
    obtain rfl := Option.some.inj h
    exact j_zret hk.1 hk.2 rfl (zbb_n e8) dX8_has_26
  · rw [if_neg c7] at h
    refine j_iconst (v := 0) dX8_has_25 (by decide) ?_
    replace h := zcondE h
    obtain ⟨e9, h⟩ := h
    obtain rfl := Option.some.inj h
    exact j_zret hk.1 hk.2 rfl (zbb_n e9) dX8_has_26
theorem yX8_has_ok {t : Nat} {x1 : Int32} {G : GS} {r : Int32} (h : fX8_has_0 t x1 G = some r) : zRuns yX8_has (ws_ yX8_has cX8_has 2 (some Jvm.ClassFile.FieldType.boolean)) [vR (some t), vI x1] (.inl (some (vI r)), G, G, 1) :=
  zentry (M := mX8_has) (plainFor_of_name (by decide +kernel)) ⟨rfl, rfl, rfl, rfl⟩ (Nat.le_of_ble_eq_true rfl) (wfX8_has_0 (Nat.le_refl _) t x1 G h ⟨rfl, rfl⟩)
abbrev mX8_pair : zM := (cX8_pair, RX8, 2, (some Jvm.ClassFile.FieldType.int), "pair", [], "(II)I")
def fX8_pair_0 (x0 : Int32) (x1 : Int32)  (G : GS) : Option (Int32) :=
  some ((14 + (13 * x0)) + x1)
theorem wfX8_pair_0 {F : zF} (hd : 1 ≤ F.2.2.2) (x0 : Int32) (x1 : Int32)  (G : GS) {a : Int32} (h : fX8_pair_0 x0 x1  G = some a) (hk : zKPI F G a) : J mX8_pair F G 0 [(0, vI x0), (1, vI x1)] [] := by
  unfold fX8_pair_0 at h
  refine j_bipush (v := 14) dX8_pair_0 (by decide) ?_
  refine j_bipush (v := 13) dX8_pair_2 (by decide) ?_
  refine j_iload_n (j := 0) dX8_pair_4 rfl rfl ?_
  refine j_imul dX8_pair_5 ?_
  refine j_iadd dX8_pair_6 ?_
  refine j_iload_n (j := 1) dX8_pair_7 rfl rfl ?_
  refine j_iadd dX8_pair_8 ?_
  obtain rfl := Option.some.inj h
  exact j_iret hk.1 hk.2 rfl dX8_pair_9
theorem yX8_pair_ok {x0 : Int32} {x1 : Int32} {G : GS} {r : Int32} (h : fX8_pair_0 x0 x1 G = some r) : zRuns yX8_pair (ws_ yX8_pair cX8_pair 2 (some Jvm.ClassFile.FieldType.int)) [vI x0, vI x1] (.inl (some (vI r)), G, G, 1) :=
  zentry (M := mX8_pair) (plainFor_of_name (by decide +kernel)) ⟨rfl, rfl, rfl, rfl⟩ (Nat.le_of_ble_eq_true rfl) (wfX8_pair_0 (Nat.le_refl _) x0 x1 G h ⟨rfl, rfl⟩)
theorem msX8_21 : zSS RX8 21 yX8_pair cX8_pair 2 (some Jvm.ClassFile.FieldType.int) 2 := ⟨lw_S q1383 q1384 q169 q1385, (by decide +kernel), (by decide)⟩
abbrev mX8_cut : zM := (cX8_cut, RX8, 3, (some Jvm.ClassFile.FieldType.int), "cut", [], "(II)I")
def fX8_cut_8 (x0 : Int32) (x1 : Int32)  (G : GS) : Option (Int32) :=
  some (x0 + x1)
theorem wfX8_cut_8 {F : zF} (hd : 2 ≤ F.2.2.2) (x0 : Int32) (x1 : Int32)  (G : GS) {a : Int32} (h : fX8_cut_8 x0 x1  G = some a) (hk : zKPI F G a) : J mX8_cut F G 8 [(0, vI x0), (1, vI x1)] [] := by
  unfold fX8_cut_8 at h
  refine j_iload_n (j := 0) dX8_cut_8 rfl rfl ?_
  refine j_iload_n (j := 1) dX8_cut_9 rfl rfl ?_
  refine j_iadd dX8_cut_10 ?_
  obtain rfl := Option.some.inj h
  exact j_iret hk.1 hk.2 rfl dX8_cut_11
def fX8_cut_31 (x0 : Int32) (s0 : Int32) (G : GS) : Option (Int32) :=
  (fX8_pair_0 (x0 - 1) s0 G).bind fun v2 => some v2
theorem wfX8_cut_31 {F : zF} (hd : 2 ≤ F.2.2.2) (x0 : Int32) (s0 : Int32) (G : GS) {a : Int32} (h : fX8_cut_31 x0 s0 G = some a) (hk : zKPI F G a) : J mX8_cut F G 31 [(0, vI x0)] [vI s0] := by
  unfold fX8_cut_31 at h
  refine j_istore_n (lv' := [(2, vI s0), (0, vI x0)]) dX8_cut_31 rfl (Nat.le_of_ble_eq_true rfl) rfl ?_
  refine j_iload_n (j := 1) dX8_cut_32 rfl rfl ?_
  refine j_iconst (v := 1) dX8_cut_33 (by decide) ?_
  refine j_isub dX8_cut_34 ?_
  refine j_iload_n (j := 0) dX8_cut_35 rfl rfl ?_
  replace h := zbE h
  obtain ⟨v2, e1, h⟩ := h
  refine j_cont (zrS (As := [vI (x0 - 1), vI s0]) msX8_21 (yX8_pair_ok e1) (Nat.le_trans (Nat.le_of_ble_eq_true rfl) hd) rfl rfl (Nat.le_of_ble_eq_true rfl) dX8_cut_36) ?_
  obtain rfl := Option.some.inj h
  exact j_iret hk.1 hk.2 rfl dX8_cut_39
def fX8_cut_0 (x0 : Int32) (x1 : Int32)  (G : GS) : Option (Int32) :=
  if x0 = 0 then (fX8_cut_8 x0 x1 G) else (if x1 = 0 then (fX8_cut_8 x0 x1 G) else (if 14 ≤ x1 then (zcond (¬ (13 : Int32) = 0) (fX8_cut_31 x0 ((x1 - 14) / (13 : Int32)) G)) else (fX8_cut_31 x0 (x1 - 1) G)))
theorem wfX8_cut_0 {F : zF} (hd : 2 ≤ F.2.2.2) (x0 : Int32) (x1 : Int32)  (G : GS) {a : Int32} (h : fX8_cut_0 x0 x1  G = some a) (hk : zKPI F G a) : J mX8_cut F G 0 [(0, vI x0), (1, vI x1)] [] := by
  unfold fX8_cut_0 at h
  refine j_iload_n (j := 0) dX8_cut_0 rfl rfl ?_
  refine j_if_eq (tgt := 8) dX8_cut_1 (by decide) (fun c1 => ?_) (fun c1 => ?_)
  · rw [if_pos c1] at h
    exact J.sub (zall [0, 1] rfl) (wfX8_cut_8 hd x0 x1  G h hk)
  · rw [if_neg c1] at h
    refine j_iload_n (j := 1) dX8_cut_4 rfl rfl ?_
    refine j_if_ne (tgt := 12) dX8_cut_5 (by decide) (fun c2 => ?_) (fun c2 => ?_)
    · rw [if_pos c2] at h
      exact J.sub (zall [0, 1] rfl) (wfX8_cut_8 hd x0 x1  G h hk)
    · rw [if_neg c2] at h
      refine j_iload_n (j := 1) dX8_cut_12 rfl rfl ?_
      refine j_bipush (v := 14) dX8_cut_13 (by decide) ?_
      refine j_icmp_ge (tgt := 24) dX8_cut_15 (by decide) (fun c3 => ?_) (fun c3 => ?_)
      · rw [if_pos c3] at h
        refine j_iload_n (j := 1) dX8_cut_24 rfl rfl ?_
        refine j_bipush (v := 14) dX8_cut_25 (by decide) ?_
        refine j_isub dX8_cut_27 ?_
        refine j_bipush (v := 13) dX8_cut_28 (by decide) ?_
        replace h := zcondE h
        obtain ⟨e4, h⟩ := h
        refine j_idiv dX8_cut_30 e4 ?_
        exact J.sub (zall [0] rfl) (wfX8_cut_31 hd x0 ((x1 - 14) / (13 : Int32)) G h hk)
      · rw [if_neg c3] at h
        refine j_iload_n (j := 1) dX8_cut_18 rfl rfl ?_
        refine j_iconst (v := 1) dX8_cut_19 (by decide) ?_
        refine j_isub dX8_cut_20 ?_
        refine j_goto (tgt := 31) dX8_cut_21 (by decide) ?_
        exact J.sub (zall [0] rfl) (wfX8_cut_31 hd x0 (x1 - 1) G h hk)
theorem yX8_cut_ok {x0 : Int32} {x1 : Int32} {G : GS} {r : Int32} (h : fX8_cut_0 x0 x1 G = some r) : zRuns yX8_cut (ws_ yX8_cut cX8_cut 3 (some Jvm.ClassFile.FieldType.int)) [vI x0, vI x1] (.inl (some (vI r)), G, G, 2) :=
  zentry (M := mX8_cut) (plainFor_of_name (by decide +kernel)) ⟨rfl, rfl, rfl, rfl⟩ (Nat.le_of_ble_eq_true rfl) (wfX8_cut_0 (Nat.le_refl _) x0 x1 G h ⟨rfl, rfl⟩)
theorem zk_8 : ∀ k, [8].contains k = true → zKc k = some "SelahGenerator$Strings" := fun k h => by rw [zKc_one h]; rfl
theorem msX8_17 : zSV RX8 17 RX8 yX8_has cX8_has 2 (some Jvm.ClassFile.FieldType.boolean) 1 := ⟨lw_V q1375 q1376 q1377 q169 q1378, (by decide +kernel), (by decide)⟩
theorem msX8_25 : zSV RX8 25 RX8 yX8_clear cX8_clear 2 none 0 := ⟨lw_V q1374 q1358 q1359 q169 q1360, (by decide +kernel), (by decide)⟩
theorem msX8_28 : zSV RX8 28 RX8 yX8_add cX8_add 2 none 1 := ⟨lw_V q1379 q1362 q1363 q169 q1364, (by decide +kernel), (by decide)⟩
theorem msX8_32 : zSS RX8 32 yX8_cut cX8_cut 3 (some Jvm.ClassFile.FieldType.int) 2 := ⟨lw_S q1380 q1381 q169 q1382, (by decide +kernel), (by decide)⟩
abbrev mX8_become : zM := (cX8_become, RX8, 5, none, "become", [], "(LSelahGenerator$Strings;LSelahGenerator$Strings;)V")
def fX8_become_74 (t : Nat) (x1 : Option Nat) (x2 : Option Nat) (x3 : Int32)  (G : GS) : Option ((Int32 × GS) ⊕ (GS)) :=
  some (.inl ((x3 + 1), G))
theorem wfX8_become_74 {F : zF} (hd : 3 ≤ F.2.2.2) (t : Nat) (x1 : Option Nat) (x2 : Option Nat) (x3 : Int32)  (G : GS) {a : (Int32 × GS) ⊕ (GS)} (h : fX8_become_74 t x1 x2 x3  G = some a) (hk : (zcase (fun s : Int32 × GS => J mX8_become F s.2 6 [(0, vR (some t)), (1, vR x1), (2, vR x2), (3, vI s.1)] []) (zKV F)) a) : J mX8_become F G 74 [(0, vR (some t)), (1, vR x1), (2, vR x2), (3, vI x3)] [] := by
  unfold fX8_become_74 at h
  refine j_iinc (j := 3) (v := (x3 + 1)) (lv' := [(3, vI (x3 + 1)), (0, vR (some t)), (1, vR x1), (2, vR x2)]) dX8_become_74 rfl rfl (Nat.le_of_ble_eq_true rfl) rfl ?_
  refine j_goto (tgt := 6) dX8_become_77 (by decide) ?_
  obtain rfl := Option.some.inj h
  exact J.sub (zall [1, 2, 3, 0] rfl) hk
def fX8_become_68 (t : Nat) (x1 : Option Nat) (x2 : Option Nat) (x3 : Int32) (x4 : Int32)  (G : GS) : Option ((Int32 × GS) ⊕ ((Int32 × GS) ⊕ (GS))) :=
  some (.inl ((x4 + 1), G))
theorem wfX8_become_68 {F : zF} (hd : 3 ≤ F.2.2.2) (t : Nat) (x1 : Option Nat) (x2 : Option Nat) (x3 : Int32) (x4 : Int32)  (G : GS) {a : (Int32 × GS) ⊕ ((Int32 × GS) ⊕ (GS))} (h : fX8_become_68 t x1 x2 x3 x4  G = some a) (hk : (zcase (fun s : Int32 × GS => J mX8_become F s.2 41 [(0, vR (some t)), (1, vR x1), (2, vR x2), (3, vI x3), (4, vI s.1)] []) ((zcase (fun s : Int32 × GS => J mX8_become F s.2 6 [(0, vR (some t)), (1, vR x1), (2, vR x2), (3, vI s.1)] []) (zKV F)))) a) : J mX8_become F G 68 [(0, vR (some t)), (1, vR x1), (2, vR x2), (3, vI x3), (4, vI x4)] [] := by
  unfold fX8_become_68 at h
  refine j_iinc (j := 4) (v := (x4 + 1)) (lv' := [(4, vI (x4 + 1)), (0, vR (some t)), (1, vR x1), (2, vR x2), (3, vI x3)]) dX8_become_68 rfl rfl (Nat.le_of_ble_eq_true rfl) rfl ?_
  refine j_goto (tgt := 41) dX8_become_71 (by decide) ?_
  obtain rfl := Option.some.inj h
  exact J.sub (zall [1, 2, 3, 4, 0] rfl) hk
def fbX8_become_41 (t : Nat) (x1 : Option Nat) (x2 : Option Nat) (x3 : Int32) (x4 : Int32)  (G : GS) : Option ((Int32 × GS) ⊕ ((Int32 × GS) ⊕ (GS))) :=
  if 183 ≤ x4 then (zo (fX8_become_74 t x1 x2 x3 G)) else (x2.bind fun a2 => zk [8] G a2 <| (fX8_has_0 a2 x4 G).bind fun v6 => if v6 = 0 then (fX8_become_68 t x1 (some a2) x3 x4 G) else ((fX8_cut_0 x3 x4 G).bind fun v9 => zk [8] G t <| (fX8_add_0 t v9 G).bind fun G12 => fX8_become_68 t x1 (some a2) x3 x4 G12))
def flX8_become_41 (t : Nat) (x1 : Option Nat) (x2 : Option Nat) (x3 : Int32) (x4 : Int32) (G : GS) : Option ((Int32 × GS) ⊕ (GS)) := zloop (fun s : Int32 × GS => fbX8_become_41 t x1 x2 x3 s.1 s.2) (x4, G)
theorem wfbX8_become_41 {F : zF} (hd : 3 ≤ F.2.2.2) (t : Nat) (x1 : Option Nat) (x2 : Option Nat) (x3 : Int32) (x4 : Int32) (G : GS) {a : (Int32 × GS) ⊕ ((Int32 × GS) ⊕ (GS))} (h : fbX8_become_41 t x1 x2 x3 x4 G = some a) (hk : (zcase (fun s : Int32 × GS => J mX8_become F s.2 41 [(0, vR (some t)), (1, vR x1), (2, vR x2), (3, vI x3), (4, vI s.1)] []) ((zcase (fun s : Int32 × GS => J mX8_become F s.2 6 [(0, vR (some t)), (1, vR x1), (2, vR x2), (3, vI s.1)] []) (zKV F)))) a) : J mX8_become F G 41 [(0, vR (some t)), (1, vR x1), (2, vR x2), (3, vI x3), (4, vI x4)] [] := by
  unfold fbX8_become_41 at h
  refine j_iload (j := 4) dX8_become_41 rfl ?_
  refine j_sipush (v := 183) dX8_become_43 (by decide) ?_
  refine j_icmp_ge (tgt := 74) dX8_become_46 (by decide) (fun c1 => ?_) (fun c1 => ?_)
  · rw [if_pos c1] at h
    replace h := zoE h
    obtain ⟨a, h, rfl⟩ := h
    replace hk := hk
    exact J.sub (zall [0, 1, 2, 3] rfl) (wfX8_become_74 hd t x1 x2 x3  G h hk)
  · rw [if_neg c1] at h
    refine j_aload_n (j := 2) dX8_become_49 rfl rfl ?_
    refine j_iload (j := 4) dX8_become_50 rfl ?_
    replace h := zbE h
    obtain ⟨a2, e3, h⟩ := h
    subst e3
    replace h := zkE h
    obtain ⟨e4, h⟩ := h
    replace h := zbE h
    obtain ⟨v6, e5, h⟩ := h
    refine j_cont (zrV (As := [vI x4]) msX8_17 (yX8_has_ok e5) (Nat.le_trans (Nat.le_of_ble_eq_true rfl) hd) (zk_8 _ e4) rfl rfl (Nat.le_of_ble_eq_true rfl) dX8_become_52) ?_
    refine j_if_eq (tgt := 68) dX8_become_55 (by decide) (fun c7 => ?_) (fun c7 => ?_)
    · rw [if_pos c7] at h
      exact J.sub (zall [0, 1, 2, 3, 4] rfl) (wfX8_become_68 hd t x1 (some a2) x3 x4  G h hk)
    · rw [if_neg c7] at h
      refine j_aload_n (j := 0) dX8_become_58 rfl rfl ?_
      refine j_iload_n (j := 3) dX8_become_59 rfl rfl ?_
      refine j_iload (j := 4) dX8_become_60 rfl ?_
      replace h := zbE h
      obtain ⟨v9, e8, h⟩ := h
      refine j_cont (zrS (As := [vI x3, vI x4]) msX8_32 (yX8_cut_ok e8) (Nat.le_trans (Nat.le_of_ble_eq_true rfl) hd) rfl rfl (Nat.le_of_ble_eq_true rfl) dX8_become_62) ?_
      replace h := zkE h
      obtain ⟨e10, h⟩ := h
      replace h := zbE h
      obtain ⟨G12, e11, h⟩ := h
      refine j_cont (zrV (As := [vI v9]) msX8_28 (yX8_add_ok e11) (Nat.le_trans (Nat.le_of_ble_eq_true rfl) hd) (zk_8 _ e10) rfl rfl (Nat.le_of_ble_eq_true rfl) dX8_become_65) ?_
      exact J.sub (zall [0, 1, 2, 3, 4] rfl) (wfX8_become_68 hd t x1 (some a2) x3 x4  G12 h hk)
theorem wflX8_become_41 {F : zF} (hd : 3 ≤ F.2.2.2) (t : Nat) (x1 : Option Nat) (x2 : Option Nat) (x3 : Int32) (x4 : Int32) (G : GS) {a : (Int32 × GS) ⊕ (GS)} (h : flX8_become_41 t x1 x2 x3 x4 G = some a) (hk : (zcase (fun s : Int32 × GS => J mX8_become F s.2 6 [(0, vR (some t)), (1, vR x1), (2, vR x2), (3, vI s.1)] []) (zKV F)) a) : J mX8_become F G 41 [(0, vR (some t)), (1, vR x1), (2, vR x2), (3, vI x3), (4, vI x4)] [] := by
  unfold flX8_become_41 at h
  exact zloop_walk (P := (fun s : Int32 × GS => J mX8_become F s.2 41 [(0, vR (some t)), (1, vR x1), (2, vR x2), (3, vI x3), (4, vI s.1)] [])) (fun s b e hk => wfbX8_become_41 hd t x1 x2 x3 s.1 s.2 e hk) (x4, G) _ h hk
def fbX8_become_6 (t : Nat) (x1 : Option Nat) (x2 : Option Nat) (x3 : Int32)  (G : GS) : Option ((Int32 × GS) ⊕ (GS)) :=
  if 183 ≤ x3 then (zo (some G)) else (x1.bind fun a2 => zk [8] G a2 <| (fX8_has_0 a2 x3 G).bind fun v6 => if v6 = 0 then (fX8_become_74 t (some a2) x2 x3 G) else (if x3 < 14 then (flX8_become_41 t (some a2) x2 x3 0 G) else (zk [8] G t <| (fX8_add_0 t x3 G).bind fun G11 => fX8_become_74 t (some a2) x2 x3 G11)))
def flX8_become_6 (t : Nat) (x1 : Option Nat) (x2 : Option Nat) (x3 : Int32) (G : GS) : Option (GS) := zloop (fun s : Int32 × GS => fbX8_become_6 t x1 x2 s.1 s.2) (x3, G)
theorem wfbX8_become_6 {F : zF} (hd : 3 ≤ F.2.2.2) (t : Nat) (x1 : Option Nat) (x2 : Option Nat) (x3 : Int32) (G : GS) {a : (Int32 × GS) ⊕ (GS)} (h : fbX8_become_6 t x1 x2 x3 G = some a) (hk : (zcase (fun s : Int32 × GS => J mX8_become F s.2 6 [(0, vR (some t)), (1, vR x1), (2, vR x2), (3, vI s.1)] []) (zKV F)) a) : J mX8_become F G 6 [(0, vR (some t)), (1, vR x1), (2, vR x2), (3, vI x3)] [] := by
  unfold fbX8_become_6 at h
  refine j_iload_n (j := 3) dX8_become_6 rfl rfl ?_
  refine j_sipush (v := 183) dX8_become_7 (by decide) ?_
  refine j_icmp_ge (tgt := 80) dX8_become_10 (by decide) (fun c1 => ?_) (fun c1 => ?_)
  · rw [if_pos c1] at h
    replace h := zoE h
    obtain ⟨a, h, rfl⟩ := h
    replace hk := hk
    obtain rfl := Option.some.inj h
    exact j_vret hk.1 hk.2 rfl dX8_become_80
  · rw [if_neg c1] at h
    refine j_aload_n (j := 1) dX8_become_13 rfl rfl ?_
    refine j_iload_n (j := 3) dX8_become_14 rfl rfl ?_
    replace h := zbE h
    obtain ⟨a2, e3, h⟩ := h
    subst e3
    replace h := zkE h
    obtain ⟨e4, h⟩ := h
    replace h := zbE h
    obtain ⟨v6, e5, h⟩ := h
    refine j_cont (zrV (As := [vI x3]) msX8_17 (yX8_has_ok e5) (Nat.le_trans (Nat.le_of_ble_eq_true rfl) hd) (zk_8 _ e4) rfl rfl (Nat.le_of_ble_eq_true rfl) dX8_become_15) ?_
    refine j_if_ne (tgt := 24) dX8_become_18 (by decide) (fun c7 => ?_) (fun c7 => ?_)
    · rw [if_pos c7] at h
      refine j_goto (tgt := 74) dX8_become_21 (by decide) ?_
      exact J.sub (zall [0, 1, 2, 3] rfl) (wfX8_become_74 hd t (some a2) x2 x3  G h hk)
    · rw [if_neg c7] at h
      refine j_iload_n (j := 3) dX8_become_24 rfl rfl ?_
      refine j_bipush (v := 14) dX8_become_25 (by decide) ?_
      refine j_icmp_lt (tgt := 38) dX8_become_27 (by decide) (fun c8 => ?_) (fun c8 => ?_)
      · rw [if_pos c8] at h
        refine j_iconst (v := 0) dX8_become_38 (by decide) ?_
        refine j_istore (lv' := [(4, vI 0), (0, vR (some t)), (1, vR (some a2)), (2, vR x2), (3, vI x3)]) dX8_become_39 (Nat.le_of_ble_eq_true rfl) rfl ?_
        exact J.sub (zall [1, 2, 3, 4, 0] rfl) (wflX8_become_41 hd t (some a2) x2 x3 0  G h hk)
      · rw [if_neg c8] at h
        refine j_aload_n (j := 0) dX8_become_30 rfl rfl ?_
        refine j_iload_n (j := 3) dX8_become_31 rfl rfl ?_
        replace h := zkE h
        obtain ⟨e9, h⟩ := h
        replace h := zbE h
        obtain ⟨G11, e10, h⟩ := h
        refine j_cont (zrV (As := [vI x3]) msX8_28 (yX8_add_ok e10) (Nat.le_trans (Nat.le_of_ble_eq_true rfl) hd) (zk_8 _ e9) rfl rfl (Nat.le_of_ble_eq_true rfl) dX8_become_32) ?_
        refine j_goto (tgt := 74) dX8_become_35 (by decide) ?_
        exact J.sub (zall [0, 1, 2, 3] rfl) (wfX8_become_74 hd t (some a2) x2 x3  G11 h hk)
theorem wflX8_become_6 {F : zF} (hd : 3 ≤ F.2.2.2) (t : Nat) (x1 : Option Nat) (x2 : Option Nat) (x3 : Int32) (G : GS) {a : GS} (h : flX8_become_6 t x1 x2 x3 G = some a) (hk : zKV F a) : J mX8_become F G 6 [(0, vR (some t)), (1, vR x1), (2, vR x2), (3, vI x3)] [] := by
  unfold flX8_become_6 at h
  exact zloop_walk (P := (fun s : Int32 × GS => J mX8_become F s.2 6 [(0, vR (some t)), (1, vR x1), (2, vR x2), (3, vI s.1)] [])) (fun s b e hk => wfbX8_become_6 hd t x1 x2 s.1 s.2 e hk) (x3, G) _ h hk
def fX8_become_0 (t : Nat) (x1 : Option Nat) (x2 : Option Nat)  (G : GS) : Option (GS) :=
  zk [8] G t <| (fX8_clear_0 t G).bind fun G3 => flX8_become_6 t x1 x2 0 G3
theorem wfX8_become_0 {F : zF} (hd : 3 ≤ F.2.2.2) (t : Nat) (x1 : Option Nat) (x2 : Option Nat)  (G : GS) {a : GS} (h : fX8_become_0 t x1 x2  G = some a) (hk : zKV F a) : J mX8_become F G 0 [(0, vR (some t)), (1, vR x1), (2, vR x2)] [] := by
  unfold fX8_become_0 at h
  refine j_aload_n (j := 0) dX8_become_0 rfl rfl ?_
  replace h := zkE h
  obtain ⟨e1, h⟩ := h
  replace h := zbE h
  obtain ⟨G3, e2, h⟩ := h
  refine j_cont (zrV (As := []) msX8_25 (yX8_clear_ok e2) (Nat.le_trans (Nat.le_of_ble_eq_true rfl) hd) (zk_8 _ e1) rfl rfl (Nat.le_of_ble_eq_true rfl) dX8_become_1) ?_
  refine j_iconst (v := 0) dX8_become_4 (by decide) ?_
  refine j_istore_n (lv' := [(3, vI 0), (0, vR (some t)), (1, vR x1), (2, vR x2)]) dX8_become_5 rfl (Nat.le_of_ble_eq_true rfl) rfl ?_
  exact J.sub (zall [1, 2, 3, 0] rfl) (wflX8_become_6 hd t x1 x2 0  G3 h hk)
theorem yX8_become_ok {t : Nat} {x1 : Option Nat} {x2 : Option Nat} {G : GS} {G1 : GS} (h : fX8_become_0 t x1 x2 G = some G1) : zRuns yX8_become (ws_ yX8_become cX8_become 5 none) [vR (some t), vR x1, vR x2] (.inl none, G, G1, 3) :=
  zentry (M := mX8_become) (plainFor_of_name (by decide +kernel)) ⟨rfl, rfl, rfl, rfl⟩ (Nat.le_of_ble_eq_true rfl) (wfX8_become_0 (Nat.le_refl _) t x1 x2 G h ⟨rfl, rfl⟩)
abbrev mX8_addAll : zM := (cX8_addAll, RX8, 4, (some Jvm.ClassFile.FieldType.boolean), "addAll", [], "(LSelahGenerator$Strings;)Z")
def fX8_addAll_41 (t : Nat) (x1 : Option Nat) (x3 : Int32) (s0 : Int32) (s1 : Int32) (G : GS) : Option ((Int32 × Int32 × GS) ⊕ ((Int32) × GS)) :=
  (zgR G 8 t 0).bind fun r1 => r1.bind fun a3 => (zaL G 51 a3 x3).bind fun l5 => x1.bind fun a7 => (zgR G 8 a7 0).bind fun r9 => r9.bind fun a11 => (zaL G 51 a11 x3).bind fun l13 => (zsL G 51 a3 x3 (l5 ||| l13)).bind fun G15 => some (.inl ((s0 ||| s1), (x3 + 1), G15))
theorem wfX8_addAll_41 {F : zF} (hd : 1 ≤ F.2.2.2) (t : Nat) (x1 : Option Nat) (x3 : Int32) (s0 : Int32) (s1 : Int32) (G : GS) {a : (Int32 × Int32 × GS) ⊕ ((Int32) × GS)} (h : fX8_addAll_41 t x1 x3 s0 s1 G = some a) (hk : (zcase (fun s : Int32 × Int32 × GS => J mX8_addAll F s.2.2 4 [(0, vR (some t)), (1, vR x1), (2, vI s.1), (3, vI s.2.1)] []) (zKI F)) a) : J mX8_addAll F G 41 [(0, vR (some t)), (1, vR x1), (3, vI x3)] [vI s1, vI s0] := by
  unfold fX8_addAll_41 at h
  refine j_ior dX8_addAll_41 ?_
  refine j_istore_n (lv' := [(2, vI (s0 ||| s1)), (0, vR (some t)), (1, vR x1), (3, vI x3)]) dX8_addAll_42 rfl (Nat.le_of_ble_eq_true rfl) rfl ?_
  refine j_aload_n (j := 1) dX8_addAll_43 rfl rfl ?_
  replace h := zbE h
  obtain ⟨r1, e2, h⟩ := h
  refine j_getR fgX8_9 (fun _ _ _ => rfl) dX8_addAll_44 e2 ?_
  refine j_iload_n (j := 3) dX8_addAll_47 rfl rfl ?_
  refine j_dup2_11 dX8_addAll_48 rfl rfl ?_
  replace h := zbE h
  obtain ⟨a3, e4, h⟩ := h
  subst e4
  replace h := zbE h
  obtain ⟨l5, e6, h⟩ := h
  refine j_lald rfl e6 dX8_addAll_49 ?_
  refine j_aload_n (j := 2) dX8_addAll_50 rfl rfl ?_
  replace h := zbE h
  obtain ⟨a7, e8, h⟩ := h
  subst e8
  replace h := zbE h
  obtain ⟨r9, e10, h⟩ := h
  refine j_getR fgX8_9 (fun _ _ _ => rfl) dX8_addAll_51 e10 ?_
  refine j_iload_n (j := 3) dX8_addAll_54 rfl rfl ?_
  replace h := zbE h
  obtain ⟨a11, e12, h⟩ := h
  subst e12
  replace h := zbE h
  obtain ⟨l13, e14, h⟩ := h
  refine j_lald rfl e14 dX8_addAll_55 ?_
  refine j_lor dX8_addAll_56 ?_
  replace h := zbE h
  obtain ⟨G15, e16, h⟩ := h
  refine j_last e16 dX8_addAll_57 ?_
  refine j_iinc (j := 3) (v := (x3 + 1)) (lv' := [(3, vI (x3 + 1)), (2, vI (s0 ||| s1)), (0, vR (some t)), (1, vR (some a7))]) dX8_addAll_58 rfl rfl (Nat.le_of_ble_eq_true rfl) rfl ?_
  refine j_goto (tgt := 4) dX8_addAll_61 (by decide) ?_
  obtain rfl := Option.some.inj h
  exact J.sub (zall [2, 3, 1, 0] rfl) hk
def fbX8_addAll_4 (t : Nat) (x1 : Option Nat) (x2 : Int32) (x3 : Int32)  (G : GS) : Option ((Int32 × Int32 × GS) ⊕ ((Int32) × GS)) :=
  (zgR G 8 t 0).bind fun r1 => r1.bind fun a3 => (zln G a3).bind fun v5 => if v5 ≤ x3 then (zo (zcond (zbb x2) (some (x2, G)))) else (x1.bind fun a9 => (zgR G 8 a9 0).bind fun r11 => r11.bind fun a13 => (zaL G 51 a13 x3).bind fun l15 => (zgR G 8 t 0).bind fun r17 => r17.bind fun a19 => (zaL G 51 a19 x3).bind fun l21 => if (lg_cmp (l15 &&& (l21 ^^^ -1)) (0 : Int64)) = 0 then (fX8_addAll_41 t (some a9) x3 x2 0 G) else (fX8_addAll_41 t (some a9) x3 x2 1 G))
def flX8_addAll_4 (t : Nat) (x1 : Option Nat) (x2 : Int32) (x3 : Int32) (G : GS) : Option ((Int32) × GS) := zloop (fun s : Int32 × Int32 × GS => fbX8_addAll_4 t x1 s.1 s.2.1 s.2.2) (x2, x3, G)
theorem wfbX8_addAll_4 {F : zF} (hd : 1 ≤ F.2.2.2) (t : Nat) (x1 : Option Nat) (x2 : Int32) (x3 : Int32) (G : GS) {a : (Int32 × Int32 × GS) ⊕ ((Int32) × GS)} (h : fbX8_addAll_4 t x1 x2 x3 G = some a) (hk : (zcase (fun s : Int32 × Int32 × GS => J mX8_addAll F s.2.2 4 [(0, vR (some t)), (1, vR x1), (2, vI s.1), (3, vI s.2.1)] []) (zKI F)) a) : J mX8_addAll F G 4 [(0, vR (some t)), (1, vR x1), (2, vI x2), (3, vI x3)] [] := by
  unfold fbX8_addAll_4 at h
  refine j_iload_n (j := 3) dX8_addAll_4 rfl rfl ?_
  refine j_aload_n (j := 0) dX8_addAll_5 rfl rfl ?_
  replace h := zbE h
  obtain ⟨r1, e2, h⟩ := h
  refine j_getR fgX8_9 (fun _ _ _ => rfl) dX8_addAll_6 e2 ?_
  replace h := zbE h
  obtain ⟨a3, e4, h⟩ := h
  subst e4
  replace h := zbE h
  obtain ⟨v5, e6, h⟩ := h
  refine j_alen e6 dX8_addAll_9 ?_
  refine j_icmp_ge (tgt := 64) dX8_addAll_10 (by decide) (fun c7 => ?_) (fun c7 => ?_)
  · rw [if_pos c7] at h
    replace h := zoE h
    obtain ⟨a, h, rfl⟩ := h
    replace hk := hk
    refine j_iload_n (j := 2) dX8_addAll_64 rfl rfl ?_
    replace h := zcondE h
    obtain ⟨e8, h⟩ := h
    obtain rfl := Option.some.inj h
    exact j_zret hk.1 hk.2 rfl (zbb_n e8) dX8_addAll_65
  · rw [if_neg c7] at h
    refine j_iload_n (j := 2) dX8_addAll_13 rfl rfl ?_
    refine j_aload_n (j := 1) dX8_addAll_14 rfl rfl ?_
    replace h := zbE h
    obtain ⟨a9, e10, h⟩ := h
    subst e10
    replace h := zbE h
    obtain ⟨r11, e12, h⟩ := h
    refine j_getR fgX8_9 (fun _ _ _ => rfl) dX8_addAll_15 e12 ?_
    refine j_iload_n (j := 3) dX8_addAll_18 rfl rfl ?_
    replace h := zbE h
    obtain ⟨a13, e14, h⟩ := h
    subst e14
    replace h := zbE h
    obtain ⟨l15, e16, h⟩ := h
    refine j_lald rfl e16 dX8_addAll_19 ?_
    refine j_aload_n (j := 0) dX8_addAll_20 rfl rfl ?_
    replace h := zbE h
    obtain ⟨r17, e18, h⟩ := h
    refine j_getR fgX8_9 (fun _ _ _ => rfl) dX8_addAll_21 e18 ?_
    refine j_iload_n (j := 3) dX8_addAll_24 rfl rfl ?_
    replace h := zbE h
    obtain ⟨a19, e20, h⟩ := h
    subst e20
    replace h := zbE h
    obtain ⟨l21, e22, h⟩ := h
    refine j_lald rfl e22 dX8_addAll_25 ?_
    refine j_ldc2 (v := -1) q1394 dX8_addAll_26 ?_
    refine j_lxor dX8_addAll_29 ?_
    refine j_land dX8_addAll_30 ?_
    refine j_lconst (v := 0) dX8_addAll_31 rfl ?_
    refine j_lcmp dX8_addAll_32 ?_
    refine j_if_eq (tgt := 40) dX8_addAll_33 (by decide) (fun c23 => ?_) (fun c23 => ?_)
    · rw [if_pos c23] at h
      refine j_iconst (v := 0) dX8_addAll_40 (by decide) ?_
      exact J.sub (zall [0, 1, 3] rfl) (wfX8_addAll_41 hd t (some a9) x3 x2 0 G h hk)
    · rw [if_neg c23] at h
      refine j_iconst (v := 1) dX8_addAll_36 (by decide) ?_
      refine j_goto (tgt := 41) dX8_addAll_37 (by decide) ?_
      exact J.sub (zall [0, 1, 3] rfl) (wfX8_addAll_41 hd t (some a9) x3 x2 1 G h hk)
theorem wflX8_addAll_4 {F : zF} (hd : 1 ≤ F.2.2.2) (t : Nat) (x1 : Option Nat) (x2 : Int32) (x3 : Int32) (G : GS) {a : (Int32) × GS} (h : flX8_addAll_4 t x1 x2 x3 G = some a) (hk : zKI F a) : J mX8_addAll F G 4 [(0, vR (some t)), (1, vR x1), (2, vI x2), (3, vI x3)] [] := by
  unfold flX8_addAll_4 at h
  exact zloop_walk (P := (fun s : Int32 × Int32 × GS => J mX8_addAll F s.2.2 4 [(0, vR (some t)), (1, vR x1), (2, vI s.1), (3, vI s.2.1)] [])) (fun s b e hk => wfbX8_addAll_4 hd t x1 s.1 s.2.1 s.2.2 e hk) (x2, x3, G) _ h hk
def fX8_addAll_0 (t : Nat) (x1 : Option Nat)  (G : GS) : Option ((Int32) × GS) :=
  flX8_addAll_4 t x1 0 0 G
theorem wfX8_addAll_0 {F : zF} (hd : 1 ≤ F.2.2.2) (t : Nat) (x1 : Option Nat)  (G : GS) {a : (Int32) × GS} (h : fX8_addAll_0 t x1  G = some a) (hk : zKI F a) : J mX8_addAll F G 0 [(0, vR (some t)), (1, vR x1)] [] := by
  unfold fX8_addAll_0 at h
  refine j_iconst (v := 0) dX8_addAll_0 (by decide) ?_
  refine j_istore_n (lv' := [(2, vI 0), (0, vR (some t)), (1, vR x1)]) dX8_addAll_1 rfl (Nat.le_of_ble_eq_true rfl) rfl ?_
  refine j_iconst (v := 0) dX8_addAll_2 (by decide) ?_
  refine j_istore_n (lv' := [(3, vI 0), (2, vI 0), (0, vR (some t)), (1, vR x1)]) dX8_addAll_3 rfl (Nat.le_of_ble_eq_true rfl) rfl ?_
  exact J.sub (zall [2, 3, 1, 0] rfl) (wflX8_addAll_4 hd t x1 0 0  G h hk)
theorem yX8_addAll_ok {t : Nat} {x1 : Option Nat} {G : GS} {r : Int32} {G1 : GS} (h : fX8_addAll_0 t x1 G = some (r, G1)) : zRuns yX8_addAll (ws_ yX8_addAll cX8_addAll 4 (some Jvm.ClassFile.FieldType.boolean)) [vR (some t), vR x1] (.inl (some (vI r)), G, G1, 1) :=
  zentry (M := mX8_addAll) (plainFor_of_name (by decide +kernel)) ⟨rfl, rfl, rfl, rfl⟩ (Nat.le_of_ble_eq_true rfl) (wfX8_addAll_0 (Nat.le_refl _) t x1 G h ⟨rfl, rfl⟩)
theorem msX8_35 : zSV RX8 35 RX8 yX8_addAll cX8_addAll 4 (some Jvm.ClassFile.FieldType.boolean) 1 := ⟨lw_V q1390 q1391 q1392 q169 q1393, (by decide +kernel), (by decide)⟩
abbrev mX8_become_2 : zM := (cX8_become_2, RX8, 3, none, "become", [], "(LSelahGenerator$Strings;)V")
def fX8_become_2_0 (t : Nat) (x1 : Option Nat)  (G : GS) : Option (GS) :=
  zk [8] G t <| (fX8_clear_0 t G).bind fun G3 => zk [8] G3 t <| zb2 (fX8_addAll_0 t x1 G3) fun v6 G7 => some G7
theorem wfX8_become_2_0 {F : zF} (hd : 2 ≤ F.2.2.2) (t : Nat) (x1 : Option Nat)  (G : GS) {a : GS} (h : fX8_become_2_0 t x1  G = some a) (hk : zKV F a) : J mX8_become_2 F G 0 [(0, vR (some t)), (1, vR x1)] [] := by
  unfold fX8_become_2_0 at h
  refine j_aload_n (j := 0) dX8_become_2_0 rfl rfl ?_
  replace h := zkE h
  obtain ⟨e1, h⟩ := h
  replace h := zbE h
  obtain ⟨G3, e2, h⟩ := h
  refine j_cont (zrV (As := []) msX8_25 (yX8_clear_ok e2) (Nat.le_trans (Nat.le_of_ble_eq_true rfl) hd) (zk_8 _ e1) rfl rfl (Nat.le_of_ble_eq_true rfl) dX8_become_2_1) ?_
  refine j_aload_n (j := 0) dX8_become_2_4 rfl rfl ?_
  refine j_aload_n (j := 1) dX8_become_2_5 rfl rfl ?_
  replace h := zkE h
  obtain ⟨e4, h⟩ := h
  replace h := zb2E h
  obtain ⟨v6, G7, e5, h⟩ := h
  refine j_cont (zrV (As := [vR x1]) msX8_35 (yX8_addAll_ok e5) (Nat.le_trans (Nat.le_of_ble_eq_true rfl) hd) (zk_8 _ e4) rfl rfl (Nat.le_of_ble_eq_true rfl) dX8_become_2_6) ?_
  refine j_istore_n (lv' := [(2, vI v6), (0, vR (some t)), (1, vR x1)]) dX8_become_2_9 rfl (Nat.le_of_ble_eq_true rfl) rfl ?_
  obtain rfl := Option.some.inj h
  exact j_vret hk.1 hk.2 rfl dX8_become_2_10
theorem yX8_become_2_ok {t : Nat} {x1 : Option Nat} {G : GS} {G1 : GS} (h : fX8_become_2_0 t x1 G = some G1) : zRuns yX8_become_2 (ws_ yX8_become_2 cX8_become_2 3 none) [vR (some t), vR x1] (.inl none, G, G1, 2) :=
  zentry (M := mX8_become_2) (plainFor_of_name (by decide +kernel)) ⟨rfl, rfl, rfl, rfl⟩ (Nat.le_of_ble_eq_true rfl) (wfX8_become_2_0 (Nat.le_refl _) t x1 G h ⟨rfl, rfl⟩)
end
