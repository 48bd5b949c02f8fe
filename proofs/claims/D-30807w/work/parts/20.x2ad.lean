/-! printed: functions and walks -/
set_option maxRecDepth 100000
noncomputable section
theorem fgX2_53 : zFG RX2 53 1 21 (.array (.int)) := ⟨(RX2, TX2, 42, tyX2), rfl, by decide, in_X2, rfl, "SelahGeneratorModel", Or.inl rfl, Or.inl q2693⟩
abbrev mX2_reaches : zM := (cX2_reaches, RX2, 3, none, "reaches", [], "()V")
def fX2_reaches_165 (t : Nat) (x1 : Int32)  (G : GS) : Option ((Int32 × GS) ⊕ (GS)) :=
  some (.inl ((x1 + 1), G))
theorem wfX2_reaches_165 {F : zF} (hd : 8 ≤ F.2.2.2) (t : Nat) (x1 : Int32)  (G : GS) {a : (Int32 × GS) ⊕ (GS)} (h : fX2_reaches_165 t x1  G = some a) (hk : (zcase (fun s : Int32 × GS => J mX2_reaches F s.2 117 [(0, vR (some t)), (1, vI s.1)] []) (zKV F)) a) : J mX2_reaches F G 165 [(0, vR (some t)), (1, vI x1)] [] := by
  unfold fX2_reaches_165 at h
  refine j_iinc (j := 1) (v := (x1 + 1)) (lv' := [(1, vI (x1 + 1)), (0, vR (some t))]) dX2_reaches_165 rfl rfl (Nat.le_of_ble_eq_true rfl) rfl ?_
  refine j_goto (tgt := 117) dX2_reaches_168 (by decide) ?_
  obtain rfl := Option.some.inj h
  exact J.sub (zall [1, 0] rfl) hk
def fX2_reaches_159 (t : Nat) (x1 : Int32) (x2 : Int32)  (G : GS) : Option ((Int32 × GS) ⊕ ((Int32 × GS) ⊕ (GS))) :=
  some (.inl ((x2 + 1), G))
theorem wfX2_reaches_159 {F : zF} (hd : 8 ≤ F.2.2.2) (t : Nat) (x1 : Int32) (x2 : Int32)  (G : GS) {a : (Int32 × GS) ⊕ ((Int32 × GS) ⊕ (GS))} (h : fX2_reaches_159 t x1 x2  G = some a) (hk : (zcase (fun s : Int32 × GS => J mX2_reaches F s.2 125 [(0, vR (some t)), (1, vI x1), (2, vI s.1)] []) ((zcase (fun s : Int32 × GS => J mX2_reaches F s.2 117 [(0, vR (some t)), (1, vI s.1)] []) (zKV F)))) a) : J mX2_reaches F G 159 [(0, vR (some t)), (1, vI x1), (2, vI x2)] [] := by
  unfold fX2_reaches_159 at h
  refine j_iinc (j := 2) (v := (x2 + 1)) (lv' := [(2, vI (x2 + 1)), (0, vR (some t)), (1, vI x1)]) dX2_reaches_159 rfl rfl (Nat.le_of_ble_eq_true rfl) rfl ?_
  refine j_goto (tgt := 125) dX2_reaches_162 (by decide) ?_
  obtain rfl := Option.some.inj h
  exact J.sub (zall [1, 2, 0] rfl) hk
def fbX2_reaches_125 (t : Nat) (x1 : Int32) (x2 : Int32)  (G : GS) : Option ((Int32 × GS) ⊕ ((Int32 × GS) ⊕ (GS))) :=
  if 12 ≤ x2 then (zo (fX2_reaches_165 t x1 G)) else ((zgR G 2 t 21).bind fun r2 => r2.bind fun a4 => (zaI G 50 a4 x2).bind fun v6 => (fX2_has_0 v6 x1 G).bind fun v9 => if v9 = 0 then (fX2_reaches_159 t x1 x2 G) else ((zgR G 2 t 21).bind fun r11 => r11.bind fun a13 => (zaI G 50 a13 x2).bind fun v15 => (zgR G 2 t 21).bind fun r17 => r17.bind fun a19 => (zaI G 50 a19 x1).bind fun v21 => (zsI G 50 a13 x2 (v15 ||| v21)).bind fun G23 => fX2_reaches_159 t x1 x2 G23))
def flX2_reaches_125 (t : Nat) (x1 : Int32) (x2 : Int32) (G : GS) : Option ((Int32 × GS) ⊕ (GS)) := zloop (fun s : Int32 × GS => fbX2_reaches_125 t x1 s.1 s.2) (x2, G)
theorem wfbX2_reaches_125 {F : zF} (hd : 8 ≤ F.2.2.2) (t : Nat) (x1 : Int32) (x2 : Int32) (G : GS) {a : (Int32 × GS) ⊕ ((Int32 × GS) ⊕ (GS))} (h : fbX2_reaches_125 t x1 x2 G = some a) (hk : (zcase (fun s : Int32 × GS => J mX2_reaches F s.2 125 [(0, vR (some t)), (1, vI x1), (2, vI s.1)] []) ((zcase (fun s : Int32 × GS => J mX2_reaches F s.2 117 [(0, vR (some t)), (1, vI s.1)] []) (zKV F)))) a) : J mX2_reaches F G 125 [(0, vR (some t)), (1, vI x1), (2, vI x2)] [] := by
  unfold fbX2_reaches_125 at h
  refine j_iload_n (j := 2) dX2_reaches_125 rfl rfl ?_
  refine j_bipush (v := 12) dX2_reaches_126 (by decide) ?_
  refine j_icmp_ge (tgt := 165) dX2_reaches_128 (by decide) (fun c1 => ?_) (fun c1 => ?_)
  · rw [if_pos c1] at h
    replace h := zoE h
    obtain ⟨a, h, rfl⟩ := h
    replace hk := hk
    exact J.sub (zall [0, 1] rfl) (wfX2_reaches_165 hd t x1  G h hk)
  · rw [if_neg c1] at h
    refine j_aload_n (j := 0) dX2_reaches_131 rfl rfl ?_
    replace h := zbE h
    obtain ⟨r2, e3, h⟩ := h
    refine j_getR fgX2_53 (fun _ _ _ => rfl) dX2_reaches_132 e3 ?_
    refine j_iload_n (j := 2) dX2_reaches_135 rfl rfl ?_
    replace h := zbE h
    obtain ⟨a4, e5, h⟩ := h
    subst e5
    replace h := zbE h
    obtain ⟨v6, e7, h⟩ := h
    refine j_iald (Or.inl rfl) e7 dX2_reaches_136 ?_
    refine j_iload_n (j := 1) dX2_reaches_137 rfl rfl ?_
    replace h := zbE h
    obtain ⟨v9, e8, h⟩ := h
    refine j_cont (zrS (As := [vI v6, vI x1]) msX2_198 (yX2_has_ok e8) (Nat.le_trans (Nat.le_of_ble_eq_true rfl) hd) rfl rfl (Nat.le_of_ble_eq_true rfl) dX2_reaches_138) ?_
    refine j_if_eq (tgt := 159) dX2_reaches_141 (by decide) (fun c10 => ?_) (fun c10 => ?_)
    · rw [if_pos c10] at h
      exact J.sub (zall [0, 1, 2] rfl) (wfX2_reaches_159 hd t x1 x2  G h hk)
    · rw [if_neg c10] at h
      refine j_aload_n (j := 0) dX2_reaches_144 rfl rfl ?_
      replace h := zbE h
      obtain ⟨r11, e12, h⟩ := h
      refine j_getR fgX2_53 (fun _ _ _ => rfl) dX2_reaches_145 e12 ?_
      refine j_iload_n (j := 2) dX2_reaches_148 rfl rfl ?_
      refine j_dup2_11 dX2_reaches_149 rfl rfl ?_
      replace h := zbE h
      obtain ⟨a13, e14, h⟩ := h
      subst e14
      replace h := zbE h
      obtain ⟨v15, e16, h⟩ := h
      refine j_iald (Or.inl rfl) e16 dX2_reaches_150 ?_
      refine j_aload_n (j := 0) dX2_reaches_151 rfl rfl ?_
      replace h := zbE h
      obtain ⟨r17, e18, h⟩ := h
      refine j_getR fgX2_53 (fun _ _ _ => rfl) dX2_reaches_152 e18 ?_
      refine j_iload_n (j := 1) dX2_reaches_155 rfl rfl ?_
      replace h := zbE h
      obtain ⟨a19, e20, h⟩ := h
      subst e20
      replace h := zbE h
      obtain ⟨v21, e22, h⟩ := h
      refine j_iald (Or.inl rfl) e22 dX2_reaches_156 ?_
      refine j_ior dX2_reaches_157 ?_
      replace h := zbE h
      obtain ⟨G23, e24, h⟩ := h
      refine j_iast e24 dX2_reaches_158 ?_
      exact J.sub (zall [0, 1, 2] rfl) (wfX2_reaches_159 hd t x1 x2  G23 h hk)
theorem wflX2_reaches_125 {F : zF} (hd : 8 ≤ F.2.2.2) (t : Nat) (x1 : Int32) (x2 : Int32) (G : GS) {a : (Int32 × GS) ⊕ (GS)} (h : flX2_reaches_125 t x1 x2 G = some a) (hk : (zcase (fun s : Int32 × GS => J mX2_reaches F s.2 117 [(0, vR (some t)), (1, vI s.1)] []) (zKV F)) a) : J mX2_reaches F G 125 [(0, vR (some t)), (1, vI x1), (2, vI x2)] [] := by
  unfold flX2_reaches_125 at h
  exact zloop_walk (P := (fun s : Int32 × GS => J mX2_reaches F s.2 125 [(0, vR (some t)), (1, vI x1), (2, vI s.1)] [])) (fun s b e hk => wfbX2_reaches_125 hd t x1 s.1 s.2 e hk) (x2, G) _ h hk
def fbX2_reaches_117 (t : Nat) (x1 : Int32)  (G : GS) : Option ((Int32 × GS) ⊕ (GS)) :=
  if 12 ≤ x1 then (zo (some G)) else (flX2_reaches_125 t x1 0 G)
def flX2_reaches_117 (t : Nat) (x1 : Int32) (G : GS) : Option (GS) := zloop (fun s : Int32 × GS => fbX2_reaches_117 t s.1 s.2) (x1, G)
theorem wfbX2_reaches_117 {F : zF} (hd : 8 ≤ F.2.2.2) (t : Nat) (x1 : Int32) (G : GS) {a : (Int32 × GS) ⊕ (GS)} (h : fbX2_reaches_117 t x1 G = some a) (hk : (zcase (fun s : Int32 × GS => J mX2_reaches F s.2 117 [(0, vR (some t)), (1, vI s.1)] []) (zKV F)) a) : J mX2_reaches F G 117 [(0, vR (some t)), (1, vI x1)] [] := by
  unfold fbX2_reaches_117 at h
  refine j_iload_n (j := 1) dX2_reaches_117 rfl rfl ?_
  refine j_bipush (v := 12) dX2_reaches_118 (by decide) ?_
  refine j_icmp_ge (tgt := 171) dX2_reaches_120 (by decide) (fun c1 => ?_) (fun c1 => ?_)
  · rw [if_pos c1] at h
    replace h := zoE h
    obtain ⟨a, h, rfl⟩ := h
    replace hk := hk
    obtain rfl := Option.some.inj h
    exact j_vret hk.1 hk.2 rfl dX2_reaches_171
  · rw [if_neg c1] at h
    refine j_iconst (v := 0) dX2_reaches_123 (by decide) ?_
    refine j_istore_n (lv' := [(2, vI 0), (0, vR (some t)), (1, vI x1)]) dX2_reaches_124 rfl (Nat.le_of_ble_eq_true rfl) rfl ?_
    exact J.sub (zall [1, 2, 0] rfl) (wflX2_reaches_125 hd t x1 0  G h hk)
theorem wflX2_reaches_117 {F : zF} (hd : 8 ≤ F.2.2.2) (t : Nat) (x1 : Int32) (G : GS) {a : GS} (h : flX2_reaches_117 t x1 G = some a) (hk : zKV F a) : J mX2_reaches F G 117 [(0, vR (some t)), (1, vI x1)] [] := by
  unfold flX2_reaches_117 at h
  exact zloop_walk (P := (fun s : Int32 × GS => J mX2_reaches F s.2 117 [(0, vR (some t)), (1, vI s.1)] [])) (fun s b e hk => wfbX2_reaches_117 hd t s.1 s.2 e hk) (x1, G) _ h hk
def fX2_reaches_115 (t : Nat)  (G : GS) : Option (GS) :=
  flX2_reaches_117 t 0 G
theorem wfX2_reaches_115 {F : zF} (hd : 8 ≤ F.2.2.2) (t : Nat)  (G : GS) {a : GS} (h : fX2_reaches_115 t  G = some a) (hk : zKV F a) : J mX2_reaches F G 115 [(0, vR (some t))] [] := by
  unfold fX2_reaches_115 at h
  refine j_iconst (v := 0) dX2_reaches_115 (by decide) ?_
  refine j_istore_n (lv' := [(1, vI 0), (0, vR (some t))]) dX2_reaches_116 rfl (Nat.le_of_ble_eq_true rfl) rfl ?_
  exact J.sub (zall [1, 0] rfl) (wflX2_reaches_117 hd t 0  G h hk)
def fX2_reaches_109 (t : Nat) (x1 : Int32)  (G : GS) : Option ((Int32 × GS) ⊕ (GS)) :=
  some (.inl ((x1 + 1), G))
theorem wfX2_reaches_109 {F : zF} (hd : 8 ≤ F.2.2.2) (t : Nat) (x1 : Int32)  (G : GS) {a : (Int32 × GS) ⊕ (GS)} (h : fX2_reaches_109 t x1  G = some a) (hk : (zcase (fun s : Int32 × GS => J mX2_reaches F s.2 27 [(0, vR (some t)), (1, vI s.1)] []) (zKV F)) a) : J mX2_reaches F G 109 [(0, vR (some t)), (1, vI x1)] [] := by
  unfold fX2_reaches_109 at h
  refine j_iinc (j := 1) (v := (x1 + 1)) (lv' := [(1, vI (x1 + 1)), (0, vR (some t))]) dX2_reaches_109 rfl rfl (Nat.le_of_ble_eq_true rfl) rfl ?_
  refine j_goto (tgt := 27) dX2_reaches_112 (by decide) ?_
  obtain rfl := Option.some.inj h
  exact J.sub (zall [1, 0] rfl) hk
def fX2_reaches_100 (t : Nat) (x1 : Int32)  (G : GS) : Option ((Int32 × GS) ⊕ (GS)) :=
  fX2_reaches_109 t x1 G
theorem wfX2_reaches_100 {F : zF} (hd : 8 ≤ F.2.2.2) (t : Nat) (x1 : Int32)  (G : GS) {a : (Int32 × GS) ⊕ (GS)} (h : fX2_reaches_100 t x1  G = some a) (hk : (zcase (fun s : Int32 × GS => J mX2_reaches F s.2 27 [(0, vR (some t)), (1, vI s.1)] []) (zKV F)) a) : J mX2_reaches F G 100 [(0, vR (some t)), (1, vI x1)] [] := by
  unfold fX2_reaches_100 at h
  refine j_goto (tgt := 109) dX2_reaches_100 (by decide) ?_
  exact J.sub (zall [0, 1] rfl) (wfX2_reaches_109 hd t x1  G h hk)
def fX2_reaches_87 (t : Nat) (x1 : Int32) (x2 : Int32)  (G : GS) : Option ((Int32 × GS) ⊕ ((Int32 × GS) ⊕ (GS))) :=
  zk [2] G t <| (fX2_at_0 t x1 x2 G).bind fun v3 => zk [2] G t <| (fX2_isEmptyable_0 t v3 G).bind fun v6 => if v6 = 0 then (zo (fX2_reaches_100 t x1 G)) else (some (.inl ((x2 + 1), G)))
theorem wfX2_reaches_87 {F : zF} (hd : 8 ≤ F.2.2.2) (t : Nat) (x1 : Int32) (x2 : Int32)  (G : GS) {a : (Int32 × GS) ⊕ ((Int32 × GS) ⊕ (GS))} (h : fX2_reaches_87 t x1 x2  G = some a) (hk : (zcase (fun s : Int32 × GS => J mX2_reaches F s.2 37 [(0, vR (some t)), (1, vI x1), (2, vI s.1)] []) ((zcase (fun s : Int32 × GS => J mX2_reaches F s.2 27 [(0, vR (some t)), (1, vI s.1)] []) (zKV F)))) a) : J mX2_reaches F G 87 [(0, vR (some t)), (1, vI x1), (2, vI x2)] [] := by
  unfold fX2_reaches_87 at h
  refine j_aload_n (j := 0) dX2_reaches_87 rfl rfl ?_
  refine j_aload_n (j := 0) dX2_reaches_88 rfl rfl ?_
  refine j_iload_n (j := 1) dX2_reaches_89 rfl rfl ?_
  refine j_iload_n (j := 2) dX2_reaches_90 rfl rfl ?_
  replace h := zkE h
  obtain ⟨e1, h⟩ := h
  replace h := zbE h
  obtain ⟨v3, e2, h⟩ := h
  refine j_cont (zrV (As := [vI x1, vI x2]) msX2_187 (yX2_at_ok e2) (Nat.le_trans (Nat.le_of_ble_eq_true rfl) hd) (zk_2 _ e1) rfl rfl (Nat.le_of_ble_eq_true rfl) dX2_reaches_91) ?_
  replace h := zkE h
  obtain ⟨e4, h⟩ := h
  replace h := zbE h
  obtain ⟨v6, e5, h⟩ := h
  refine j_cont (zrV (As := [vI v3]) msX2_202 (yX2_isEmptyable_ok e5) (Nat.le_trans (Nat.le_of_ble_eq_true rfl) hd) (zk_2 _ e4) rfl rfl (Nat.le_of_ble_eq_true rfl) dX2_reaches_94) ?_
  refine j_if_ne (tgt := 103) dX2_reaches_97 (by decide) (fun c7 => ?_) (fun c7 => ?_)
  · rw [if_pos c7] at h
    replace h := zoE h
    obtain ⟨a, h, rfl⟩ := h
    replace hk := hk
    exact J.sub (zall [0, 1] rfl) (wfX2_reaches_100 hd t x1  G h hk)
  · rw [if_neg c7] at h
    refine j_iinc (j := 2) (v := (x2 + 1)) (lv' := [(2, vI (x2 + 1)), (0, vR (some t)), (1, vI x1)]) dX2_reaches_103 rfl rfl (Nat.le_of_ble_eq_true rfl) rfl ?_
    refine j_goto (tgt := 37) dX2_reaches_106 (by decide) ?_
    obtain rfl := Option.some.inj h
    exact J.sub (zall [1, 2, 0] rfl) hk
def fbX2_reaches_37 (t : Nat) (x1 : Int32) (x2 : Int32)  (G : GS) : Option ((Int32 × GS) ⊕ ((Int32 × GS) ⊕ (GS))) :=
  (zgR G 2 t 1).bind fun r1 => r1.bind fun a3 => (zaI G 50 a3 x1).bind fun v5 => if v5 ≤ x2 then (zo (fX2_reaches_109 t x1 G)) else (zk [2] G t <| (fX2_at_0 t x1 x2 G).bind fun v10 => (fX2_isNonterminal_0 v10 G).bind fun v12 => if v12 = 0 then (fX2_reaches_87 t x1 x2 G) else ((zgR G 2 t 21).bind fun r14 => (zgR G 2 t 0).bind fun r16 => r16.bind fun a18 => (zaI G 50 a18 x1).bind fun v20 => r14.bind fun a22 => (zaI G 50 a22 (v20 - 20)).bind fun v24 => zk [2] G t <| (fX2_at_0 t x1 x2 G).bind fun v28 => (zsI G 50 a22 (v20 - 20) (v24 ||| ((1 : Int32) <<< ((v28 - 20) &&& 31)))).bind fun G29 => fX2_reaches_87 t x1 x2 G29))
def flX2_reaches_37 (t : Nat) (x1 : Int32) (x2 : Int32) (G : GS) : Option ((Int32 × GS) ⊕ (GS)) := zloop (fun s : Int32 × GS => fbX2_reaches_37 t x1 s.1 s.2) (x2, G)
theorem wfbX2_reaches_37 {F : zF} (hd : 8 ≤ F.2.2.2) (t : Nat) (x1 : Int32) (x2 : Int32) (G : GS) {a : (Int32 × GS) ⊕ ((Int32 × GS) ⊕ (GS))} (h : fbX2_reaches_37 t x1 x2 G = some a) (hk : (zcase (fun s : Int32 × GS => J mX2_reaches F s.2 37 [(0, vR (some t)), (1, vI x1), (2, vI s.1)] []) ((zcase (fun s : Int32 × GS => J mX2_reaches F s.2 27 [(0, vR (some t)), (1, vI s.1)] []) (zKV F)))) a) : J mX2_reaches F G 37 [(0, vR (some t)), (1, vI x1), (2, vI x2)] [] := by
  unfold fbX2_reaches_37 at h
  refine j_iload_n (j := 2) dX2_reaches_37 rfl rfl ?_
  refine j_aload_n (j := 0) dX2_reaches_38 rfl rfl ?_
  replace h := zbE h
  obtain ⟨r1, e2, h⟩ := h
  refine j_getR fgX2_13 (fun _ _ _ => rfl) dX2_reaches_39 e2 ?_
  refine j_iload_n (j := 1) dX2_reaches_42 rfl rfl ?_
  replace h := zbE h
  obtain ⟨a3, e4, h⟩ := h
  subst e4
  replace h := zbE h
  obtain ⟨v5, e6, h⟩ := h
  refine j_iald (Or.inl rfl) e6 dX2_reaches_43 ?_
  refine j_icmp_ge (tgt := 109) dX2_reaches_44 (by decide) (fun c7 => ?_) (fun c7 => ?_)
  · rw [if_pos c7] at h
    replace h := zoE h
    obtain ⟨a, h, rfl⟩ := h
    replace hk := hk
    exact J.sub (zall [0, 1] rfl) (wfX2_reaches_109 hd t x1  G h hk)
  · rw [if_neg c7] at h
    refine j_aload_n (j := 0) dX2_reaches_47 rfl rfl ?_
    refine j_iload_n (j := 1) dX2_reaches_48 rfl rfl ?_
    refine j_iload_n (j := 2) dX2_reaches_49 rfl rfl ?_
    replace h := zkE h
    obtain ⟨e8, h⟩ := h
    replace h := zbE h
    obtain ⟨v10, e9, h⟩ := h
    refine j_cont (zrV (As := [vI x1, vI x2]) msX2_187 (yX2_at_ok e9) (Nat.le_trans (Nat.le_of_ble_eq_true rfl) hd) (zk_2 _ e8) rfl rfl (Nat.le_of_ble_eq_true rfl) dX2_reaches_50) ?_
    replace h := zbE h
    obtain ⟨v12, e11, h⟩ := h
    refine j_cont (zrS (As := [vI v10]) msX2_149 (yX2_isNonterminal_ok e11) (Nat.le_trans (Nat.le_of_ble_eq_true rfl) hd) rfl rfl (Nat.le_of_ble_eq_true rfl) dX2_reaches_53) ?_
    refine j_if_eq (tgt := 87) dX2_reaches_56 (by decide) (fun c13 => ?_) (fun c13 => ?_)
    · rw [if_pos c13] at h
      exact J.sub (zall [0, 1, 2] rfl) (wfX2_reaches_87 hd t x1 x2  G h hk)
    · rw [if_neg c13] at h
      refine j_aload_n (j := 0) dX2_reaches_59 rfl rfl ?_
      replace h := zbE h
      obtain ⟨r14, e15, h⟩ := h
      refine j_getR fgX2_53 (fun _ _ _ => rfl) dX2_reaches_60 e15 ?_
      refine j_aload_n (j := 0) dX2_reaches_63 rfl rfl ?_
      replace h := zbE h
      obtain ⟨r16, e17, h⟩ := h
      refine j_getR fgX2_7 (fun _ _ _ => rfl) dX2_reaches_64 e17 ?_
      refine j_iload_n (j := 1) dX2_reaches_67 rfl rfl ?_
      replace h := zbE h
      obtain ⟨a18, e19, h⟩ := h
      subst e19
      replace h := zbE h
      obtain ⟨v20, e21, h⟩ := h
      refine j_iald (Or.inl rfl) e21 dX2_reaches_68 ?_
      refine j_bipush (v := 20) dX2_reaches_69 (by decide) ?_
      refine j_isub dX2_reaches_71 ?_
      refine j_dup2_11 dX2_reaches_72 rfl rfl ?_
      replace h := zbE h
      obtain ⟨a22, e23, h⟩ := h
      subst e23
      replace h := zbE h
      obtain ⟨v24, e25, h⟩ := h
      refine j_iald (Or.inl rfl) e25 dX2_reaches_73 ?_
      refine j_iconst (v := 1) dX2_reaches_74 (by decide) ?_
      refine j_aload_n (j := 0) dX2_reaches_75 rfl rfl ?_
      refine j_iload_n (j := 1) dX2_reaches_76 rfl rfl ?_
      refine j_iload_n (j := 2) dX2_reaches_77 rfl rfl ?_
      replace h := zkE h
      obtain ⟨e26, h⟩ := h
      replace h := zbE h
      obtain ⟨v28, e27, h⟩ := h
      refine j_cont (zrV (As := [vI x1, vI x2]) msX2_187 (yX2_at_ok e27) (Nat.le_trans (Nat.le_of_ble_eq_true rfl) hd) (zk_2 _ e26) rfl rfl (Nat.le_of_ble_eq_true rfl) dX2_reaches_78) ?_
      refine j_bipush (v := 20) dX2_reaches_81 (by decide) ?_
      refine j_isub dX2_reaches_83 ?_
      refine j_ishl dX2_reaches_84 ?_
      refine j_ior dX2_reaches_85 ?_
      replace h := zbE h
      obtain ⟨G29, e30, h⟩ := h
      refine j_iast e30 dX2_reaches_86 ?_
      exact J.sub (zall [0, 1, 2] rfl) (wfX2_reaches_87 hd t x1 x2  G29 h hk)
theorem wflX2_reaches_37 {F : zF} (hd : 8 ≤ F.2.2.2) (t : Nat) (x1 : Int32) (x2 : Int32) (G : GS) {a : (Int32 × GS) ⊕ (GS)} (h : flX2_reaches_37 t x1 x2 G = some a) (hk : (zcase (fun s : Int32 × GS => J mX2_reaches F s.2 27 [(0, vR (some t)), (1, vI s.1)] []) (zKV F)) a) : J mX2_reaches F G 37 [(0, vR (some t)), (1, vI x1), (2, vI x2)] [] := by
  unfold flX2_reaches_37 at h
  exact zloop_walk (P := (fun s : Int32 × GS => J mX2_reaches F s.2 37 [(0, vR (some t)), (1, vI x1), (2, vI s.1)] [])) (fun s b e hk => wfbX2_reaches_37 hd t x1 s.1 s.2 e hk) (x2, G) _ h hk
def fbX2_reaches_27 (t : Nat) (x1 : Int32)  (G : GS) : Option ((Int32 × GS) ⊕ (GS)) :=
  (zgI G 2 t 6).bind fun v1 => if v1 ≤ x1 then (zo (fX2_reaches_115 t G)) else (flX2_reaches_37 t x1 0 G)
def flX2_reaches_27 (t : Nat) (x1 : Int32) (G : GS) : Option (GS) := zloop (fun s : Int32 × GS => fbX2_reaches_27 t s.1 s.2) (x1, G)
theorem wfbX2_reaches_27 {F : zF} (hd : 8 ≤ F.2.2.2) (t : Nat) (x1 : Int32) (G : GS) {a : (Int32 × GS) ⊕ (GS)} (h : fbX2_reaches_27 t x1 G = some a) (hk : (zcase (fun s : Int32 × GS => J mX2_reaches F s.2 27 [(0, vR (some t)), (1, vI s.1)] []) (zKV F)) a) : J mX2_reaches F G 27 [(0, vR (some t)), (1, vI x1)] [] := by
  unfold fbX2_reaches_27 at h
  refine j_iload_n (j := 1) dX2_reaches_27 rfl rfl ?_
  refine j_aload_n (j := 0) dX2_reaches_28 rfl rfl ?_
  replace h := zbE h
  obtain ⟨v1, e2, h⟩ := h
  refine j_getI fgX2_113 (fun _ _ _ => rfl) dX2_reaches_29 e2 ?_
  refine j_icmp_ge (tgt := 115) dX2_reaches_32 (by decide) (fun c3 => ?_) (fun c3 => ?_)
  · rw [if_pos c3] at h
    replace h := zoE h
    obtain ⟨a, h, rfl⟩ := h
    replace hk := hk
    exact J.sub (zall [0] rfl) (wfX2_reaches_115 hd t  G h hk)
  · rw [if_neg c3] at h
    refine j_iconst (v := 0) dX2_reaches_35 (by decide) ?_
    refine j_istore_n (lv' := [(2, vI 0), (0, vR (some t)), (1, vI x1)]) dX2_reaches_36 rfl (Nat.le_of_ble_eq_true rfl) rfl ?_
    exact J.sub (zall [1, 2, 0] rfl) (wflX2_reaches_37 hd t x1 0  G h hk)
theorem wflX2_reaches_27 {F : zF} (hd : 8 ≤ F.2.2.2) (t : Nat) (x1 : Int32) (G : GS) {a : GS} (h : flX2_reaches_27 t x1 G = some a) (hk : zKV F a) : J mX2_reaches F G 27 [(0, vR (some t)), (1, vI x1)] [] := by
  unfold flX2_reaches_27 at h
  exact zloop_walk (P := (fun s : Int32 × GS => J mX2_reaches F s.2 27 [(0, vR (some t)), (1, vI s.1)] [])) (fun s b e hk => wfbX2_reaches_27 hd t s.1 s.2 e hk) (x1, G) _ h hk
def fX2_reaches_25 (t : Nat)  (G : GS) : Option (GS) :=
  flX2_reaches_27 t 0 G
theorem wfX2_reaches_25 {F : zF} (hd : 8 ≤ F.2.2.2) (t : Nat)  (G : GS) {a : GS} (h : fX2_reaches_25 t  G = some a) (hk : zKV F a) : J mX2_reaches F G 25 [(0, vR (some t))] [] := by
  unfold fX2_reaches_25 at h
  refine j_iconst (v := 0) dX2_reaches_25 (by decide) ?_
  refine j_istore_n (lv' := [(1, vI 0), (0, vR (some t))]) dX2_reaches_26 rfl (Nat.le_of_ble_eq_true rfl) rfl ?_
  exact J.sub (zall [1, 0] rfl) (wflX2_reaches_27 hd t 0  G h hk)
def fbX2_reaches_6 (t : Nat) (x1 : Int32)  (G : GS) : Option ((Int32 × GS) ⊕ (GS)) :=
  if 12 ≤ x1 then (zo (fX2_reaches_25 t G)) else ((zgR G 2 t 21).bind fun r2 => r2.bind fun a4 => (zsI G 50 a4 x1 0).bind fun G6 => some (.inl ((x1 + 1), G6)))
def flX2_reaches_6 (t : Nat) (x1 : Int32) (G : GS) : Option (GS) := zloop (fun s : Int32 × GS => fbX2_reaches_6 t s.1 s.2) (x1, G)
theorem wfbX2_reaches_6 {F : zF} (hd : 8 ≤ F.2.2.2) (t : Nat) (x1 : Int32) (G : GS) {a : (Int32 × GS) ⊕ (GS)} (h : fbX2_reaches_6 t x1 G = some a) (hk : (zcase (fun s : Int32 × GS => J mX2_reaches F s.2 6 [(0, vR (some t)), (1, vI s.1)] []) (zKV F)) a) : J mX2_reaches F G 6 [(0, vR (some t)), (1, vI x1)] [] := by
  unfold fbX2_reaches_6 at h
  refine j_iload_n (j := 1) dX2_reaches_6 rfl rfl ?_
  refine j_bipush (v := 12) dX2_reaches_7 (by decide) ?_
  refine j_icmp_ge (tgt := 25) dX2_reaches_9 (by decide) (fun c1 => ?_) (fun c1 => ?_)
  · rw [if_pos c1] at h
    replace h := zoE h
    obtain ⟨a, h, rfl⟩ := h
    replace hk := hk
    exact J.sub (zall [0] rfl) (wfX2_reaches_25 hd t  G h hk)
  · rw [if_neg c1] at h
    refine j_aload_n (j := 0) dX2_reaches_12 rfl rfl ?_
    replace h := zbE h
    obtain ⟨r2, e3, h⟩ := h
    refine j_getR fgX2_53 (fun _ _ _ => rfl) dX2_reaches_13 e3 ?_
    refine j_iload_n (j := 1) dX2_reaches_16 rfl rfl ?_
    refine j_iconst (v := 0) dX2_reaches_17 (by decide) ?_
    replace h := zbE h
    obtain ⟨a4, e5, h⟩ := h
    subst e5
    replace h := zbE h
    obtain ⟨G6, e7, h⟩ := h
    refine j_iast e7 dX2_reaches_18 ?_
    refine j_iinc (j := 1) (v := (x1 + 1)) (lv' := [(1, vI (x1 + 1)), (0, vR (some t))]) dX2_reaches_19 rfl rfl (Nat.le_of_ble_eq_true rfl) rfl ?_
    refine j_goto (tgt := 6) dX2_reaches_22 (by decide) ?_
    obtain rfl := Option.some.inj h
    exact J.sub (zall [1, 0] rfl) hk
theorem wflX2_reaches_6 {F : zF} (hd : 8 ≤ F.2.2.2) (t : Nat) (x1 : Int32) (G : GS) {a : GS} (h : flX2_reaches_6 t x1 G = some a) (hk : zKV F a) : J mX2_reaches F G 6 [(0, vR (some t)), (1, vI x1)] [] := by
  unfold flX2_reaches_6 at h
  exact zloop_walk (P := (fun s : Int32 × GS => J mX2_reaches F s.2 6 [(0, vR (some t)), (1, vI s.1)] [])) (fun s b e hk => wfbX2_reaches_6 hd t s.1 s.2 e hk) (x1, G) _ h hk
def fX2_reaches_0 (t : Nat)  (G : GS) : Option (GS) :=
  zk [2] G t <| (fX2_knows_0 t G).bind fun G3 => flX2_reaches_6 t 0 G3
theorem wfX2_reaches_0 {F : zF} (hd : 8 ≤ F.2.2.2) (t : Nat)  (G : GS) {a : GS} (h : fX2_reaches_0 t  G = some a) (hk : zKV F a) : J mX2_reaches F G 0 [(0, vR (some t))] [] := by
  unfold fX2_reaches_0 at h
  refine j_aload_n (j := 0) dX2_reaches_0 rfl rfl ?_
  replace h := zkE h
  obtain ⟨e1, h⟩ := h
  replace h := zbE h
  obtain ⟨G3, e2, h⟩ := h
  refine j_cont (zrV (As := []) msX2_227 (yX2_knows_ok e2) (Nat.le_trans (Nat.le_of_ble_eq_true rfl) hd) (zk_2 _ e1) rfl rfl (Nat.le_of_ble_eq_true rfl) dX2_reaches_1) ?_
  refine j_iconst (v := 0) dX2_reaches_4 (by decide) ?_
  refine j_istore_n (lv' := [(1, vI 0), (0, vR (some t))]) dX2_reaches_5 rfl (Nat.le_of_ble_eq_true rfl) rfl ?_
  exact J.sub (zall [1, 0] rfl) (wflX2_reaches_6 hd t 0  G3 h hk)
theorem yX2_reaches_ok {t : Nat} {G : GS} {G1 : GS} (h : fX2_reaches_0 t G = some G1) : zRuns yX2_reaches (ws_ yX2_reaches cX2_reaches 3 none) [vR (some t)] (.inl none, G, G1, 8) :=
  zentry (M := mX2_reaches) (plainFor_of_name (by decide +kernel)) ⟨rfl, rfl, rfl, rfl⟩ (Nat.le_of_ble_eq_true rfl) (wfX2_reaches_0 (Nat.le_refl _) t G h ⟨rfl, rfl⟩)
abbrev mX2_span : zM := (cX2_span, RX2, 3, (some Jvm.ClassFile.FieldType.int), "span", [], "(III)I")
def fX2_span_0 (x0 : Int32) (x1 : Int32) (x2 : Int32)  (G : GS) : Option (Int32) :=
  some ((((x0 * 17) + x1) * 17) + x2)
theorem wfX2_span_0 {F : zF} (hd : 1 ≤ F.2.2.2) (x0 : Int32) (x1 : Int32) (x2 : Int32)  (G : GS) {a : Int32} (h : fX2_span_0 x0 x1 x2  G = some a) (hk : zKPI F G a) : J mX2_span F G 0 [(0, vI x0), (1, vI x1), (2, vI x2)] [] := by
  unfold fX2_span_0 at h
  refine j_iload_n (j := 0) dX2_span_0 rfl rfl ?_
  refine j_bipush (v := 17) dX2_span_1 (by decide) ?_
  refine j_imul dX2_span_3 ?_
  refine j_iload_n (j := 1) dX2_span_4 rfl rfl ?_
  refine j_iadd dX2_span_5 ?_
  refine j_bipush (v := 17) dX2_span_6 (by decide) ?_
  refine j_imul dX2_span_8 ?_
  refine j_iload_n (j := 2) dX2_span_9 rfl rfl ?_
  refine j_iadd dX2_span_10 ?_
  obtain rfl := Option.some.inj h
  exact j_iret hk.1 hk.2 rfl dX2_span_11
theorem yX2_span_ok {x0 : Int32} {x1 : Int32} {x2 : Int32} {G : GS} {r : Int32} (h : fX2_span_0 x0 x1 x2 G = some r) : zRuns yX2_span (ws_ yX2_span cX2_span 3 (some Jvm.ClassFile.FieldType.int)) [vI x0, vI x1, vI x2] (.inl (some (vI r)), G, G, 1) :=
  zentry (M := mX2_span) (plainFor_of_name (by decide +kernel)) ⟨rfl, rfl, rfl, rfl⟩ (Nat.le_of_ble_eq_true rfl) (wfX2_span_0 (Nat.le_refl _) x0 x1 x2 G h ⟨rfl, rfl⟩)
theorem fgX2_137 : zFG RX2 137 1 32 (.int) := ⟨(RX2, TX2, 42, tyX2), rfl, by decide, in_X2, rfl, "SelahGeneratorModel", Or.inl rfl, Or.inl q2704⟩
theorem fgX2_65 : zFG RX2 65 1 25 (.array (.int)) := ⟨(RX2, TX2, 42, tyX2), rfl, by decide, in_X2, rfl, "SelahGeneratorModel", Or.inl rfl, Or.inl q2697⟩
theorem fgX2_80 : zFG RX2 80 1 37 (.array (.long)) := ⟨(RX2, TX2, 42, tyX2), rfl, by decide, in_X2, rfl, "SelahGeneratorModel", Or.inl rfl, Or.inl q2709⟩
theorem fgX2_84 : zFG RX2 84 1 38 (.array (.long)) := ⟨(RX2, TX2, 42, tyX2), rfl, by decide, in_X2, rfl, "SelahGeneratorModel", Or.inl rfl, Or.inl q2710⟩
theorem fgX2_87 : zFG RX2 87 1 39 (.array (.long)) := ⟨(RX2, TX2, 42, tyX2), rfl, by decide, in_X2, rfl, "SelahGeneratorModel", Or.inl rfl, Or.inl q2711⟩
theorem msX2_372 : zSS RX2 372 yX2_capped cX2_capped 2 (some Jvm.ClassFile.FieldType.long) 1 := ⟨lw_S q3245 q3246 q131 q3247, (by decide +kernel), (by decide)⟩
theorem msX2_376 : zSS RX2 376 yX2_span cX2_span 3 (some Jvm.ClassFile.FieldType.int) 3 := ⟨lw_S q3250 q3251 q131 q3252, (by decide +kernel), (by decide)⟩
abbrev mX2_follows : zM := (cX2_follows, RX2, 4, none, "follows", [], "(I)V")
def fbX2_follows_165 (t : Nat) (x2 : Int32)  (G : GS) : Option ((Int32 × GS) ⊕ (GS)) :=
  (zgI G 2 t 32).bind fun v1 => if v1 < x2 then (zo (some G)) else ((zgR G 2 t 38).bind fun r4 => (zgR G 2 t 39).bind fun r6 => r6.bind fun a8 => (zaL G 51 a8 x2).bind fun l10 => r4.bind fun a12 => (zsL G 51 a12 x2 l10).bind fun G14 => some (.inl ((x2 + 1), G14)))
def flX2_follows_165 (t : Nat) (x2 : Int32) (G : GS) : Option (GS) := zloop (fun s : Int32 × GS => fbX2_follows_165 t s.1 s.2) (x2, G)
theorem wfbX2_follows_165 {F : zF} (hd : 3 ≤ F.2.2.2) (t : Nat) (x2 : Int32) (G : GS) {a : (Int32 × GS) ⊕ (GS)} (h : fbX2_follows_165 t x2 G = some a) (hk : (zcase (fun s : Int32 × GS => J mX2_follows F s.2 165 [(0, vR (some t)), (2, vI s.1)] []) (zKV F)) a) : J mX2_follows F G 165 [(0, vR (some t)), (2, vI x2)] [] := by
  unfold fbX2_follows_165 at h
  refine j_iload_n (j := 1) dX2_follows_165 rfl rfl ?_
  refine j_aload_n (j := 0) dX2_follows_166 rfl rfl ?_
  replace h := zbE h
  obtain ⟨v1, e2, h⟩ := h
  refine j_getI fgX2_137 (fun _ _ _ => rfl) dX2_follows_167 e2 ?_
  refine j_icmp_gt (tgt := 191) dX2_follows_170 (by decide) (fun c3 => ?_) (fun c3 => ?_)
  · rw [if_pos c3] at h
    replace h := zoE h
    obtain ⟨a, h, rfl⟩ := h
    replace hk := hk
    obtain rfl := Option.some.inj h
    exact j_vret hk.1 hk.2 rfl dX2_follows_191
  · rw [if_neg c3] at h
    refine j_aload_n (j := 0) dX2_follows_173 rfl rfl ?_
    replace h := zbE h
    obtain ⟨r4, e5, h⟩ := h
    refine j_getR fgX2_84 (fun _ _ _ => rfl) dX2_follows_174 e5 ?_
    refine j_iload_n (j := 1) dX2_follows_177 rfl rfl ?_
    refine j_aload_n (j := 0) dX2_follows_178 rfl rfl ?_
    replace h := zbE h
    obtain ⟨r6, e7, h⟩ := h
    refine j_getR fgX2_87 (fun _ _ _ => rfl) dX2_follows_179 e7 ?_
    refine j_iload_n (j := 1) dX2_follows_182 rfl rfl ?_
    replace h := zbE h
    obtain ⟨a8, e9, h⟩ := h
    subst e9
    replace h := zbE h
    obtain ⟨l10, e11, h⟩ := h
    refine j_lald rfl e11 dX2_follows_183 ?_
    replace h := zbE h
    obtain ⟨a12, e13, h⟩ := h
    subst e13
    replace h := zbE h
    obtain ⟨G14, e15, h⟩ := h
    refine j_last e15 dX2_follows_184 ?_
    refine j_iinc (j := 1) (v := (x2 + 1)) (lv' := [(2, vI (x2 + 1)), (0, vR (some t))]) dX2_follows_185 rfl rfl (Nat.le_of_ble_eq_true rfl) rfl ?_
    refine j_goto (tgt := 165) dX2_follows_188 (by decide) ?_
    obtain rfl := Option.some.inj h
    exact J.sub (zall [1, 0] rfl) hk
theorem wflX2_follows_165 {F : zF} (hd : 3 ≤ F.2.2.2) (t : Nat) (x2 : Int32) (G : GS) {a : GS} (h : flX2_follows_165 t x2 G = some a) (hk : zKV F a) : J mX2_follows F G 165 [(0, vR (some t)), (2, vI x2)] [] := by
  unfold flX2_follows_165 at h
  exact zloop_walk (P := (fun s : Int32 × GS => J mX2_follows F s.2 165 [(0, vR (some t)), (2, vI s.1)] [])) (fun s b e hk => wfbX2_follows_165 hd t s.1 s.2 e hk) (x2, G) _ h hk
def fX2_follows_163 (t : Nat)  (G : GS) : Option (GS) :=
  flX2_follows_165 t 0 G
theorem wfX2_follows_163 {F : zF} (hd : 3 ≤ F.2.2.2) (t : Nat)  (G : GS) {a : GS} (h : fX2_follows_163 t  G = some a) (hk : zKV F a) : J mX2_follows F G 163 [(0, vR (some t))] [] := by
  unfold fX2_follows_163 at h
  refine j_iconst (v := 0) dX2_follows_163 (by decide) ?_
  refine j_istore_n (lv' := [(2, vI 0), (0, vR (some t))]) dX2_follows_164 rfl (Nat.le_of_ble_eq_true rfl) rfl ?_
  exact J.sub (zall [1, 0] rfl) (wflX2_follows_165 hd t 0  G h hk)
def fX2_follows_157 (t : Nat) (x1 : Int32) (x2 : Int32)  (G : GS) : Option ((Int32 × GS) ⊕ (GS)) :=
  some (.inl ((x2 + 1), G))
theorem wfX2_follows_157 {F : zF} (hd : 3 ≤ F.2.2.2) (t : Nat) (x1 : Int32) (x2 : Int32)  (G : GS) {a : (Int32 × GS) ⊕ (GS)} (h : fX2_follows_157 t x1 x2  G = some a) (hk : (zcase (fun s : Int32 × GS => J mX2_follows F s.2 25 [(0, vR (some t)), (1, vI x1), (2, vI s.1)] []) (zKV F)) a) : J mX2_follows F G 157 [(0, vR (some t)), (1, vI x1), (2, vI x2)] [] := by
  unfold fX2_follows_157 at h
  refine j_iinc (j := 2) (v := (x2 + 1)) (lv' := [(2, vI (x2 + 1)), (0, vR (some t)), (1, vI x1)]) dX2_follows_157 rfl rfl (Nat.le_of_ble_eq_true rfl) rfl ?_
  refine j_goto (tgt := 25) dX2_follows_160 (by decide) ?_
  obtain rfl := Option.some.inj h
  exact J.sub (zall [1, 2, 0] rfl) hk
def fbX2_follows_103 (t : Nat) (x1 : Int32) (x2 : Int32) (x3 : Int32)  (G : GS) : Option ((Int32 × GS) ⊕ ((Int32 × GS) ⊕ (GS))) :=
  (zgI G 2 t 32).bind fun v1 => if v1 < x3 then (zo (fX2_follows_157 t x1 x2 G)) else ((zgR G 2 t 39).bind fun r4 => (zgR G 2 t 39).bind fun r6 => r6.bind fun a8 => (zaL G 51 a8 x3).bind fun l10 => (zgR G 2 t 38).bind fun r12 => r12.bind fun a14 => (zaL G 51 a14 x2).bind fun l16 => (zgR G 2 t 37).bind fun r18 => (fX2_span_0 (x1 - 20) x2 x3 G).bind fun v21 => r18.bind fun a22 => (zaL G 51 a22 v21).bind fun l24 => (fX2_capped_0 (l16 * l24) G).bind fun l27 => (fX2_capped_0 (l10 + l27) G).bind fun l29 => r4.bind fun a30 => (zsL G 51 a30 x3 l29).bind fun G32 => some (.inl ((x3 + 1), G32)))
def flX2_follows_103 (t : Nat) (x1 : Int32) (x2 : Int32) (x3 : Int32) (G : GS) : Option ((Int32 × GS) ⊕ (GS)) := zloop (fun s : Int32 × GS => fbX2_follows_103 t x1 x2 s.1 s.2) (x3, G)
theorem wfbX2_follows_103 {F : zF} (hd : 3 ≤ F.2.2.2) (t : Nat) (x1 : Int32) (x2 : Int32) (x3 : Int32) (G : GS) {a : (Int32 × GS) ⊕ ((Int32 × GS) ⊕ (GS))} (h : fbX2_follows_103 t x1 x2 x3 G = some a) (hk : (zcase (fun s : Int32 × GS => J mX2_follows F s.2 103 [(0, vR (some t)), (1, vI x1), (2, vI x2), (3, vI s.1)] []) ((zcase (fun s : Int32 × GS => J mX2_follows F s.2 25 [(0, vR (some t)), (1, vI x1), (2, vI s.1)] []) (zKV F)))) a) : J mX2_follows F G 103 [(0, vR (some t)), (1, vI x1), (2, vI x2), (3, vI x3)] [] := by
  unfold fbX2_follows_103 at h
  refine j_iload_n (j := 3) dX2_follows_103 rfl rfl ?_
  refine j_aload_n (j := 0) dX2_follows_104 rfl rfl ?_
  replace h := zbE h
  obtain ⟨v1, e2, h⟩ := h
  refine j_getI fgX2_137 (fun _ _ _ => rfl) dX2_follows_105 e2 ?_
  refine j_icmp_gt (tgt := 157) dX2_follows_108 (by decide) (fun c3 => ?_) (fun c3 => ?_)
  · rw [if_pos c3] at h
    replace h := zoE h
    obtain ⟨a, h, rfl⟩ := h
    replace hk := hk
    exact J.sub (zall [0, 1, 2] rfl) (wfX2_follows_157 hd t x1 x2  G h hk)
  · rw [if_neg c3] at h
    refine j_aload_n (j := 0) dX2_follows_111 rfl rfl ?_
    replace h := zbE h
    obtain ⟨r4, e5, h⟩ := h
    refine j_getR fgX2_87 (fun _ _ _ => rfl) dX2_follows_112 e5 ?_
    refine j_iload_n (j := 3) dX2_follows_115 rfl rfl ?_
    refine j_aload_n (j := 0) dX2_follows_116 rfl rfl ?_
    replace h := zbE h
    obtain ⟨r6, e7, h⟩ := h
    refine j_getR fgX2_87 (fun _ _ _ => rfl) dX2_follows_117 e7 ?_
    refine j_iload_n (j := 3) dX2_follows_120 rfl rfl ?_
    replace h := zbE h
    obtain ⟨a8, e9, h⟩ := h
    subst e9
    replace h := zbE h
    obtain ⟨l10, e11, h⟩ := h
    refine j_lald rfl e11 dX2_follows_121 ?_
    refine j_aload_n (j := 0) dX2_follows_122 rfl rfl ?_
    replace h := zbE h
    obtain ⟨r12, e13, h⟩ := h
    refine j_getR fgX2_84 (fun _ _ _ => rfl) dX2_follows_123 e13 ?_
    refine j_iload_n (j := 2) dX2_follows_126 rfl rfl ?_
    replace h := zbE h
    obtain ⟨a14, e15, h⟩ := h
    subst e15
    replace h := zbE h
    obtain ⟨l16, e17, h⟩ := h
    refine j_lald rfl e17 dX2_follows_127 ?_
    refine j_aload_n (j := 0) dX2_follows_128 rfl rfl ?_
    replace h := zbE h
    obtain ⟨r18, e19, h⟩ := h
    refine j_getR fgX2_80 (fun _ _ _ => rfl) dX2_follows_129 e19 ?_
    refine j_iload_n (j := 1) dX2_follows_132 rfl rfl ?_
    refine j_bipush (v := 20) dX2_follows_133 (by decide) ?_
    refine j_isub dX2_follows_135 ?_
    refine j_iload_n (j := 2) dX2_follows_136 rfl rfl ?_
    refine j_iload_n (j := 3) dX2_follows_137 rfl rfl ?_
    replace h := zbE h
    obtain ⟨v21, e20, h⟩ := h
    refine j_cont (zrS (As := [vI (x1 - 20), vI x2, vI x3]) msX2_376 (yX2_span_ok e20) (Nat.le_trans (Nat.le_of_ble_eq_true rfl) hd) rfl rfl (Nat.le_of_ble_eq_true rfl) dX2_follows_138) ?_
    replace h := zbE h
    obtain ⟨a22, e23, h⟩ := h
    subst e23
    replace h := zbE h
    obtain ⟨l24, e25, h⟩ := h
    refine j_lald rfl e25 dX2_follows_141 ?_
    refine j_lmul dX2_follows_142 ?_
    replace h := zbE h
    obtain ⟨l27, e26, h⟩ := h
    refine j_cont (zrS (As := [vL (l16 * l24)]) msX2_372 (yX2_capped_ok e26) (Nat.le_trans (Nat.le_of_ble_eq_true rfl) hd) rfl rfl (Nat.le_of_ble_eq_true rfl) dX2_follows_143) ?_
    refine j_ladd dX2_follows_146 ?_
    replace h := zbE h
    obtain ⟨l29, e28, h⟩ := h
    refine j_cont (zrS (As := [vL (l10 + l27)]) msX2_372 (yX2_capped_ok e28) (Nat.le_trans (Nat.le_of_ble_eq_true rfl) hd) rfl rfl (Nat.le_of_ble_eq_true rfl) dX2_follows_147) ?_
    replace h := zbE h
    obtain ⟨a30, e31, h⟩ := h
    subst e31
    replace h := zbE h
    obtain ⟨G32, e33, h⟩ := h
    refine j_last e33 dX2_follows_150 ?_
    refine j_iinc (j := 3) (v := (x3 + 1)) (lv' := [(3, vI (x3 + 1)), (0, vR (some t)), (1, vI x1), (2, vI x2)]) dX2_follows_151 rfl rfl (Nat.le_of_ble_eq_true rfl) rfl ?_
    refine j_goto (tgt := 103) dX2_follows_154 (by decide) ?_
    obtain rfl := Option.some.inj h
    exact J.sub (zall [1, 2, 3, 0] rfl) hk
theorem wflX2_follows_103 {F : zF} (hd : 3 ≤ F.2.2.2) (t : Nat) (x1 : Int32) (x2 : Int32) (x3 : Int32) (G : GS) {a : (Int32 × GS) ⊕ (GS)} (h : flX2_follows_103 t x1 x2 x3 G = some a) (hk : (zcase (fun s : Int32 × GS => J mX2_follows F s.2 25 [(0, vR (some t)), (1, vI x1), (2, vI s.1)] []) (zKV F)) a) : J mX2_follows F G 103 [(0, vR (some t)), (1, vI x1), (2, vI x2), (3, vI x3)] [] := by
  unfold flX2_follows_103 at h
  exact zloop_walk (P := (fun s : Int32 × GS => J mX2_follows F s.2 103 [(0, vR (some t)), (1, vI x1), (2, vI x2), (3, vI s.1)] [])) (fun s b e hk => wfbX2_follows_103 hd t x1 x2 s.1 s.2 e hk) (x3, G) _ h hk
def fbX2_follows_25 (t : Nat) (x1 : Int32) (x2 : Int32)  (G : GS) : Option ((Int32 × GS) ⊕ (GS)) :=
  (zgI G 2 t 32).bind fun v1 => if v1 < x2 then (zo (fX2_follows_163 t G)) else ((zgR G 2 t 38).bind fun r4 => r4.bind fun a6 => (zaL G 51 a6 x2).bind fun l8 => if (lg_cmp l8 (0 : Int64)) = 0 then (fX2_follows_157 t x1 x2 G) else ((fX2_isTerminal_0 x1 G).bind fun v12 => if v12 = 0 then (flX2_follows_103 t x1 x2 x2 G) else ((zgI G 2 t 32).bind fun v14 => if v14 ≤ x2 then (fX2_follows_157 t x1 x2 G) else ((zgR G 2 t 25).bind fun r17 => r17.bind fun a19 => (zaI G 50 a19 x2).bind fun v21 => if v21 = x1 then ((zgR G 2 t 39).bind fun r24 => (zgR G 2 t 39).bind fun r26 => r26.bind fun a28 => (zaL G 51 a28 (x2 + 1)).bind fun l30 => (zgR G 2 t 38).bind fun r32 => r32.bind fun a34 => (zaL G 51 a34 x2).bind fun l36 => (fX2_capped_0 (l30 + l36) G).bind fun l39 => r24.bind fun a40 => (zsL G 51 a40 (x2 + 1) l39).bind fun G42 => fX2_follows_157 t x1 x2 G42) else (fX2_follows_157 t x1 x2 G)))))
def flX2_follows_25 (t : Nat) (x1 : Int32) (x2 : Int32) (G : GS) : Option (GS) := zloop (fun s : Int32 × GS => fbX2_follows_25 t x1 s.1 s.2) (x2, G)
theorem wfbX2_follows_25 {F : zF} (hd : 3 ≤ F.2.2.2) (t : Nat) (x1 : Int32) (x2 : Int32) (G : GS) {a : (Int32 × GS) ⊕ (GS)} (h : fbX2_follows_25 t x1 x2 G = some a) (hk : (zcase (fun s : Int32 × GS => J mX2_follows F s.2 25 [(0, vR (some t)), (1, vI x1), (2, vI s.1)] []) (zKV F)) a) : J mX2_follows F G 25 [(0, vR (some t)), (1, vI x1), (2, vI x2)] [] := by
  unfold fbX2_follows_25 at h
  refine j_iload_n (j := 2) dX2_follows_25 rfl rfl ?_
  refine j_aload_n (j := 0) dX2_follows_26 rfl rfl ?_
  replace h := zbE h
  obtain ⟨v1, e2, h⟩ := h
  refine j_getI fgX2_137 (fun _ _ _ => rfl) dX2_follows_27 e2 ?_
  refine j_icmp_gt (tgt := 163) dX2_follows_30 (by decide) (fun c3 => ?_) (fun c3 => ?_)
  · rw [if_pos c3] at h
    replace h := zoE h
    obtain ⟨a, h, rfl⟩ := h
    replace hk := hk
    exact J.sub (zall [0] rfl) (wfX2_follows_163 hd t  G h hk)
  · rw [if_neg c3] at h
    refine j_aload_n (j := 0) dX2_follows_33 rfl rfl ?_
    replace h := zbE h
    obtain ⟨r4, e5, h⟩ := h
    refine j_getR fgX2_84 (fun _ _ _ => rfl) dX2_follows_34 e5 ?_
    refine j_iload_n (j := 2) dX2_follows_37 rfl rfl ?_
    replace h := zbE h
    obtain ⟨a6, e7, h⟩ := h
    subst e7
    replace h := zbE h
    obtain ⟨l8, e9, h⟩ := h
    refine j_lald rfl e9 dX2_follows_38 ?_
    refine j_lconst (v := 0) dX2_follows_39 rfl ?_
    refine j_lcmp dX2_follows_40 ?_
    refine j_if_ne (tgt := 47) dX2_follows_41 (by decide) (fun c10 => ?_) (fun c10 => ?_)
    · rw [if_pos c10] at h
      refine j_goto (tgt := 157) dX2_follows_44 (by decide) ?_
      exact J.sub (zall [0, 1, 2] rfl) (wfX2_follows_157 hd t x1 x2  G h hk)
    · rw [if_neg c10] at h
      refine j_iload_n (j := 1) dX2_follows_47 rfl rfl ?_
      replace h := zbE h
      obtain ⟨v12, e11, h⟩ := h
      refine j_cont (zrS (As := [vI x1]) msX2_167 (yX2_isTerminal_ok e11) (Nat.le_trans (Nat.le_of_ble_eq_true rfl) hd) rfl rfl (Nat.le_of_ble_eq_true rfl) dX2_follows_48) ?_
      refine j_if_eq (tgt := 101) dX2_follows_51 (by decide) (fun c13 => ?_) (fun c13 => ?_)
      · rw [if_pos c13] at h
        refine j_iload_n (j := 2) dX2_follows_101 rfl rfl ?_
        refine j_istore_n (lv' := [(3, vI x2), (0, vR (some t)), (1, vI x1), (2, vI x2)]) dX2_follows_102 rfl (Nat.le_of_ble_eq_true rfl) rfl ?_
        exact J.sub (zall [1, 2, 3, 0] rfl) (wflX2_follows_103 hd t x1 x2 x2  G h hk)
      · rw [if_neg c13] at h
        refine j_iload_n (j := 2) dX2_follows_54 rfl rfl ?_
        refine j_aload_n (j := 0) dX2_follows_55 rfl rfl ?_
        replace h := zbE h
        obtain ⟨v14, e15, h⟩ := h
        refine j_getI fgX2_137 (fun _ _ _ => rfl) dX2_follows_56 e15 ?_
        refine j_icmp_ge (tgt := 157) dX2_follows_59 (by decide) (fun c16 => ?_) (fun c16 => ?_)
        · rw [if_pos c16] at h
          exact J.sub (zall [0, 1, 2] rfl) (wfX2_follows_157 hd t x1 x2  G h hk)
        · rw [if_neg c16] at h
          refine j_aload_n (j := 0) dX2_follows_62 rfl rfl ?_
          replace h := zbE h
          obtain ⟨r17, e18, h⟩ := h
          refine j_getR fgX2_65 (fun _ _ _ => rfl) dX2_follows_63 e18 ?_
          refine j_iload_n (j := 2) dX2_follows_66 rfl rfl ?_
          replace h := zbE h
          obtain ⟨a19, e20, h⟩ := h
          subst e20
          replace h := zbE h
          obtain ⟨v21, e22, h⟩ := h
          refine j_iald (Or.inl rfl) e22 dX2_follows_67 ?_
          refine j_iload_n (j := 1) dX2_follows_68 rfl rfl ?_
          refine j_icmp_ne (tgt := 157) dX2_follows_69 (by decide) (fun c23 => ?_) (fun c23 => ?_)
          · rw [if_pos c23] at h
            refine j_aload_n (j := 0) dX2_follows_72 rfl rfl ?_
            replace h := zbE h
            obtain ⟨r24, e25, h⟩ := h
            refine j_getR fgX2_87 (fun _ _ _ => rfl) dX2_follows_73 e25 ?_
            refine j_iload_n (j := 2) dX2_follows_76 rfl rfl ?_
            refine j_iconst (v := 1) dX2_follows_77 (by decide) ?_
            refine j_iadd dX2_follows_78 ?_
            refine j_aload_n (j := 0) dX2_follows_79 rfl rfl ?_
            replace h := zbE h
            obtain ⟨r26, e27, h⟩ := h
            refine j_getR fgX2_87 (fun _ _ _ => rfl) dX2_follows_80 e27 ?_
            refine j_iload_n (j := 2) dX2_follows_83 rfl rfl ?_
            refine j_iconst (v := 1) dX2_follows_84 (by decide) ?_
            refine j_iadd dX2_follows_85 ?_
            replace h := zbE h
            obtain ⟨a28, e29, h⟩ := h
            subst e29
            replace h := zbE h
            obtain ⟨l30, e31, h⟩ := h
            refine j_lald rfl e31 dX2_follows_86 ?_
            refine j_aload_n (j := 0) dX2_follows_87 rfl rfl ?_
            replace h := zbE h
            obtain ⟨r32, e33, h⟩ := h
            refine j_getR fgX2_84 (fun _ _ _ => rfl) dX2_follows_88 e33 ?_
            refine j_iload_n (j := 2) dX2_follows_91 rfl rfl ?_
            replace h := zbE h
            obtain ⟨a34, e35, h⟩ := h
            subst e35
            replace h := zbE h
            obtain ⟨l36, e37, h⟩ := h
            refine j_lald rfl e37 dX2_follows_92 ?_
            refine j_ladd dX2_follows_93 ?_
            replace h := zbE h
            obtain ⟨l39, e38, h⟩ := h
            refine j_cont (zrS (As := [vL (l30 + l36)]) msX2_372 (yX2_capped_ok e38) (Nat.le_trans (Nat.le_of_ble_eq_true rfl) hd) rfl rfl (Nat.le_of_ble_eq_true rfl) dX2_follows_94) ?_
            replace h := zbE h
            obtain ⟨a40, e41, h⟩ := h
            subst e41
            replace h := zbE h
            obtain ⟨G42, e43, h⟩ := h
            refine j_last e43 dX2_follows_97 ?_
            refine j_goto (tgt := 157) dX2_follows_98 (by decide) ?_
            exact J.sub (zall [0, 1, 2] rfl) (wfX2_follows_157 hd t x1 x2  G42 h hk)
          · rw [if_neg c23] at h
            exact J.sub (zall [0, 1, 2] rfl) (wfX2_follows_157 hd t x1 x2  G h hk)
theorem wflX2_follows_25 {F : zF} (hd : 3 ≤ F.2.2.2) (t : Nat) (x1 : Int32) (x2 : Int32) (G : GS) {a : GS} (h : flX2_follows_25 t x1 x2 G = some a) (hk : zKV F a) : J mX2_follows F G 25 [(0, vR (some t)), (1, vI x1), (2, vI x2)] [] := by
  unfold flX2_follows_25 at h
  exact zloop_walk (P := (fun s : Int32 × GS => J mX2_follows F s.2 25 [(0, vR (some t)), (1, vI x1), (2, vI s.1)] [])) (fun s b e hk => wfbX2_follows_25 hd t x1 s.1 s.2 e hk) (x2, G) _ h hk
def fX2_follows_23 (t : Nat) (x1 : Int32)  (G : GS) : Option (GS) :=
  flX2_follows_25 t x1 0 G
theorem wfX2_follows_23 {F : zF} (hd : 3 ≤ F.2.2.2) (t : Nat) (x1 : Int32)  (G : GS) {a : GS} (h : fX2_follows_23 t x1  G = some a) (hk : zKV F a) : J mX2_follows F G 23 [(0, vR (some t)), (1, vI x1)] [] := by
  unfold fX2_follows_23 at h
  refine j_iconst (v := 0) dX2_follows_23 (by decide) ?_
  refine j_istore_n (lv' := [(2, vI 0), (0, vR (some t)), (1, vI x1)]) dX2_follows_24 rfl (Nat.le_of_ble_eq_true rfl) rfl ?_
  exact J.sub (zall [1, 2, 0] rfl) (wflX2_follows_25 hd t x1 0  G h hk)
def fbX2_follows_2 (t : Nat) (x1 : Int32) (x2 : Int32)  (G : GS) : Option ((Int32 × GS) ⊕ (GS)) :=
  (zgI G 2 t 32).bind fun v1 => if v1 < x2 then (zo (fX2_follows_23 t x1 G)) else ((zgR G 2 t 39).bind fun r4 => r4.bind fun a6 => (zsL G 51 a6 x2 0).bind fun G8 => some (.inl ((x2 + 1), G8)))
def flX2_follows_2 (t : Nat) (x1 : Int32) (x2 : Int32) (G : GS) : Option (GS) := zloop (fun s : Int32 × GS => fbX2_follows_2 t x1 s.1 s.2) (x2, G)
theorem wfbX2_follows_2 {F : zF} (hd : 3 ≤ F.2.2.2) (t : Nat) (x1 : Int32) (x2 : Int32) (G : GS) {a : (Int32 × GS) ⊕ (GS)} (h : fbX2_follows_2 t x1 x2 G = some a) (hk : (zcase (fun s : Int32 × GS => J mX2_follows F s.2 2 [(0, vR (some t)), (1, vI x1), (2, vI s.1)] []) (zKV F)) a) : J mX2_follows F G 2 [(0, vR (some t)), (1, vI x1), (2, vI x2)] [] := by
  unfold fbX2_follows_2 at h
  refine j_iload_n (j := 2) dX2_follows_2 rfl rfl ?_
  refine j_aload_n (j := 0) dX2_follows_3 rfl rfl ?_
  replace h := zbE h
  obtain ⟨v1, e2, h⟩ := h
  refine j_getI fgX2_137 (fun _ _ _ => rfl) dX2_follows_4 e2 ?_
  refine j_icmp_gt (tgt := 23) dX2_follows_7 (by decide) (fun c3 => ?_) (fun c3 => ?_)
  · rw [if_pos c3] at h
    replace h := zoE h
    obtain ⟨a, h, rfl⟩ := h
    replace hk := hk
    exact J.sub (zall [0, 1] rfl) (wfX2_follows_23 hd t x1  G h hk)
  · rw [if_neg c3] at h
    refine j_aload_n (j := 0) dX2_follows_10 rfl rfl ?_
    replace h := zbE h
    obtain ⟨r4, e5, h⟩ := h
    refine j_getR fgX2_87 (fun _ _ _ => rfl) dX2_follows_11 e5 ?_
    refine j_iload_n (j := 2) dX2_follows_14 rfl rfl ?_
    refine j_lconst (v := 0) dX2_follows_15 rfl ?_
    replace h := zbE h
    obtain ⟨a6, e7, h⟩ := h
    subst e7
    replace h := zbE h
    obtain ⟨G8, e9, h⟩ := h
    refine j_last e9 dX2_follows_16 ?_
    refine j_iinc (j := 2) (v := (x2 + 1)) (lv' := [(2, vI (x2 + 1)), (0, vR (some t)), (1, vI x1)]) dX2_follows_17 rfl rfl (Nat.le_of_ble_eq_true rfl) rfl ?_
    refine j_goto (tgt := 2) dX2_follows_20 (by decide) ?_
    obtain rfl := Option.some.inj h
    exact J.sub (zall [1, 2, 0] rfl) hk
theorem wflX2_follows_2 {F : zF} (hd : 3 ≤ F.2.2.2) (t : Nat) (x1 : Int32) (x2 : Int32) (G : GS) {a : GS} (h : flX2_follows_2 t x1 x2 G = some a) (hk : zKV F a) : J mX2_follows F G 2 [(0, vR (some t)), (1, vI x1), (2, vI x2)] [] := by
  unfold flX2_follows_2 at h
  exact zloop_walk (P := (fun s : Int32 × GS => J mX2_follows F s.2 2 [(0, vR (some t)), (1, vI x1), (2, vI s.1)] [])) (fun s b e hk => wfbX2_follows_2 hd t x1 s.1 s.2 e hk) (x2, G) _ h hk
def fX2_follows_0 (t : Nat) (x1 : Int32)  (G : GS) : Option (GS) :=
  flX2_follows_2 t x1 0 G
theorem wfX2_follows_0 {F : zF} (hd : 3 ≤ F.2.2.2) (t : Nat) (x1 : Int32)  (G : GS) {a : GS} (h : fX2_follows_0 t x1  G = some a) (hk : zKV F a) : J mX2_follows F G 0 [(0, vR (some t)), (1, vI x1)] [] := by
  unfold fX2_follows_0 at h
  refine j_iconst (v := 0) dX2_follows_0 (by decide) ?_
  refine j_istore_n (lv' := [(2, vI 0), (0, vR (some t)), (1, vI x1)]) dX2_follows_1 rfl (Nat.le_of_ble_eq_true rfl) rfl ?_
  exact J.sub (zall [1, 2, 0] rfl) (wflX2_follows_2 hd t x1 0  G h hk)
theorem yX2_follows_ok {t : Nat} {x1 : Int32} {G : GS} {G1 : GS} (h : fX2_follows_0 t x1 G = some G1) : zRuns yX2_follows (ws_ yX2_follows cX2_follows 4 none) [vR (some t), vI x1] (.inl none, G, G1, 3) :=
  zentry (M := mX2_follows) (plainFor_of_name (by decide +kernel)) ⟨rfl, rfl, rfl, rfl⟩ (Nat.le_of_ble_eq_true rfl) (wfX2_follows_0 (Nat.le_refl _) t x1 G h ⟨rfl, rfl⟩)
theorem msX2_379 : zSV RX2 379 RX2 yX2_follows cX2_follows 4 none 1 := ⟨lw_V q3241 q3243 qs121 q131 q3244, (by decide +kernel), (by decide)⟩
abbrev mX2_spansOf : zM := (cX2_spansOf, RX2, 5, none, "spansOf", [], "(II)V")
def fX2_spansOf_146 (t : Nat) (x1 : Int32) (x2 : Int32) (x3 : Int32)  (G : GS) : Option ((Int32 × GS) ⊕ (GS)) :=
  some (.inl ((x3 + 1), G))
theorem wfX2_spansOf_146 {F : zF} (hd : 4 ≤ F.2.2.2) (t : Nat) (x1 : Int32) (x2 : Int32) (x3 : Int32)  (G : GS) {a : (Int32 × GS) ⊕ (GS)} (h : fX2_spansOf_146 t x1 x2 x3  G = some a) (hk : (zcase (fun s : Int32 × GS => J mX2_spansOf F s.2 2 [(0, vR (some t)), (1, vI x1), (2, vI x2), (3, vI s.1)] []) (zKV F)) a) : J mX2_spansOf F G 146 [(0, vR (some t)), (1, vI x1), (2, vI x2), (3, vI x3)] [] := by
  unfold fX2_spansOf_146 at h
  refine j_iinc (j := 3) (v := (x3 + 1)) (lv' := [(3, vI (x3 + 1)), (0, vR (some t)), (1, vI x1), (2, vI x2)]) dX2_spansOf_146 rfl rfl (Nat.le_of_ble_eq_true rfl) rfl ?_
  refine j_goto (tgt := 2) dX2_spansOf_149 (by decide) ?_
  obtain rfl := Option.some.inj h
  exact J.sub (zall [1, 2, 3, 0] rfl) hk
def fbX2_spansOf_96 (t : Nat) (x1 : Int32) (x2 : Int32) (x3 : Int32) (x4 : Int32)  (G : GS) : Option ((Int32 × GS) ⊕ ((Int32 × GS) ⊕ (GS))) :=
  (zgI G 2 t 32).bind fun v1 => if v1 < x4 then (zo (fX2_spansOf_146 t x1 x2 x3 G)) else ((zgR G 2 t 37).bind fun r4 => (fX2_span_0 x1 x2 x4 G).bind fun v7 => (zgR G 2 t 37).bind fun r8 => (fX2_span_0 x1 x2 x4 G).bind fun v11 => r8.bind fun a12 => (zaL G 51 a12 v11).bind fun l14 => (zgR G 2 t 38).bind fun r16 => r16.bind fun a18 => (zaL G 51 a18 x4).bind fun l20 => (fX2_capped_0 (l14 + l20) G).bind fun l23 => r4.bind fun a24 => (zsL G 51 a24 v7 l23).bind fun G26 => some (.inl ((x4 + 1), G26)))
def flX2_spansOf_96 (t : Nat) (x1 : Int32) (x2 : Int32) (x3 : Int32) (x4 : Int32) (G : GS) : Option ((Int32 × GS) ⊕ (GS)) := zloop (fun s : Int32 × GS => fbX2_spansOf_96 t x1 x2 x3 s.1 s.2) (x4, G)
theorem wfbX2_spansOf_96 {F : zF} (hd : 4 ≤ F.2.2.2) (t : Nat) (x1 : Int32) (x2 : Int32) (x3 : Int32) (x4 : Int32) (G : GS) {a : (Int32 × GS) ⊕ ((Int32 × GS) ⊕ (GS))} (h : fbX2_spansOf_96 t x1 x2 x3 x4 G = some a) (hk : (zcase (fun s : Int32 × GS => J mX2_spansOf F s.2 96 [(0, vR (some t)), (1, vI x1), (2, vI x2), (3, vI x3), (4, vI s.1)] []) ((zcase (fun s : Int32 × GS => J mX2_spansOf F s.2 2 [(0, vR (some t)), (1, vI x1), (2, vI x2), (3, vI s.1)] []) (zKV F)))) a) : J mX2_spansOf F G 96 [(0, vR (some t)), (1, vI x1), (2, vI x2), (3, vI x3), (4, vI x4)] [] := by
  unfold fbX2_spansOf_96 at h
  refine j_iload (j := 4) dX2_spansOf_96 rfl ?_
  refine j_aload_n (j := 0) dX2_spansOf_98 rfl rfl ?_
  replace h := zbE h
  obtain ⟨v1, e2, h⟩ := h
  refine j_getI fgX2_137 (fun _ _ _ => rfl) dX2_spansOf_99 e2 ?_
  refine j_icmp_gt (tgt := 146) dX2_spansOf_102 (by decide) (fun c3 => ?_) (fun c3 => ?_)
  · rw [if_pos c3] at h
    replace h := zoE h
    obtain ⟨a, h, rfl⟩ := h
    replace hk := hk
    exact J.sub (zall [0, 1, 2, 3] rfl) (wfX2_spansOf_146 hd t x1 x2 x3  G h hk)
  · rw [if_neg c3] at h
    refine j_aload_n (j := 0) dX2_spansOf_105 rfl rfl ?_
    replace h := zbE h
    obtain ⟨r4, e5, h⟩ := h
    refine j_getR fgX2_80 (fun _ _ _ => rfl) dX2_spansOf_106 e5 ?_
    refine j_iload_n (j := 1) dX2_spansOf_109 rfl rfl ?_
    refine j_iload_n (j := 2) dX2_spansOf_110 rfl rfl ?_
    refine j_iload (j := 4) dX2_spansOf_111 rfl ?_
    replace h := zbE h
    obtain ⟨v7, e6, h⟩ := h
    refine j_cont (zrS (As := [vI x1, vI x2, vI x4]) msX2_376 (yX2_span_ok e6) (Nat.le_trans (Nat.le_of_ble_eq_true rfl) hd) rfl rfl (Nat.le_of_ble_eq_true rfl) dX2_spansOf_113) ?_
    refine j_aload_n (j := 0) dX2_spansOf_116 rfl rfl ?_
    replace h := zbE h
    obtain ⟨r8, e9, h⟩ := h
    refine j_getR fgX2_80 (fun _ _ _ => rfl) dX2_spansOf_117 e9 ?_
    refine j_iload_n (j := 1) dX2_spansOf_120 rfl rfl ?_
    refine j_iload_n (j := 2) dX2_spansOf_121 rfl rfl ?_
    refine j_iload (j := 4) dX2_spansOf_122 rfl ?_
    replace h := zbE h
    obtain ⟨v11, e10, h⟩ := h
    refine j_cont (zrS (As := [vI x1, vI x2, vI x4]) msX2_376 (yX2_span_ok e10) (Nat.le_trans (Nat.le_of_ble_eq_true rfl) hd) rfl rfl (Nat.le_of_ble_eq_true rfl) dX2_spansOf_124) ?_
    replace h := zbE h
    obtain ⟨a12, e13, h⟩ := h
    subst e13
    replace h := zbE h
    obtain ⟨l14, e15, h⟩ := h
    refine j_lald rfl e15 dX2_spansOf_127 ?_
    refine j_aload_n (j := 0) dX2_spansOf_128 rfl rfl ?_
    replace h := zbE h
    obtain ⟨r16, e17, h⟩ := h
    refine j_getR fgX2_84 (fun _ _ _ => rfl) dX2_spansOf_129 e17 ?_
    refine j_iload (j := 4) dX2_spansOf_132 rfl ?_
    replace h := zbE h
    obtain ⟨a18, e19, h⟩ := h
    subst e19
    replace h := zbE h
    obtain ⟨l20, e21, h⟩ := h
    refine j_lald rfl e21 dX2_spansOf_134 ?_
    refine j_ladd dX2_spansOf_135 ?_
    replace h := zbE h
    obtain ⟨l23, e22, h⟩ := h
    refine j_cont (zrS (As := [vL (l14 + l20)]) msX2_372 (yX2_capped_ok e22) (Nat.le_trans (Nat.le_of_ble_eq_true rfl) hd) rfl rfl (Nat.le_of_ble_eq_true rfl) dX2_spansOf_136) ?_
    replace h := zbE h
    obtain ⟨a24, e25, h⟩ := h
    subst e25
    replace h := zbE h
    obtain ⟨G26, e27, h⟩ := h
    refine j_last e27 dX2_spansOf_139 ?_
    refine j_iinc (j := 4) (v := (x4 + 1)) (lv' := [(4, vI (x4 + 1)), (0, vR (some t)), (1, vI x1), (2, vI x2), (3, vI x3)]) dX2_spansOf_140 rfl rfl (Nat.le_of_ble_eq_true rfl) rfl ?_
    refine j_goto (tgt := 96) dX2_spansOf_143 (by decide) ?_
    obtain rfl := Option.some.inj h
    exact J.sub (zall [1, 2, 3, 4, 0] rfl) hk
theorem wflX2_spansOf_96 {F : zF} (hd : 4 ≤ F.2.2.2) (t : Nat) (x1 : Int32) (x2 : Int32) (x3 : Int32) (x4 : Int32) (G : GS) {a : (Int32 × GS) ⊕ (GS)} (h : flX2_spansOf_96 t x1 x2 x3 x4 G = some a) (hk : (zcase (fun s : Int32 × GS => J mX2_spansOf F s.2 2 [(0, vR (some t)), (1, vI x1), (2, vI x2), (3, vI s.1)] []) (zKV F)) a) : J mX2_spansOf F G 96 [(0, vR (some t)), (1, vI x1), (2, vI x2), (3, vI x3), (4, vI x4)] [] := by
  unfold flX2_spansOf_96 at h
  exact zloop_walk (P := (fun s : Int32 × GS => J mX2_spansOf F s.2 96 [(0, vR (some t)), (1, vI x1), (2, vI x2), (3, vI x3), (4, vI s.1)] [])) (fun s b e hk => wfbX2_spansOf_96 hd t x1 x2 x3 s.1 s.2 e hk) (x4, G) _ h hk
def fX2_spansOf_93 (t : Nat) (x1 : Int32) (x2 : Int32) (x3 : Int32)  (G : GS) : Option ((Int32 × GS) ⊕ (GS)) :=
  flX2_spansOf_96 t x1 x2 x3 x2 G
theorem wfX2_spansOf_93 {F : zF} (hd : 4 ≤ F.2.2.2) (t : Nat) (x1 : Int32) (x2 : Int32) (x3 : Int32)  (G : GS) {a : (Int32 × GS) ⊕ (GS)} (h : fX2_spansOf_93 t x1 x2 x3  G = some a) (hk : (zcase (fun s : Int32 × GS => J mX2_spansOf F s.2 2 [(0, vR (some t)), (1, vI x1), (2, vI x2), (3, vI s.1)] []) (zKV F)) a) : J mX2_spansOf F G 93 [(0, vR (some t)), (1, vI x1), (2, vI x2), (3, vI x3)] [] := by
  unfold fX2_spansOf_93 at h
  refine j_iload_n (j := 2) dX2_spansOf_93 rfl rfl ?_
  refine j_istore (lv' := [(4, vI x2), (0, vR (some t)), (1, vI x1), (2, vI x2), (3, vI x3)]) dX2_spansOf_94 (Nat.le_of_ble_eq_true rfl) rfl ?_
  exact J.sub (zall [1, 2, 3, 4, 0] rfl) (wflX2_spansOf_96 hd t x1 x2 x3 x2  G h hk)
def fbX2_spansOf_65 (t : Nat) (x1 : Int32) (x2 : Int32) (x3 : Int32) (x4 : Int32)  (G : GS) : Option ((Int32 × GS) ⊕ ((Int32 × GS) ⊕ (GS))) :=
  (zgR G 2 t 1).bind fun r1 => r1.bind fun a3 => (zaI G 50 a3 x3).bind fun v5 => if v5 ≤ x4 then (zo (fX2_spansOf_93 t x1 x2 x3 G)) else (zk [2] G t <| (fX2_at_0 t x3 x4 G).bind fun v10 => zk [2] G t <| (fX2_follows_0 t v10 G).bind fun G13 => some (.inl ((x4 + 1), G13)))
def flX2_spansOf_65 (t : Nat) (x1 : Int32) (x2 : Int32) (x3 : Int32) (x4 : Int32) (G : GS) : Option ((Int32 × GS) ⊕ (GS)) := zloop (fun s : Int32 × GS => fbX2_spansOf_65 t x1 x2 x3 s.1 s.2) (x4, G)
theorem wfbX2_spansOf_65 {F : zF} (hd : 4 ≤ F.2.2.2) (t : Nat) (x1 : Int32) (x2 : Int32) (x3 : Int32) (x4 : Int32) (G : GS) {a : (Int32 × GS) ⊕ ((Int32 × GS) ⊕ (GS))} (h : fbX2_spansOf_65 t x1 x2 x3 x4 G = some a) (hk : (zcase (fun s : Int32 × GS => J mX2_spansOf F s.2 65 [(0, vR (some t)), (1, vI x1), (2, vI x2), (3, vI x3), (4, vI s.1)] []) ((zcase (fun s : Int32 × GS => J mX2_spansOf F s.2 2 [(0, vR (some t)), (1, vI x1), (2, vI x2), (3, vI s.1)] []) (zKV F)))) a) : J mX2_spansOf F G 65 [(0, vR (some t)), (1, vI x1), (2, vI x2), (3, vI x3), (4, vI x4)] [] := by
  unfold fbX2_spansOf_65 at h
  refine j_iload (j := 4) dX2_spansOf_65 rfl ?_
  refine j_aload_n (j := 0) dX2_spansOf_67 rfl rfl ?_
  replace h := zbE h
  obtain ⟨r1, e2, h⟩ := h
  refine j_getR fgX2_13 (fun _ _ _ => rfl) dX2_spansOf_68 e2 ?_
  refine j_iload_n (j := 3) dX2_spansOf_71 rfl rfl ?_
  replace h := zbE h
  obtain ⟨a3, e4, h⟩ := h
  subst e4
  replace h := zbE h
  obtain ⟨v5, e6, h⟩ := h
  refine j_iald (Or.inl rfl) e6 dX2_spansOf_72 ?_
  refine j_icmp_ge (tgt := 93) dX2_spansOf_73 (by decide) (fun c7 => ?_) (fun c7 => ?_)
  · rw [if_pos c7] at h
    replace h := zoE h
    obtain ⟨a, h, rfl⟩ := h
    replace hk := hk
    exact J.sub (zall [0, 1, 2, 3] rfl) (wfX2_spansOf_93 hd t x1 x2 x3  G h hk)
  · rw [if_neg c7] at h
    refine j_aload_n (j := 0) dX2_spansOf_76 rfl rfl ?_
    refine j_aload_n (j := 0) dX2_spansOf_77 rfl rfl ?_
    refine j_iload_n (j := 3) dX2_spansOf_78 rfl rfl ?_
    refine j_iload (j := 4) dX2_spansOf_79 rfl ?_
    replace h := zkE h
    obtain ⟨e8, h⟩ := h
    replace h := zbE h
    obtain ⟨v10, e9, h⟩ := h
    refine j_cont (zrV (As := [vI x3, vI x4]) msX2_187 (yX2_at_ok e9) (Nat.le_trans (Nat.le_of_ble_eq_true rfl) hd) (zk_2 _ e8) rfl rfl (Nat.le_of_ble_eq_true rfl) dX2_spansOf_81) ?_
    replace h := zkE h
    obtain ⟨e11, h⟩ := h
    replace h := zbE h
    obtain ⟨G13, e12, h⟩ := h
    refine j_cont (zrV (As := [vI v10]) msX2_379 (yX2_follows_ok e12) (Nat.le_trans (Nat.le_of_ble_eq_true rfl) hd) (zk_2 _ e11) rfl rfl (Nat.le_of_ble_eq_true rfl) dX2_spansOf_84) ?_
    refine j_iinc (j := 4) (v := (x4 + 1)) (lv' := [(4, vI (x4 + 1)), (0, vR (some t)), (1, vI x1), (2, vI x2), (3, vI x3)]) dX2_spansOf_87 rfl rfl (Nat.le_of_ble_eq_true rfl) rfl ?_
    refine j_goto (tgt := 65) dX2_spansOf_90 (by decide) ?_
    obtain rfl := Option.some.inj h
    exact J.sub (zall [1, 2, 3, 4, 0] rfl) hk
theorem wflX2_spansOf_65 {F : zF} (hd : 4 ≤ F.2.2.2) (t : Nat) (x1 : Int32) (x2 : Int32) (x3 : Int32) (x4 : Int32) (G : GS) {a : (Int32 × GS) ⊕ (GS)} (h : flX2_spansOf_65 t x1 x2 x3 x4 G = some a) (hk : (zcase (fun s : Int32 × GS => J mX2_spansOf F s.2 2 [(0, vR (some t)), (1, vI x1), (2, vI x2), (3, vI s.1)] []) (zKV F)) a) : J mX2_spansOf F G 65 [(0, vR (some t)), (1, vI x1), (2, vI x2), (3, vI x3), (4, vI x4)] [] := by
  unfold flX2_spansOf_65 at h
  exact zloop_walk (P := (fun s : Int32 × GS => J mX2_spansOf F s.2 65 [(0, vR (some t)), (1, vI x1), (2, vI x2), (3, vI x3), (4, vI s.1)] [])) (fun s b e hk => wfbX2_spansOf_65 hd t x1 x2 x3 s.1 s.2 e hk) (x4, G) _ h hk
def fX2_spansOf_62 (t : Nat) (x1 : Int32) (x2 : Int32) (x3 : Int32)  (G : GS) : Option ((Int32 × GS) ⊕ (GS)) :=
  flX2_spansOf_65 t x1 x2 x3 0 G
theorem wfX2_spansOf_62 {F : zF} (hd : 4 ≤ F.2.2.2) (t : Nat) (x1 : Int32) (x2 : Int32) (x3 : Int32)  (G : GS) {a : (Int32 × GS) ⊕ (GS)} (h : fX2_spansOf_62 t x1 x2 x3  G = some a) (hk : (zcase (fun s : Int32 × GS => J mX2_spansOf F s.2 2 [(0, vR (some t)), (1, vI x1), (2, vI x2), (3, vI s.1)] []) (zKV F)) a) : J mX2_spansOf F G 62 [(0, vR (some t)), (1, vI x1), (2, vI x2), (3, vI x3)] [] := by
  unfold fX2_spansOf_62 at h
  refine j_iconst (v := 0) dX2_spansOf_62 (by decide) ?_
  refine j_istore (lv' := [(4, vI 0), (0, vR (some t)), (1, vI x1), (2, vI x2), (3, vI x3)]) dX2_spansOf_63 (Nat.le_of_ble_eq_true rfl) rfl ?_
  exact J.sub (zall [1, 2, 3, 4, 0] rfl) (wflX2_spansOf_65 hd t x1 x2 x3 0  G h hk)
def fX2_spansOf_55 (t : Nat) (x1 : Int32) (x2 : Int32) (x3 : Int32) (x4 : Int32) (s0 : Option Nat) (s1 : Int32) (s2 : Int64) (G : GS) : Option ((Int32 × GS) ⊕ ((Int32 × GS) ⊕ (GS))) :=
  s0.bind fun a1 => (zsL G 51 a1 s1 s2).bind fun G3 => some (.inl ((x4 + 1), G3))
theorem wfX2_spansOf_55 {F : zF} (hd : 4 ≤ F.2.2.2) (t : Nat) (x1 : Int32) (x2 : Int32) (x3 : Int32) (x4 : Int32) (s0 : Option Nat) (s1 : Int32) (s2 : Int64) (G : GS) {a : (Int32 × GS) ⊕ ((Int32 × GS) ⊕ (GS))} (h : fX2_spansOf_55 t x1 x2 x3 x4 s0 s1 s2 G = some a) (hk : (zcase (fun s : Int32 × GS => J mX2_spansOf F s.2 29 [(0, vR (some t)), (1, vI x1), (2, vI x2), (3, vI x3), (4, vI s.1)] []) ((zcase (fun s : Int32 × GS => J mX2_spansOf F s.2 2 [(0, vR (some t)), (1, vI x1), (2, vI x2), (3, vI s.1)] []) (zKV F)))) a) : J mX2_spansOf F G 55 [(0, vR (some t)), (1, vI x1), (2, vI x2), (3, vI x3), (4, vI x4)] [vL s2, vI s1, vR s0] := by
  unfold fX2_spansOf_55 at h
  replace h := zbE h
  obtain ⟨a1, e2, h⟩ := h
  subst e2
  replace h := zbE h
  obtain ⟨G3, e4, h⟩ := h
  refine j_last e4 dX2_spansOf_55 ?_
  refine j_iinc (j := 4) (v := (x4 + 1)) (lv' := [(4, vI (x4 + 1)), (0, vR (some t)), (1, vI x1), (2, vI x2), (3, vI x3)]) dX2_spansOf_56 rfl rfl (Nat.le_of_ble_eq_true rfl) rfl ?_
  refine j_goto (tgt := 29) dX2_spansOf_59 (by decide) ?_
  obtain rfl := Option.some.inj h
  exact J.sub (zall [1, 2, 3, 4, 0] rfl) hk
def fbX2_spansOf_29 (t : Nat) (x1 : Int32) (x2 : Int32) (x3 : Int32) (x4 : Int32)  (G : GS) : Option ((Int32 × GS) ⊕ ((Int32 × GS) ⊕ (GS))) :=
  (zgI G 2 t 32).bind fun v1 => if v1 < x4 then (zo (fX2_spansOf_62 t x1 x2 x3 G)) else ((zgR G 2 t 38).bind fun r4 => if x4 = x2 then (fX2_spansOf_55 t x1 x2 x3 x4 r4 x4 1 G) else (fX2_spansOf_55 t x1 x2 x3 x4 r4 x4 0 G))
def flX2_spansOf_29 (t : Nat) (x1 : Int32) (x2 : Int32) (x3 : Int32) (x4 : Int32) (G : GS) : Option ((Int32 × GS) ⊕ (GS)) := zloop (fun s : Int32 × GS => fbX2_spansOf_29 t x1 x2 x3 s.1 s.2) (x4, G)
theorem wfbX2_spansOf_29 {F : zF} (hd : 4 ≤ F.2.2.2) (t : Nat) (x1 : Int32) (x2 : Int32) (x3 : Int32) (x4 : Int32) (G : GS) {a : (Int32 × GS) ⊕ ((Int32 × GS) ⊕ (GS))} (h : fbX2_spansOf_29 t x1 x2 x3 x4 G = some a) (hk : (zcase (fun s : Int32 × GS => J mX2_spansOf F s.2 29 [(0, vR (some t)), (1, vI x1), (2, vI x2), (3, vI x3), (4, vI s.1)] []) ((zcase (fun s : Int32 × GS => J mX2_spansOf F s.2 2 [(0, vR (some t)), (1, vI x1), (2, vI x2), (3, vI s.1)] []) (zKV F)))) a) : J mX2_spansOf F G 29 [(0, vR (some t)), (1, vI x1), (2, vI x2), (3, vI x3), (4, vI x4)] [] := by
  unfold fbX2_spansOf_29 at h
  refine j_iload (j := 4) dX2_spansOf_29 rfl ?_
  refine j_aload_n (j := 0) dX2_spansOf_31 rfl rfl ?_
  replace h := zbE h
  obtain ⟨v1, e2, h⟩ := h
  refine j_getI fgX2_137 (fun _ _ _ => rfl) dX2_spansOf_32 e2 ?_
  refine j_icmp_gt (tgt := 62) dX2_spansOf_35 (by decide) (fun c3 => ?_) (fun c3 => ?_)
  · rw [if_pos c3] at h
    replace h := zoE h
    obtain ⟨a, h, rfl⟩ := h
    replace hk := hk
    exact J.sub (zall [0, 1, 2, 3] rfl) (wfX2_spansOf_62 hd t x1 x2 x3  G h hk)
  · rw [if_neg c3] at h
    refine j_aload_n (j := 0) dX2_spansOf_38 rfl rfl ?_
    replace h := zbE h
    obtain ⟨r4, e5, h⟩ := h
    refine j_getR fgX2_84 (fun _ _ _ => rfl) dX2_spansOf_39 e5 ?_
    refine j_iload (j := 4) dX2_spansOf_42 rfl ?_
    refine j_iload (j := 4) dX2_spansOf_44 rfl ?_
    refine j_iload_n (j := 2) dX2_spansOf_46 rfl rfl ?_
    refine j_icmp_ne (tgt := 54) dX2_spansOf_47 (by decide) (fun c6 => ?_) (fun c6 => ?_)
    · rw [if_pos c6] at h
      refine j_lconst (v := 1) dX2_spansOf_50 rfl ?_
      refine j_goto (tgt := 55) dX2_spansOf_51 (by decide) ?_
      exact J.sub (zall [0, 1, 2, 3, 4] rfl) (wfX2_spansOf_55 hd t x1 x2 x3 x4 r4 x4 1 G h hk)
    · rw [if_neg c6] at h
      refine j_lconst (v := 0) dX2_spansOf_54 rfl ?_
      exact J.sub (zall [0, 1, 2, 3, 4] rfl) (wfX2_spansOf_55 hd t x1 x2 x3 x4 r4 x4 0 G h hk)
theorem wflX2_spansOf_29 {F : zF} (hd : 4 ≤ F.2.2.2) (t : Nat) (x1 : Int32) (x2 : Int32) (x3 : Int32) (x4 : Int32) (G : GS) {a : (Int32 × GS) ⊕ (GS)} (h : flX2_spansOf_29 t x1 x2 x3 x4 G = some a) (hk : (zcase (fun s : Int32 × GS => J mX2_spansOf F s.2 2 [(0, vR (some t)), (1, vI x1), (2, vI x2), (3, vI s.1)] []) (zKV F)) a) : J mX2_spansOf F G 29 [(0, vR (some t)), (1, vI x1), (2, vI x2), (3, vI x3), (4, vI x4)] [] := by
  unfold flX2_spansOf_29 at h
  exact zloop_walk (P := (fun s : Int32 × GS => J mX2_spansOf F s.2 29 [(0, vR (some t)), (1, vI x1), (2, vI x2), (3, vI x3), (4, vI s.1)] [])) (fun s b e hk => wfbX2_spansOf_29 hd t x1 x2 x3 s.1 s.2 e hk) (x4, G) _ h hk
def fbX2_spansOf_2 (t : Nat) (x1 : Int32) (x2 : Int32) (x3 : Int32)  (G : GS) : Option ((Int32 × GS) ⊕ (GS)) :=
  (zgI G 2 t 6).bind fun v1 => if v1 ≤ x3 then (zo (some G)) else ((zgR G 2 t 0).bind fun r4 => r4.bind fun a6 => (zaI G 50 a6 x3).bind fun v8 => if v8 = (20 + x1) then (flX2_spansOf_29 t x1 x2 x3 0 G) else (fX2_spansOf_146 t x1 x2 x3 G))
def flX2_spansOf_2 (t : Nat) (x1 : Int32) (x2 : Int32) (x3 : Int32) (G : GS) : Option (GS) := zloop (fun s : Int32 × GS => fbX2_spansOf_2 t x1 x2 s.1 s.2) (x3, G)
theorem wfbX2_spansOf_2 {F : zF} (hd : 4 ≤ F.2.2.2) (t : Nat) (x1 : Int32) (x2 : Int32) (x3 : Int32) (G : GS) {a : (Int32 × GS) ⊕ (GS)} (h : fbX2_spansOf_2 t x1 x2 x3 G = some a) (hk : (zcase (fun s : Int32 × GS => J mX2_spansOf F s.2 2 [(0, vR (some t)), (1, vI x1), (2, vI x2), (3, vI s.1)] []) (zKV F)) a) : J mX2_spansOf F G 2 [(0, vR (some t)), (1, vI x1), (2, vI x2), (3, vI x3)] [] := by
  unfold fbX2_spansOf_2 at h
  refine j_iload_n (j := 3) dX2_spansOf_2 rfl rfl ?_
  refine j_aload_n (j := 0) dX2_spansOf_3 rfl rfl ?_
  replace h := zbE h
  obtain ⟨v1, e2, h⟩ := h
  refine j_getI fgX2_113 (fun _ _ _ => rfl) dX2_spansOf_4 e2 ?_
  refine j_icmp_ge (tgt := 152) dX2_spansOf_7 (by decide) (fun c3 => ?_) (fun c3 => ?_)
  · rw [if_pos c3] at h
    replace h := zoE h
    obtain ⟨a, h, rfl⟩ := h
    replace hk := hk
    obtain rfl := Option.some.inj h
    exact j_vret hk.1 hk.2 rfl dX2_spansOf_152
  · rw [if_neg c3] at h
    refine j_aload_n (j := 0) dX2_spansOf_10 rfl rfl ?_
    replace h := zbE h
    obtain ⟨r4, e5, h⟩ := h
    refine j_getR fgX2_7 (fun _ _ _ => rfl) dX2_spansOf_11 e5 ?_
    refine j_iload_n (j := 3) dX2_spansOf_14 rfl rfl ?_
    replace h := zbE h
    obtain ⟨a6, e7, h⟩ := h
    subst e7
    replace h := zbE h
    obtain ⟨v8, e9, h⟩ := h
    refine j_iald (Or.inl rfl) e9 dX2_spansOf_15 ?_
    refine j_bipush (v := 20) dX2_spansOf_16 (by decide) ?_
    refine j_iload_n (j := 1) dX2_spansOf_18 rfl rfl ?_
    refine j_iadd dX2_spansOf_19 ?_
    refine j_icmp_eq (tgt := 26) dX2_spansOf_20 (by decide) (fun c10 => ?_) (fun c10 => ?_)
    · rw [if_pos c10] at h
      refine j_iconst (v := 0) dX2_spansOf_26 (by decide) ?_
      refine j_istore (lv' := [(4, vI 0), (0, vR (some t)), (1, vI x1), (2, vI x2), (3, vI x3)]) dX2_spansOf_27 (Nat.le_of_ble_eq_true rfl) rfl ?_
      exact J.sub (zall [1, 2, 3, 4, 0] rfl) (wflX2_spansOf_29 hd t x1 x2 x3 0  G h hk)
    · rw [if_neg c10] at h
      refine j_goto (tgt := 146) dX2_spansOf_23 (by decide) ?_
      exact J.sub (zall [0, 1, 2, 3] rfl) (wfX2_spansOf_146 hd t x1 x2 x3  G h hk)
theorem wflX2_spansOf_2 {F : zF} (hd : 4 ≤ F.2.2.2) (t : Nat) (x1 : Int32) (x2 : Int32) (x3 : Int32) (G : GS) {a : GS} (h : flX2_spansOf_2 t x1 x2 x3 G = some a) (hk : zKV F a) : J mX2_spansOf F G 2 [(0, vR (some t)), (1, vI x1), (2, vI x2), (3, vI x3)] [] := by
  unfold flX2_spansOf_2 at h
  exact zloop_walk (P := (fun s : Int32 × GS => J mX2_spansOf F s.2 2 [(0, vR (some t)), (1, vI x1), (2, vI x2), (3, vI s.1)] [])) (fun s b e hk => wfbX2_spansOf_2 hd t x1 x2 s.1 s.2 e hk) (x3, G) _ h hk
def fX2_spansOf_0 (t : Nat) (x1 : Int32) (x2 : Int32)  (G : GS) : Option (GS) :=
  flX2_spansOf_2 t x1 x2 0 G
theorem wfX2_spansOf_0 {F : zF} (hd : 4 ≤ F.2.2.2) (t : Nat) (x1 : Int32) (x2 : Int32)  (G : GS) {a : GS} (h : fX2_spansOf_0 t x1 x2  G = some a) (hk : zKV F a) : J mX2_spansOf F G 0 [(0, vR (some t)), (1, vI x1), (2, vI x2)] [] := by
  unfold fX2_spansOf_0 at h
  refine j_iconst (v := 0) dX2_spansOf_0 (by decide) ?_
  refine j_istore_n (lv' := [(3, vI 0), (0, vR (some t)), (1, vI x1), (2, vI x2)]) dX2_spansOf_1 rfl (Nat.le_of_ble_eq_true rfl) rfl ?_
  exact J.sub (zall [1, 2, 3, 0] rfl) (wflX2_spansOf_2 hd t x1 x2 0  G h hk)
theorem yX2_spansOf_ok {t : Nat} {x1 : Int32} {x2 : Int32} {G : GS} {G1 : GS} (h : fX2_spansOf_0 t x1 x2 G = some G1) : zRuns yX2_spansOf (ws_ yX2_spansOf cX2_spansOf 5 none) [vR (some t), vI x1, vI x2] (.inl none, G, G1, 4) :=
  zentry (M := mX2_spansOf) (plainFor_of_name (by decide +kernel)) ⟨rfl, rfl, rfl, rfl⟩ (Nat.le_of_ble_eq_true rfl) (wfX2_spansOf_0 (Nat.le_refl _) t x1 x2 G h ⟨rfl, rfl⟩)
theorem msX2_288 : zSV RX2 288 RX2 yX2_reaches cX2_reaches 3 none 0 := ⟨lw_V q3065 q3067 qs94 q131 q3068, (by decide +kernel), (by decide)⟩
theorem msX2_381 : zSS RX2 381 yX2_bits cX2_bits 3 (some Jvm.ClassFile.FieldType.int) 1 := ⟨lw_S q3234 q3235 q131 q3236, (by decide +kernel), (by decide)⟩
theorem msX2_384 : zSV RX2 384 RX2 yX2_spansOf cX2_spansOf 5 none 2 := ⟨lw_V q3237 q3239 qs120 q131 q3240, (by decide +kernel), (by decide)⟩
abbrev mX2_counted : zM := (cX2_counted, RX2, 4, (some Jvm.ClassFile.FieldType.int), "counted", [], "()I")
def fX2_counted_90 (t : Nat)  (G : GS) : Option ((Int32) × GS) :=
  (zgR G 2 t 37).bind fun r1 => (zgI G 2 t 32).bind fun v3 => (fX2_span_0 0 0 v3 G).bind fun v6 => r1.bind fun a7 => (zaL G 51 a7 v6).bind fun l9 => if (lg_cmp l9 (1000000 : Int64)) ≤ 0 then (some (l9.toInt32, G)) else (some (1000000, G))
theorem wfX2_counted_90 {F : zF} (hd : 9 ≤ F.2.2.2) (t : Nat)  (G : GS) {a : (Int32) × GS} (h : fX2_counted_90 t  G = some a) (hk : zKI F a) : J mX2_counted F G 90 [(0, vR (some t))] [] := by
  unfold fX2_counted_90 at h
  refine j_aload_n (j := 0) dX2_counted_90 rfl rfl ?_
  replace h := zbE h
  obtain ⟨r1, e2, h⟩ := h
  refine j_getR fgX2_80 (fun _ _ _ => rfl) dX2_counted_91 e2 ?_
  refine j_iconst (v := 0) dX2_counted_94 (by decide) ?_
  refine j_iconst (v := 0) dX2_counted_95 (by decide) ?_
  refine j_aload_n (j := 0) dX2_counted_96 rfl rfl ?_
  replace h := zbE h
  obtain ⟨v3, e4, h⟩ := h
  refine j_getI fgX2_137 (fun _ _ _ => rfl) dX2_counted_97 e4 ?_
  replace h := zbE h
  obtain ⟨v6, e5, h⟩ := h
  refine j_cont (zrS (As := [vI 0, vI 0, vI v3]) msX2_376 (yX2_span_ok e5) (Nat.le_trans (Nat.le_of_ble_eq_true rfl) hd) rfl rfl (Nat.le_of_ble_eq_true rfl) dX2_counted_100) ?_
  replace h := zbE h
  obtain ⟨a7, e8, h⟩ := h
  subst e8
  replace h := zbE h
  obtain ⟨l9, e10, h⟩ := h
  refine j_lald rfl e10 dX2_counted_103 ?_
  refine j_lstore_n (lv' := [(1, vL l9), (0, vR (some t))]) dX2_counted_104 rfl (Nat.le_of_ble_eq_true rfl) rfl ?_
  refine j_lload_n (j := 0) dX2_counted_105 rfl rfl ?_
  refine j_ldc2 (v := 1000000) q3248 dX2_counted_106 ?_
  refine j_lcmp dX2_counted_109 ?_
  refine j_if_le (tgt := 118) dX2_counted_110 (by decide) (fun c11 => ?_) (fun c11 => ?_)
  · rw [if_pos c11] at h
    refine j_lload_n (j := 0) dX2_counted_118 rfl rfl ?_
    refine j_l2i dX2_counted_119 ?_
    obtain rfl := Option.some.inj h
    exact j_iret hk.1 hk.2 rfl dX2_counted_120
  · rw [if_neg c11] at h
    refine j_ldc (v := 1000000) q2962 dX2_counted_113 ?_
    refine j_goto (tgt := 120) dX2_counted_115 (by decide) ?_
    obtain rfl := Option.some.inj h
    exact j_iret hk.1 hk.2 rfl dX2_counted_120
def fX2_counted_84 (t : Nat) (x1 : Int32)  (G : GS) : Option ((Int32 × GS) ⊕ ((Int32) × GS)) :=
  some (.inl ((x1 + (-1)), G))
theorem wfX2_counted_84 {F : zF} (hd : 9 ≤ F.2.2.2) (t : Nat) (x1 : Int32)  (G : GS) {a : (Int32 × GS) ⊕ ((Int32) × GS)} (h : fX2_counted_84 t x1  G = some a) (hk : (zcase (fun s : Int32 × GS => J mX2_counted F s.2 33 [(0, vR (some t)), (1, vI s.1)] []) (zKI F)) a) : J mX2_counted F G 84 [(0, vR (some t)), (1, vI x1)] [] := by
  unfold fX2_counted_84 at h
  refine j_iinc (j := 1) (v := (x1 + (-1))) (lv' := [(1, vI (x1 + (-1))), (0, vR (some t))]) dX2_counted_84 rfl rfl (Nat.le_of_ble_eq_true rfl) rfl ?_
  refine j_goto (tgt := 33) dX2_counted_87 (by decide) ?_
  obtain rfl := Option.some.inj h
  exact J.sub (zall [1, 0] rfl) hk
def fX2_counted_78 (t : Nat) (x1 : Int32) (x2 : Int32)  (G : GS) : Option ((Int32 × GS) ⊕ ((Int32 × GS) ⊕ ((Int32) × GS))) :=
  some (.inl ((x2 + 1), G))
theorem wfX2_counted_78 {F : zF} (hd : 9 ≤ F.2.2.2) (t : Nat) (x1 : Int32) (x2 : Int32)  (G : GS) {a : (Int32 × GS) ⊕ ((Int32 × GS) ⊕ ((Int32) × GS))} (h : fX2_counted_78 t x1 x2  G = some a) (hk : (zcase (fun s : Int32 × GS => J mX2_counted F s.2 39 [(0, vR (some t)), (1, vI x1), (2, vI s.1)] []) ((zcase (fun s : Int32 × GS => J mX2_counted F s.2 33 [(0, vR (some t)), (1, vI s.1)] []) (zKI F)))) a) : J mX2_counted F G 78 [(0, vR (some t)), (1, vI x1), (2, vI x2)] [] := by
  unfold fX2_counted_78 at h
  refine j_iinc (j := 2) (v := (x2 + 1)) (lv' := [(2, vI (x2 + 1)), (0, vR (some t)), (1, vI x1)]) dX2_counted_78 rfl rfl (Nat.le_of_ble_eq_true rfl) rfl ?_
  refine j_goto (tgt := 39) dX2_counted_81 (by decide) ?_
  obtain rfl := Option.some.inj h
  exact J.sub (zall [1, 2, 0] rfl) hk
def fX2_counted_72 (t : Nat) (x1 : Int32) (x2 : Int32) (x3 : Int32)  (G : GS) : Option ((Int32 × GS) ⊕ ((Int32 × GS) ⊕ ((Int32 × GS) ⊕ ((Int32) × GS)))) :=
  some (.inl ((x3 + 1), G))
theorem wfX2_counted_72 {F : zF} (hd : 9 ≤ F.2.2.2) (t : Nat) (x1 : Int32) (x2 : Int32) (x3 : Int32)  (G : GS) {a : (Int32 × GS) ⊕ ((Int32 × GS) ⊕ ((Int32 × GS) ⊕ ((Int32) × GS)))} (h : fX2_counted_72 t x1 x2 x3  G = some a) (hk : (zcase (fun s : Int32 × GS => J mX2_counted F s.2 47 [(0, vR (some t)), (1, vI x1), (2, vI x2), (3, vI s.1)] []) ((zcase (fun s : Int32 × GS => J mX2_counted F s.2 39 [(0, vR (some t)), (1, vI x1), (2, vI s.1)] []) ((zcase (fun s : Int32 × GS => J mX2_counted F s.2 33 [(0, vR (some t)), (1, vI s.1)] []) (zKI F)))))) a) : J mX2_counted F G 72 [(0, vR (some t)), (1, vI x1), (2, vI x2), (3, vI x3)] [] := by
  unfold fX2_counted_72 at h
  refine j_iinc (j := 3) (v := (x3 + 1)) (lv' := [(3, vI (x3 + 1)), (0, vR (some t)), (1, vI x1), (2, vI x2)]) dX2_counted_72 rfl rfl (Nat.le_of_ble_eq_true rfl) rfl ?_
  refine j_goto (tgt := 47) dX2_counted_75 (by decide) ?_
  obtain rfl := Option.some.inj h
  exact J.sub (zall [1, 2, 3, 0] rfl) hk
def fbX2_counted_47 (t : Nat) (x1 : Int32) (x2 : Int32) (x3 : Int32)  (G : GS) : Option ((Int32 × GS) ⊕ ((Int32 × GS) ⊕ ((Int32 × GS) ⊕ ((Int32) × GS)))) :=
  if 12 ≤ x3 then (zo (fX2_counted_78 t x1 x2 G)) else ((zgR G 2 t 21).bind fun r2 => r2.bind fun a4 => (zaI G 50 a4 x3).bind fun v6 => (fX2_bits_0 v6 G).bind fun v9 => if v9 = x2 then (zk [2] G t <| (fX2_spansOf_0 t x3 x1 G).bind fun G13 => fX2_counted_72 t x1 x2 x3 G13) else (fX2_counted_72 t x1 x2 x3 G))
def flX2_counted_47 (t : Nat) (x1 : Int32) (x2 : Int32) (x3 : Int32) (G : GS) : Option ((Int32 × GS) ⊕ ((Int32 × GS) ⊕ ((Int32) × GS))) := zloop (fun s : Int32 × GS => fbX2_counted_47 t x1 x2 s.1 s.2) (x3, G)
theorem wfbX2_counted_47 {F : zF} (hd : 9 ≤ F.2.2.2) (t : Nat) (x1 : Int32) (x2 : Int32) (x3 : Int32) (G : GS) {a : (Int32 × GS) ⊕ ((Int32 × GS) ⊕ ((Int32 × GS) ⊕ ((Int32) × GS)))} (h : fbX2_counted_47 t x1 x2 x3 G = some a) (hk : (zcase (fun s : Int32 × GS => J mX2_counted F s.2 47 [(0, vR (some t)), (1, vI x1), (2, vI x2), (3, vI s.1)] []) ((zcase (fun s : Int32 × GS => J mX2_counted F s.2 39 [(0, vR (some t)), (1, vI x1), (2, vI s.1)] []) ((zcase (fun s : Int32 × GS => J mX2_counted F s.2 33 [(0, vR (some t)), (1, vI s.1)] []) (zKI F)))))) a) : J mX2_counted F G 47 [(0, vR (some t)), (1, vI x1), (2, vI x2), (3, vI x3)] [] := by
  unfold fbX2_counted_47 at h
  refine j_iload_n (j := 3) dX2_counted_47 rfl rfl ?_
  refine j_bipush (v := 12) dX2_counted_48 (by decide) ?_
  refine j_icmp_ge (tgt := 78) dX2_counted_50 (by decide) (fun c1 => ?_) (fun c1 => ?_)
  · rw [if_pos c1] at h
    replace h := zoE h
    obtain ⟨a, h, rfl⟩ := h
    replace hk := hk
    exact J.sub (zall [0, 1, 2] rfl) (wfX2_counted_78 hd t x1 x2  G h hk)
  · rw [if_neg c1] at h
    refine j_aload_n (j := 0) dX2_counted_53 rfl rfl ?_
    replace h := zbE h
    obtain ⟨r2, e3, h⟩ := h
    refine j_getR fgX2_53 (fun _ _ _ => rfl) dX2_counted_54 e3 ?_
    refine j_iload_n (j := 3) dX2_counted_57 rfl rfl ?_
    replace h := zbE h
    obtain ⟨a4, e5, h⟩ := h
    subst e5
    replace h := zbE h
    obtain ⟨v6, e7, h⟩ := h
    refine j_iald (Or.inl rfl) e7 dX2_counted_58 ?_
    replace h := zbE h
    obtain ⟨v9, e8, h⟩ := h
    refine j_cont (zrS (As := [vI v6]) msX2_381 (yX2_bits_ok e8) (Nat.le_trans (Nat.le_of_ble_eq_true rfl) hd) rfl rfl (Nat.le_of_ble_eq_true rfl) dX2_counted_59) ?_
    refine j_iload_n (j := 2) dX2_counted_62 rfl rfl ?_
    refine j_icmp_ne (tgt := 72) dX2_counted_63 (by decide) (fun c10 => ?_) (fun c10 => ?_)
    · rw [if_pos c10] at h
      refine j_aload_n (j := 0) dX2_counted_66 rfl rfl ?_
      refine j_iload_n (j := 3) dX2_counted_67 rfl rfl ?_
      refine j_iload_n (j := 1) dX2_counted_68 rfl rfl ?_
      replace h := zkE h
      obtain ⟨e11, h⟩ := h
      replace h := zbE h
      obtain ⟨G13, e12, h⟩ := h
      refine j_cont (zrV (As := [vI x3, vI x1]) msX2_384 (yX2_spansOf_ok e12) (Nat.le_trans (Nat.le_of_ble_eq_true rfl) hd) (zk_2 _ e11) rfl rfl (Nat.le_of_ble_eq_true rfl) dX2_counted_69) ?_
      exact J.sub (zall [0, 1, 2, 3] rfl) (wfX2_counted_72 hd t x1 x2 x3  G13 h hk)
    · rw [if_neg c10] at h
      exact J.sub (zall [0, 1, 2, 3] rfl) (wfX2_counted_72 hd t x1 x2 x3  G h hk)
theorem wflX2_counted_47 {F : zF} (hd : 9 ≤ F.2.2.2) (t : Nat) (x1 : Int32) (x2 : Int32) (x3 : Int32) (G : GS) {a : (Int32 × GS) ⊕ ((Int32 × GS) ⊕ ((Int32) × GS))} (h : flX2_counted_47 t x1 x2 x3 G = some a) (hk : (zcase (fun s : Int32 × GS => J mX2_counted F s.2 39 [(0, vR (some t)), (1, vI x1), (2, vI s.1)] []) ((zcase (fun s : Int32 × GS => J mX2_counted F s.2 33 [(0, vR (some t)), (1, vI s.1)] []) (zKI F)))) a) : J mX2_counted F G 47 [(0, vR (some t)), (1, vI x1), (2, vI x2), (3, vI x3)] [] := by
  unfold flX2_counted_47 at h
  exact zloop_walk (P := (fun s : Int32 × GS => J mX2_counted F s.2 47 [(0, vR (some t)), (1, vI x1), (2, vI x2), (3, vI s.1)] [])) (fun s b e hk => wfbX2_counted_47 hd t x1 x2 s.1 s.2 e hk) (x3, G) _ h hk
def fbX2_counted_39 (t : Nat) (x1 : Int32) (x2 : Int32)  (G : GS) : Option ((Int32 × GS) ⊕ ((Int32 × GS) ⊕ ((Int32) × GS))) :=
  if 12 < x2 then (zo (fX2_counted_84 t x1 G)) else (flX2_counted_47 t x1 x2 0 G)
def flX2_counted_39 (t : Nat) (x1 : Int32) (x2 : Int32) (G : GS) : Option ((Int32 × GS) ⊕ ((Int32) × GS)) := zloop (fun s : Int32 × GS => fbX2_counted_39 t x1 s.1 s.2) (x2, G)
theorem wfbX2_counted_39 {F : zF} (hd : 9 ≤ F.2.2.2) (t : Nat) (x1 : Int32) (x2 : Int32) (G : GS) {a : (Int32 × GS) ⊕ ((Int32 × GS) ⊕ ((Int32) × GS))} (h : fbX2_counted_39 t x1 x2 G = some a) (hk : (zcase (fun s : Int32 × GS => J mX2_counted F s.2 39 [(0, vR (some t)), (1, vI x1), (2, vI s.1)] []) ((zcase (fun s : Int32 × GS => J mX2_counted F s.2 33 [(0, vR (some t)), (1, vI s.1)] []) (zKI F)))) a) : J mX2_counted F G 39 [(0, vR (some t)), (1, vI x1), (2, vI x2)] [] := by
  unfold fbX2_counted_39 at h
  refine j_iload_n (j := 2) dX2_counted_39 rfl rfl ?_
  refine j_bipush (v := 12) dX2_counted_40 (by decide) ?_
  refine j_icmp_gt (tgt := 84) dX2_counted_42 (by decide) (fun c1 => ?_) (fun c1 => ?_)
  · rw [if_pos c1] at h
    replace h := zoE h
    obtain ⟨a, h, rfl⟩ := h
    replace hk := hk
    exact J.sub (zall [0, 1] rfl) (wfX2_counted_84 hd t x1  G h hk)
  · rw [if_neg c1] at h
    refine j_iconst (v := 0) dX2_counted_45 (by decide) ?_
    refine j_istore_n (lv' := [(3, vI 0), (0, vR (some t)), (1, vI x1), (2, vI x2)]) dX2_counted_46 rfl (Nat.le_of_ble_eq_true rfl) rfl ?_
    exact J.sub (zall [1, 2, 3, 0] rfl) (wflX2_counted_47 hd t x1 x2 0  G h hk)
theorem wflX2_counted_39 {F : zF} (hd : 9 ≤ F.2.2.2) (t : Nat) (x1 : Int32) (x2 : Int32) (G : GS) {a : (Int32 × GS) ⊕ ((Int32) × GS)} (h : flX2_counted_39 t x1 x2 G = some a) (hk : (zcase (fun s : Int32 × GS => J mX2_counted F s.2 33 [(0, vR (some t)), (1, vI s.1)] []) (zKI F)) a) : J mX2_counted F G 39 [(0, vR (some t)), (1, vI x1), (2, vI x2)] [] := by
  unfold flX2_counted_39 at h
  exact zloop_walk (P := (fun s : Int32 × GS => J mX2_counted F s.2 39 [(0, vR (some t)), (1, vI x1), (2, vI s.1)] [])) (fun s b e hk => wfbX2_counted_39 hd t x1 s.1 s.2 e hk) (x2, G) _ h hk
def fbX2_counted_33 (t : Nat) (x1 : Int32)  (G : GS) : Option ((Int32 × GS) ⊕ ((Int32) × GS)) :=
  if x1 < 0 then (zo (fX2_counted_90 t G)) else (flX2_counted_39 t x1 0 G)
def flX2_counted_33 (t : Nat) (x1 : Int32) (G : GS) : Option ((Int32) × GS) := zloop (fun s : Int32 × GS => fbX2_counted_33 t s.1 s.2) (x1, G)
theorem wfbX2_counted_33 {F : zF} (hd : 9 ≤ F.2.2.2) (t : Nat) (x1 : Int32) (G : GS) {a : (Int32 × GS) ⊕ ((Int32) × GS)} (h : fbX2_counted_33 t x1 G = some a) (hk : (zcase (fun s : Int32 × GS => J mX2_counted F s.2 33 [(0, vR (some t)), (1, vI s.1)] []) (zKI F)) a) : J mX2_counted F G 33 [(0, vR (some t)), (1, vI x1)] [] := by
  unfold fbX2_counted_33 at h
  refine j_iload_n (j := 1) dX2_counted_33 rfl rfl ?_
  refine j_if_lt (tgt := 90) dX2_counted_34 (by decide) (fun c1 => ?_) (fun c1 => ?_)
  · rw [if_pos c1] at h
    replace h := zoE h
    obtain ⟨a, h, rfl⟩ := h
    replace hk := hk
    exact J.sub (zall [0] rfl) (wfX2_counted_90 hd t  G h hk)
  · rw [if_neg c1] at h
    refine j_iconst (v := 0) dX2_counted_37 (by decide) ?_
    refine j_istore_n (lv' := [(2, vI 0), (0, vR (some t)), (1, vI x1)]) dX2_counted_38 rfl (Nat.le_of_ble_eq_true rfl) rfl ?_
    exact J.sub (zall [1, 2, 0] rfl) (wflX2_counted_39 hd t x1 0  G h hk)
theorem wflX2_counted_33 {F : zF} (hd : 9 ≤ F.2.2.2) (t : Nat) (x1 : Int32) (G : GS) {a : (Int32) × GS} (h : flX2_counted_33 t x1 G = some a) (hk : zKI F a) : J mX2_counted F G 33 [(0, vR (some t)), (1, vI x1)] [] := by
  unfold flX2_counted_33 at h
  exact zloop_walk (P := (fun s : Int32 × GS => J mX2_counted F s.2 33 [(0, vR (some t)), (1, vI s.1)] [])) (fun s b e hk => wfbX2_counted_33 hd t s.1 s.2 e hk) (x1, G) _ h hk
def fX2_counted_28 (t : Nat)  (G : GS) : Option ((Int32) × GS) :=
  (zgI G 2 t 32).bind fun v1 => flX2_counted_33 t v1 G
theorem wfX2_counted_28 {F : zF} (hd : 9 ≤ F.2.2.2) (t : Nat)  (G : GS) {a : (Int32) × GS} (h : fX2_counted_28 t  G = some a) (hk : zKI F a) : J mX2_counted F G 28 [(0, vR (some t))] [] := by
  unfold fX2_counted_28 at h
  refine j_aload_n (j := 0) dX2_counted_28 rfl rfl ?_
  replace h := zbE h
  obtain ⟨v1, e2, h⟩ := h
  refine j_getI fgX2_137 (fun _ _ _ => rfl) dX2_counted_29 e2 ?_
  refine j_istore_n (lv' := [(1, vI v1), (0, vR (some t))]) dX2_counted_32 rfl (Nat.le_of_ble_eq_true rfl) rfl ?_
  exact J.sub (zall [1, 0] rfl) (wflX2_counted_33 hd t v1  G h hk)
def fbX2_counted_6 (t : Nat) (x1 : Int32)  (G : GS) : Option ((Int32 × GS) ⊕ ((Int32) × GS)) :=
  (zgR G 2 t 37).bind fun r1 => r1.bind fun a3 => (zln G a3).bind fun v5 => if v5 ≤ x1 then (zo (fX2_counted_28 t G)) else ((zgR G 2 t 37).bind fun r8 => r8.bind fun a10 => (zsL G 51 a10 x1 0).bind fun G12 => some (.inl ((x1 + 1), G12)))
def flX2_counted_6 (t : Nat) (x1 : Int32) (G : GS) : Option ((Int32) × GS) := zloop (fun s : Int32 × GS => fbX2_counted_6 t s.1 s.2) (x1, G)
theorem wfbX2_counted_6 {F : zF} (hd : 9 ≤ F.2.2.2) (t : Nat) (x1 : Int32) (G : GS) {a : (Int32 × GS) ⊕ ((Int32) × GS)} (h : fbX2_counted_6 t x1 G = some a) (hk : (zcase (fun s : Int32 × GS => J mX2_counted F s.2 6 [(0, vR (some t)), (1, vI s.1)] []) (zKI F)) a) : J mX2_counted F G 6 [(0, vR (some t)), (1, vI x1)] [] := by
  unfold fbX2_counted_6 at h
  refine j_iload_n (j := 1) dX2_counted_6 rfl rfl ?_
  refine j_aload_n (j := 0) dX2_counted_7 rfl rfl ?_
  replace h := zbE h
  obtain ⟨r1, e2, h⟩ := h
  refine j_getR fgX2_80 (fun _ _ _ => rfl) dX2_counted_8 e2 ?_
  replace h := zbE h
  obtain ⟨a3, e4, h⟩ := h
  subst e4
  replace h := zbE h
  obtain ⟨v5, e6, h⟩ := h
  refine j_alen e6 dX2_counted_11 ?_
  refine j_icmp_ge (tgt := 28) dX2_counted_12 (by decide) (fun c7 => ?_) (fun c7 => ?_)
  · rw [if_pos c7] at h
    replace h := zoE h
    obtain ⟨a, h, rfl⟩ := h
    replace hk := hk
    exact J.sub (zall [0] rfl) (wfX2_counted_28 hd t  G h hk)
  · rw [if_neg c7] at h
    refine j_aload_n (j := 0) dX2_counted_15 rfl rfl ?_
    replace h := zbE h
    obtain ⟨r8, e9, h⟩ := h
    refine j_getR fgX2_80 (fun _ _ _ => rfl) dX2_counted_16 e9 ?_
    refine j_iload_n (j := 1) dX2_counted_19 rfl rfl ?_
    refine j_lconst (v := 0) dX2_counted_20 rfl ?_
    replace h := zbE h
    obtain ⟨a10, e11, h⟩ := h
    subst e11
    replace h := zbE h
    obtain ⟨G12, e13, h⟩ := h
    refine j_last e13 dX2_counted_21 ?_
    refine j_iinc (j := 1) (v := (x1 + 1)) (lv' := [(1, vI (x1 + 1)), (0, vR (some t))]) dX2_counted_22 rfl rfl (Nat.le_of_ble_eq_true rfl) rfl ?_
    refine j_goto (tgt := 6) dX2_counted_25 (by decide) ?_
    obtain rfl := Option.some.inj h
    exact J.sub (zall [1, 0] rfl) hk
theorem wflX2_counted_6 {F : zF} (hd : 9 ≤ F.2.2.2) (t : Nat) (x1 : Int32) (G : GS) {a : (Int32) × GS} (h : flX2_counted_6 t x1 G = some a) (hk : zKI F a) : J mX2_counted F G 6 [(0, vR (some t)), (1, vI x1)] [] := by
  unfold flX2_counted_6 at h
  exact zloop_walk (P := (fun s : Int32 × GS => J mX2_counted F s.2 6 [(0, vR (some t)), (1, vI s.1)] [])) (fun s b e hk => wfbX2_counted_6 hd t s.1 s.2 e hk) (x1, G) _ h hk
def fX2_counted_0 (t : Nat)  (G : GS) : Option ((Int32) × GS) :=
  zk [2] G t <| (fX2_reaches_0 t G).bind fun G3 => flX2_counted_6 t 0 G3
theorem wfX2_counted_0 {F : zF} (hd : 9 ≤ F.2.2.2) (t : Nat)  (G : GS) {a : (Int32) × GS} (h : fX2_counted_0 t  G = some a) (hk : zKI F a) : J mX2_counted F G 0 [(0, vR (some t))] [] := by
  unfold fX2_counted_0 at h
  refine j_aload_n (j := 0) dX2_counted_0 rfl rfl ?_
  replace h := zkE h
  obtain ⟨e1, h⟩ := h
  replace h := zbE h
  obtain ⟨G3, e2, h⟩ := h
  refine j_cont (zrV (As := []) msX2_288 (yX2_reaches_ok e2) (Nat.le_trans (Nat.le_of_ble_eq_true rfl) hd) (zk_2 _ e1) rfl rfl (Nat.le_of_ble_eq_true rfl) dX2_counted_1) ?_
  refine j_iconst (v := 0) dX2_counted_4 (by decide) ?_
  refine j_istore_n (lv' := [(1, vI 0), (0, vR (some t))]) dX2_counted_5 rfl (Nat.le_of_ble_eq_true rfl) rfl ?_
  exact J.sub (zall [1, 0] rfl) (wflX2_counted_6 hd t 0  G3 h hk)
theorem yX2_counted_ok {t : Nat} {G : GS} {r : Int32} {G1 : GS} (h : fX2_counted_0 t G = some (r, G1)) : zRuns yX2_counted (ws_ yX2_counted cX2_counted 4 (some Jvm.ClassFile.FieldType.int)) [vR (some t)] (.inl (some (vI r)), G, G1, 9) :=
  zentry (M := mX2_counted) (plainFor_of_name (by decide +kernel)) ⟨rfl, rfl, rfl, rfl⟩ (Nat.le_of_ble_eq_true rfl) (wfX2_counted_0 (Nat.le_refl _) t G h ⟨rfl, rfl⟩)
abbrev mX2_isAnyRecursive : zM := (cX2_isAnyRecursive, RX2, 2, (some Jvm.ClassFile.FieldType.boolean), "isAnyRecursive", [], "()Z")
def fbX2_isAnyRecursive_6 (t : Nat) (x1 : Int32)  (G : GS) : Option ((Int32) ⊕ ((Int32) × GS)) :=
  if 12 ≤ x1 then (zo (zcond (zbb 0) (some (0, G)))) else ((zgR G 2 t 21).bind fun r3 => r3.bind fun a5 => (zaI G 50 a5 x1).bind fun v7 => (fX2_has_0 v7 x1 G).bind fun v10 => if v10 = 0 then (some (.inl ((x1 + 1)))) else (zo (zcond (zbb 1) (some (1, G)))))
def flX2_isAnyRecursive_6 (t : Nat) (x1 : Int32) (G : GS) : Option ((Int32) × GS) := zloop (fun s : Int32 => fbX2_isAnyRecursive_6 t s G) (x1)
theorem wfbX2_isAnyRecursive_6 {F : zF} (hd : 9 ≤ F.2.2.2) (t : Nat) (x1 : Int32) (G : GS) {a : (Int32) ⊕ ((Int32) × GS)} (h : fbX2_isAnyRecursive_6 t x1 G = some a) (hk : (zcase (fun s : Int32 => J mX2_isAnyRecursive F G 6 [(0, vR (some t)), (1, vI s)] []) (zKI F)) a) : J mX2_isAnyRecursive F G 6 [(0, vR (some t)), (1, vI x1)] [] := by
  unfold fbX2_isAnyRecursive_6 at h
  refine j_iload_n (j := 1) dX2_isAnyRecursive_6 rfl rfl ?_
  refine j_bipush (v := 12) dX2_isAnyRecursive_7 (by decide) ?_
  refine j_icmp_ge (tgt := 33) dX2_isAnyRecursive_9 (by decide) (fun c1 => ?_) (fun c1 => ?_)
  · rw [if_pos c1] at h
    replace h := zoE h
    obtain ⟨a, h, rfl⟩ := h
    replace hk := hk
    refine j_iconst (v := 0) dX2_isAnyRecursive_33 (by decide) ?_
    replace h := zcondE h
    obtain ⟨e2, h⟩ := h
    obtain rfl := Option.some.inj h
    exact j_zret hk.1 hk.2 rfl (zbb_n e2) dX2_isAnyRecursive_34
  · rw [if_neg c1] at h
    refine j_aload_n (j := 0) dX2_isAnyRecursive_12 rfl rfl ?_
    replace h := zbE h
    obtain ⟨r3, e4, h⟩ := h
    refine j_getR fgX2_53 (fun _ _ _ => rfl) dX2_isAnyRecursive_13 e4 ?_
    refine j_iload_n (j := 1) dX2_isAnyRecursive_16 rfl rfl ?_
    replace h := zbE h
    obtain ⟨a5, e6, h⟩ := h
    subst e6
    replace h := zbE h
    obtain ⟨v7, e8, h⟩ := h
    refine j_iald (Or.inl rfl) e8 dX2_isAnyRecursive_17 ?_
    refine j_iload_n (j := 1) dX2_isAnyRecursive_18 rfl rfl ?_
    replace h := zbE h
    obtain ⟨v10, e9, h⟩ := h
    refine j_cont (zrS (As := [vI v7, vI x1]) msX2_198 (yX2_has_ok e9) (Nat.le_trans (Nat.le_of_ble_eq_true rfl) hd) rfl rfl (Nat.le_of_ble_eq_true rfl) dX2_isAnyRecursive_19) ?_
    refine j_if_eq (tgt := 27) dX2_isAnyRecursive_22 (by decide) (fun c11 => ?_) (fun c11 => ?_)
    · rw [if_pos c11] at h
      refine j_iinc (j := 1) (v := (x1 + 1)) (lv' := [(1, vI (x1 + 1)), (0, vR (some t))]) dX2_isAnyRecursive_27 rfl rfl (Nat.le_of_ble_eq_true rfl) rfl ?_
      refine j_goto (tgt := 6) dX2_isAnyRecursive_30 (by decide) ?_
      obtain rfl := Option.some.inj h
      exact J.sub (zall [1, 0] rfl) hk
    · rw [if_neg c11] at h
      replace h := zoE h
      obtain ⟨a, h, rfl⟩ := h
      replace hk := hk
      refine j_iconst (v := 1) dX2_isAnyRecursive_25 (by decide) ?_
      replace h := zcondE h
      obtain ⟨e12, h⟩ := h
      obtain rfl := Option.some.inj h
      exact j_zret hk.1 hk.2 rfl (zbb_n e12) dX2_isAnyRecursive_26
theorem wflX2_isAnyRecursive_6 {F : zF} (hd : 9 ≤ F.2.2.2) (t : Nat) (x1 : Int32) (G : GS) {a : (Int32) × GS} (h : flX2_isAnyRecursive_6 t x1 G = some a) (hk : zKI F a) : J mX2_isAnyRecursive F G 6 [(0, vR (some t)), (1, vI x1)] [] := by
  unfold flX2_isAnyRecursive_6 at h
  exact zloop_walk (P := (fun s : Int32 => J mX2_isAnyRecursive F G 6 [(0, vR (some t)), (1, vI s)] [])) (fun s b e hk => wfbX2_isAnyRecursive_6 hd t s G e hk) (x1) _ h hk
def fX2_isAnyRecursive_0 (t : Nat)  (G : GS) : Option ((Int32) × GS) :=
  zk [2] G t <| (fX2_reaches_0 t G).bind fun G3 => flX2_isAnyRecursive_6 t 0 G3
theorem wfX2_isAnyRecursive_0 {F : zF} (hd : 9 ≤ F.2.2.2) (t : Nat)  (G : GS) {a : (Int32) × GS} (h : fX2_isAnyRecursive_0 t  G = some a) (hk : zKI F a) : J mX2_isAnyRecursive F G 0 [(0, vR (some t))] [] := by
  unfold fX2_isAnyRecursive_0 at h
  refine j_aload_n (j := 0) dX2_isAnyRecursive_0 rfl rfl ?_
  replace h := zkE h
  obtain ⟨e1, h⟩ := h
  replace h := zbE h
  obtain ⟨G3, e2, h⟩ := h
  refine j_cont (zrV (As := []) msX2_288 (yX2_reaches_ok e2) (Nat.le_trans (Nat.le_of_ble_eq_true rfl) hd) (zk_2 _ e1) rfl rfl (Nat.le_of_ble_eq_true rfl) dX2_isAnyRecursive_1) ?_
  refine j_iconst (v := 0) dX2_isAnyRecursive_4 (by decide) ?_
  refine j_istore_n (lv' := [(1, vI 0), (0, vR (some t))]) dX2_isAnyRecursive_5 rfl (Nat.le_of_ble_eq_true rfl) rfl ?_
  exact J.sub (zall [1, 0] rfl) (wflX2_isAnyRecursive_6 hd t 0  G3 h hk)
theorem yX2_isAnyRecursive_ok {t : Nat} {G : GS} {r : Int32} {G1 : GS} (h : fX2_isAnyRecursive_0 t G = some (r, G1)) : zRuns yX2_isAnyRecursive (ws_ yX2_isAnyRecursive cX2_isAnyRecursive 2 (some Jvm.ClassFile.FieldType.boolean)) [vR (some t)] (.inl (some (vI r)), G, G1, 9) :=
  zentry (M := mX2_isAnyRecursive) (plainFor_of_name (by decide +kernel)) ⟨rfl, rfl, rfl, rfl⟩ (Nat.le_of_ble_eq_true rfl) (wfX2_isAnyRecursive_0 (Nat.le_refl _) t G h ⟨rfl, rfl⟩)
theorem fgX2_134 : zFG RX2 134 1 30 (.int) := ⟨(RX2, TX2, 42, tyX2), rfl, by decide, in_X2, rfl, "SelahGeneratorModel", Or.inl rfl, Or.inl q2702⟩
theorem msX2_387 : zSV RX2 387 RX2 yX2_isAnyRecursive cX2_isAnyRecursive 2 (some Jvm.ClassFile.FieldType.boolean) 0 := ⟨lw_V q3226 q3228 qs118 q131 q3229, (by decide +kernel), (by decide)⟩
abbrev mX2_mayCount : zM := (cX2_mayCount, RX2, 1, (some Jvm.ClassFile.FieldType.boolean), "mayCount", [], "()Z")
def fX2_mayCount_27   (G : GS) : Option ((Int32) × GS) :=
  zcond (zbb 0) (some (0, G))
theorem wfX2_mayCount_27 {F : zF} (hd : 10 ≤ F.2.2.2)   (G : GS) {a : (Int32) × GS} (h : fX2_mayCount_27   G = some a) (hk : zKI F a) : J mX2_mayCount F G 27 [] [] := by
  unfold fX2_mayCount_27 at h
  refine j_iconst (v := 0) dX2_mayCount_27 (by decide) ?_
  replace h := zcondE h
  obtain ⟨e1, h⟩ := h
  obtain rfl := Option.some.inj h
  exact j_zret hk.1 hk.2 rfl (zbb_n e1) dX2_mayCount_28
def fX2_mayCount_0 (t : Nat)  (G : GS) : Option ((Int32) × GS) :=
  (zgI G 2 t 30).bind fun v1 => if v1 = 0 then (fX2_mayCount_27 G) else ((zgI G 2 t 32).bind fun v4 => if 16 < v4 then (fX2_mayCount_27 G) else (zk [2] G t <| zb2 (fX2_isAnyRecursive_0 t G) fun v9 G10 => if v9 = 0 then (zcond (zbb 1) (some (1, G10))) else (fX2_mayCount_27 G10)))
theorem wfX2_mayCount_0 {F : zF} (hd : 10 ≤ F.2.2.2) (t : Nat)  (G : GS) {a : (Int32) × GS} (h : fX2_mayCount_0 t  G = some a) (hk : zKI F a) : J mX2_mayCount F G 0 [(0, vR (some t))] [] := by
  unfold fX2_mayCount_0 at h
  refine j_aload_n (j := 0) dX2_mayCount_0 rfl rfl ?_
  replace h := zbE h
  obtain ⟨v1, e2, h⟩ := h
  refine j_getI fgX2_134 (fun _ _ _ => rfl) dX2_mayCount_1 e2 ?_
  refine j_if_eq (tgt := 27) dX2_mayCount_4 (by decide) (fun c3 => ?_) (fun c3 => ?_)
  · rw [if_pos c3] at h
    exact J.sub (zall [] rfl) (wfX2_mayCount_27 hd   G h hk)
  · rw [if_neg c3] at h
    refine j_aload_n (j := 0) dX2_mayCount_7 rfl rfl ?_
    replace h := zbE h
    obtain ⟨v4, e5, h⟩ := h
    refine j_getI fgX2_137 (fun _ _ _ => rfl) dX2_mayCount_8 e5 ?_
    refine j_bipush (v := 16) dX2_mayCount_11 (by decide) ?_
    refine j_icmp_gt (tgt := 27) dX2_mayCount_13 (by decide) (fun c6 => ?_) (fun c6 => ?_)
    · rw [if_pos c6] at h
      exact J.sub (zall [] rfl) (wfX2_mayCount_27 hd   G h hk)
    · rw [if_neg c6] at h
      refine j_aload_n (j := 0) dX2_mayCount_16 rfl rfl ?_
      replace h := zkE h
      obtain ⟨e7, h⟩ := h
      replace h := zb2E h
      obtain ⟨v9, G10, e8, h⟩ := h
      refine j_cont (zrV (As := []) msX2_387 (yX2_isAnyRecursive_ok e8) (Nat.le_trans (Nat.le_of_ble_eq_true rfl) hd) (zk_2 _ e7) rfl rfl (Nat.le_of_ble_eq_true rfl) dX2_mayCount_17) ?_
      refine j_if_ne (tgt := 27) dX2_mayCount_20 (by decide) (fun c11 => ?_) (fun c11 => ?_)
      · rw [if_pos c11] at h
        refine j_iconst (v := 1) dX2_mayCount_23 (by decide) ?_
        refine j_goto (tgt := 28) dX2_mayCount_24 (by decide) ?_
        replace h := zcondE h
        obtain ⟨e12, h⟩ := h
        obtain rfl := Option.some.inj h
        exact j_zret hk.1 hk.2 rfl (zbb_n e12) dX2_mayCount_28
      · rw [if_neg c11] at h
        exact J.sub (zall [] rfl) (wfX2_mayCount_27 hd   G10 h hk)
theorem yX2_mayCount_ok {t : Nat} {G : GS} {r : Int32} {G1 : GS} (h : fX2_mayCount_0 t G = some (r, G1)) : zRuns yX2_mayCount (ws_ yX2_mayCount cX2_mayCount 1 (some Jvm.ClassFile.FieldType.boolean)) [vR (some t)] (.inl (some (vI r)), G, G1, 10) :=
  zentry (M := mX2_mayCount) (plainFor_of_name (by decide +kernel)) ⟨rfl, rfl, rfl, rfl⟩ (Nat.le_of_ble_eq_true rfl) (wfX2_mayCount_0 (Nat.le_refl _) t G h ⟨rfl, rfl⟩)
abbrev mX2_goes : zM := (cX2_goes, RX2, 2, (some Jvm.ClassFile.FieldType.boolean), "goes", [], "(Z)Z")
def fX2_goes_10 (x1 : Int32) (s0 : Option Nat) (s1 : Int32) (G : GS) : Option ((Int32) × GS) :=
  (fX2_truth_0 s1 G).bind fun v2 => s0.bind fun a3 => (zpI G 2 a3 8 v2).bind fun G5 => zcond (zbb x1) (some (x1, G5))
theorem wfX2_goes_10 {F : zF} (hd : 2 ≤ F.2.2.2) (x1 : Int32) (s0 : Option Nat) (s1 : Int32) (G : GS) {a : (Int32) × GS} (h : fX2_goes_10 x1 s0 s1 G = some a) (hk : zKI F a) : J mX2_goes F G 10 [(1, vI x1)] [vI s1, vR s0] := by
  unfold fX2_goes_10 at h
  replace h := zbE h
  obtain ⟨v2, e1, h⟩ := h
  refine j_cont (zrS (As := [vI s1]) msX2_97 (yX2_truth_ok e1) (Nat.le_trans (Nat.le_of_ble_eq_true rfl) hd) rfl rfl (Nat.le_of_ble_eq_true rfl) dX2_goes_10) ?_
  replace h := zbE h
  obtain ⟨a3, e4, h⟩ := h
  subst e4
  replace h := zbE h
  obtain ⟨G5, e6, h⟩ := h
  refine j_putI fpX2_93_X2 (Or.inl rfl) rfl dX2_goes_13 e6 ?_
  refine j_iload_n (j := 0) dX2_goes_16 rfl rfl ?_
  replace h := zcondE h
  obtain ⟨e7, h⟩ := h
  obtain rfl := Option.some.inj h
  exact j_zret hk.1 hk.2 rfl (zbb_n e7) dX2_goes_17
def fX2_goes_0 (t : Nat) (x1 : Int32)  (G : GS) : Option ((Int32) × GS) :=
  if x1 = 0 then (fX2_goes_10 x1 (some t) 1 G) else (fX2_goes_10 x1 (some t) 0 G)
theorem wfX2_goes_0 {F : zF} (hd : 2 ≤ F.2.2.2) (t : Nat) (x1 : Int32)  (G : GS) {a : (Int32) × GS} (h : fX2_goes_0 t x1  G = some a) (hk : zKI F a) : J mX2_goes F G 0 [(0, vR (some t)), (1, vI x1)] [] := by
  unfold fX2_goes_0 at h
  refine j_aload_n (j := 0) dX2_goes_0 rfl rfl ?_
  refine j_iload_n (j := 1) dX2_goes_1 rfl rfl ?_
  refine j_if_ne (tgt := 9) dX2_goes_2 (by decide) (fun c1 => ?_) (fun c1 => ?_)
  · rw [if_pos c1] at h
    refine j_iconst (v := 1) dX2_goes_5 (by decide) ?_
    refine j_goto (tgt := 10) dX2_goes_6 (by decide) ?_
    exact J.sub (zall [1] rfl) (wfX2_goes_10 hd x1 (some t) 1 G h hk)
  · rw [if_neg c1] at h
    refine j_iconst (v := 0) dX2_goes_9 (by decide) ?_
    exact J.sub (zall [1] rfl) (wfX2_goes_10 hd x1 (some t) 0 G h hk)
theorem yX2_goes_ok {t : Nat} {x1 : Int32} {G : GS} {r : Int32} {G1 : GS} (h : fX2_goes_0 t x1 G = some (r, G1)) : zRuns yX2_goes (ws_ yX2_goes cX2_goes 2 (some Jvm.ClassFile.FieldType.boolean)) [vR (some t), vI x1] (.inl (some (vI r)), G, G1, 2) :=
  zentry (M := mX2_goes) (plainFor_of_name (by decide +kernel)) ⟨rfl, rfl, rfl, rfl⟩ (Nat.le_of_ble_eq_true rfl) (wfX2_goes_0 (Nat.le_refl _) t x1 G h ⟨rfl, rfl⟩)
theorem msX2_177 : zSV RX2 177 RX2 yX2_goes cX2_goes 2 (some Jvm.ClassFile.FieldType.boolean) 1 := ⟨lw_V q2860 q2862 qs66 q131 q2863, (by decide +kernel), (by decide)⟩
theorem msX2_390 : zSV RX2 390 RX2 yX2_mayCount cX2_mayCount 1 (some Jvm.ClassFile.FieldType.boolean) 0 := ⟨lw_V q3222 q3224 qs117 q131 q3225, (by decide +kernel), (by decide)⟩
theorem msX2_393 : zSV RX2 393 RX2 yX2_counted cX2_counted 4 (some Jvm.ClassFile.FieldType.int) 0 := ⟨lw_V q3230 q3232 qs119 q131 q3233, (by decide +kernel), (by decide)⟩
abbrev mX2_derivations : zM := (cX2_derivations, RX2, 1, (some Jvm.ClassFile.FieldType.int), "derivations", [], "()I")
def fX2_derivations_0 (t : Nat)  (G : GS) : Option ((Int32) × GS) :=
  zk [2] G t <| zb2 (fX2_mayCount_0 t G) fun v3 G4 => zk [2] G4 t <| zb2 (fX2_goes_0 t v3 G4) fun v7 G8 => if v7 = 0 then (some (0, G8)) else (zk [2] G8 t <| zb2 (fX2_counted_0 t G8) fun v12 G13 => some (v12, G13))
theorem wfX2_derivations_0 {F : zF} (hd : 11 ≤ F.2.2.2) (t : Nat)  (G : GS) {a : (Int32) × GS} (h : fX2_derivations_0 t  G = some a) (hk : zKI F a) : J mX2_derivations F G 0 [(0, vR (some t))] [] := by
  unfold fX2_derivations_0 at h
  refine j_aload_n (j := 0) dX2_derivations_0 rfl rfl ?_
  refine j_aload_n (j := 0) dX2_derivations_1 rfl rfl ?_
  replace h := zkE h
  obtain ⟨e1, h⟩ := h
  replace h := zb2E h
  obtain ⟨v3, G4, e2, h⟩ := h
  refine j_cont (zrV (As := []) msX2_390 (yX2_mayCount_ok e2) (Nat.le_trans (Nat.le_of_ble_eq_true rfl) hd) (zk_2 _ e1) rfl rfl (Nat.le_of_ble_eq_true rfl) dX2_derivations_2) ?_
  replace h := zkE h
  obtain ⟨e5, h⟩ := h
  replace h := zb2E h
  obtain ⟨v7, G8, e6, h⟩ := h
  refine j_cont (zrV (As := [vI v3]) msX2_177 (yX2_goes_ok e6) (Nat.le_trans (Nat.le_of_ble_eq_true rfl) hd) (zk_2 _ e5) rfl rfl (Nat.le_of_ble_eq_true rfl) dX2_derivations_5) ?_
  refine j_if_eq (tgt := 18) dX2_derivations_8 (by decide) (fun c9 => ?_) (fun c9 => ?_)
  · rw [if_pos c9] at h
    refine j_iconst (v := 0) dX2_derivations_18 (by decide) ?_
    obtain rfl := Option.some.inj h
    exact j_iret hk.1 hk.2 rfl dX2_derivations_19
  · rw [if_neg c9] at h
    refine j_aload_n (j := 0) dX2_derivations_11 rfl rfl ?_
    replace h := zkE h
    obtain ⟨e10, h⟩ := h
    replace h := zb2E h
    obtain ⟨v12, G13, e11, h⟩ := h
    refine j_cont (zrV (As := []) msX2_393 (yX2_counted_ok e11) (Nat.le_trans (Nat.le_of_ble_eq_true rfl) hd) (zk_2 _ e10) rfl rfl (Nat.le_of_ble_eq_true rfl) dX2_derivations_12) ?_
    refine j_goto (tgt := 19) dX2_derivations_15 (by decide) ?_
    obtain rfl := Option.some.inj h
    exact j_iret hk.1 hk.2 rfl dX2_derivations_19
theorem yX2_derivations_ok {t : Nat} {G : GS} {r : Int32} {G1 : GS} (h : fX2_derivations_0 t G = some (r, G1)) : zRuns yX2_derivations (ws_ yX2_derivations cX2_derivations 1 (some Jvm.ClassFile.FieldType.int)) [vR (some t)] (.inl (some (vI r)), G, G1, 11) :=
  zentry (M := mX2_derivations) (plainFor_of_name (by decide +kernel)) ⟨rfl, rfl, rfl, rfl⟩ (Nat.le_of_ble_eq_true rfl) (wfX2_derivations_0 (Nat.le_refl _) t G h ⟨rfl, rfl⟩)
theorem fgX2_146 : zFG RX2 146 1 35 (.int) := ⟨(RX2, TX2, 42, tyX2), rfl, by decide, in_X2, rfl, "SelahGeneratorModel", Or.inl rfl, Or.inl q2707⟩
abbrev mX2_disagreements : zM := (cX2_disagreements, RX2, 2, (some Jvm.ClassFile.FieldType.int), "disagreements", [], "()I")
def fX2_disagreements_55   (G : GS) : Option ((Int32) × GS) :=
  (fX2_truth_0 1 G).bind fun v2 => some (v2, G)
theorem wfX2_disagreements_55 {F : zF} (hd : 11 ≤ F.2.2.2)   (G : GS) {a : (Int32) × GS} (h : fX2_disagreements_55   G = some a) (hk : zKI F a) : J mX2_disagreements F G 55 [] [] := by
  unfold fX2_disagreements_55 at h
  refine j_iconst (v := 1) dX2_disagreements_55 (by decide) ?_
  refine j_goto (tgt := 60) dX2_disagreements_56 (by decide) ?_
  replace h := zbE h
  obtain ⟨v2, e1, h⟩ := h
  refine j_cont (zrS (As := [vI 1]) msX2_97 (yX2_truth_ok e1) (Nat.le_trans (Nat.le_of_ble_eq_true rfl) hd) rfl rfl (Nat.le_of_ble_eq_true rfl) dX2_disagreements_60) ?_
  obtain rfl := Option.some.inj h
  exact j_iret hk.1 hk.2 rfl dX2_disagreements_63
def fX2_disagreements_59   (G : GS) : Option ((Int32) × GS) :=
  (fX2_truth_0 0 G).bind fun v2 => some (v2, G)
theorem wfX2_disagreements_59 {F : zF} (hd : 11 ≤ F.2.2.2)   (G : GS) {a : (Int32) × GS} (h : fX2_disagreements_59   G = some a) (hk : zKI F a) : J mX2_disagreements F G 59 [] [] := by
  unfold fX2_disagreements_59 at h
  refine j_iconst (v := 0) dX2_disagreements_59 (by decide) ?_
  replace h := zbE h
  obtain ⟨v2, e1, h⟩ := h
  refine j_cont (zrS (As := [vI 0]) msX2_97 (yX2_truth_ok e1) (Nat.le_trans (Nat.le_of_ble_eq_true rfl) hd) rfl rfl (Nat.le_of_ble_eq_true rfl) dX2_disagreements_60) ?_
  obtain rfl := Option.some.inj h
  exact j_iret hk.1 hk.2 rfl dX2_disagreements_63
def fX2_disagreements_43 (t : Nat) (x1 : Int32)  (G : GS) : Option ((Int32) × GS) :=
  if x1 = 1 then ((zgI G 2 t 35).bind fun v2 => if v2 ≤ 0 then (fX2_disagreements_59 G) else (fX2_disagreements_55 G)) else (fX2_disagreements_59 G)
theorem wfX2_disagreements_43 {F : zF} (hd : 11 ≤ F.2.2.2) (t : Nat) (x1 : Int32)  (G : GS) {a : (Int32) × GS} (h : fX2_disagreements_43 t x1  G = some a) (hk : zKI F a) : J mX2_disagreements F G 43 [(0, vR (some t)), (1, vI x1)] [] := by
  unfold fX2_disagreements_43 at h
  refine j_iload_n (j := 1) dX2_disagreements_43 rfl rfl ?_
  refine j_iconst (v := 1) dX2_disagreements_44 (by decide) ?_
  refine j_icmp_ne (tgt := 59) dX2_disagreements_45 (by decide) (fun c1 => ?_) (fun c1 => ?_)
  · rw [if_pos c1] at h
    refine j_aload_n (j := 0) dX2_disagreements_48 rfl rfl ?_
    replace h := zbE h
    obtain ⟨v2, e3, h⟩ := h
    refine j_getI fgX2_146 (fun _ _ _ => rfl) dX2_disagreements_49 e3 ?_
    refine j_if_le (tgt := 59) dX2_disagreements_52 (by decide) (fun c4 => ?_) (fun c4 => ?_)
    · rw [if_pos c4] at h
      exact J.sub (zall [] rfl) (wfX2_disagreements_59 hd   G h hk)
    · rw [if_neg c4] at h
      exact J.sub (zall [] rfl) (wfX2_disagreements_55 hd   G h hk)
  · rw [if_neg c1] at h
    exact J.sub (zall [] rfl) (wfX2_disagreements_59 hd   G h hk)
def fX2_disagreements_0 (t : Nat)  (G : GS) : Option ((Int32) × GS) :=
  (zpI G 2 t 8 0).bind fun G1 => (zgI G1 2 t 30).bind fun v3 => if v3 = 2 then (zk [2] G1 t <| zb2 (fX2_mayCount_0 t G1) fun v8 G9 => if v8 = 0 then (some (0, G9)) else (zk [2] G9 t <| zb2 (fX2_counted_0 t G9) fun v13 G14 => if 1 < v13 then (fX2_disagreements_55 G14) else (if v13 = 0 then ((zgI G14 2 t 35).bind fun v17 => if v17 = 0 then (fX2_disagreements_55 G14) else (fX2_disagreements_43 t v13 G14)) else (fX2_disagreements_43 t v13 G14)))) else (some (0, G1))
theorem wfX2_disagreements_0 {F : zF} (hd : 11 ≤ F.2.2.2) (t : Nat)  (G : GS) {a : (Int32) × GS} (h : fX2_disagreements_0 t  G = some a) (hk : zKI F a) : J mX2_disagreements F G 0 [(0, vR (some t))] [] := by
  unfold fX2_disagreements_0 at h
  refine j_aload_n (j := 0) dX2_disagreements_0 rfl rfl ?_
  refine j_iconst (v := 0) dX2_disagreements_1 (by decide) ?_
  replace h := zbE h
  obtain ⟨G1, e2, h⟩ := h
  refine j_putI fpX2_93_X2 (Or.inl rfl) rfl dX2_disagreements_2 e2 ?_
  refine j_aload_n (j := 0) dX2_disagreements_5 rfl rfl ?_
  replace h := zbE h
  obtain ⟨v3, e4, h⟩ := h
  refine j_getI fgX2_134 (fun _ _ _ => rfl) dX2_disagreements_6 e4 ?_
  refine j_iconst (v := 2) dX2_disagreements_9 (by decide) ?_
  refine j_icmp_ne (tgt := 20) dX2_disagreements_10 (by decide) (fun c5 => ?_) (fun c5 => ?_)
  · rw [if_pos c5] at h
    refine j_aload_n (j := 0) dX2_disagreements_13 rfl rfl ?_
    replace h := zkE h
    obtain ⟨e6, h⟩ := h
    replace h := zb2E h
    obtain ⟨v8, G9, e7, h⟩ := h
    refine j_cont (zrV (As := []) msX2_390 (yX2_mayCount_ok e7) (Nat.le_trans (Nat.le_of_ble_eq_true rfl) hd) (zk_2 _ e6) rfl rfl (Nat.le_of_ble_eq_true rfl) dX2_disagreements_14) ?_
    refine j_if_ne (tgt := 22) dX2_disagreements_17 (by decide) (fun c10 => ?_) (fun c10 => ?_)
    · rw [if_pos c10] at h
      refine j_iconst (v := 0) dX2_disagreements_20 (by decide) ?_
      obtain rfl := Option.some.inj h
      exact j_iret hk.1 hk.2 rfl dX2_disagreements_21
    · rw [if_neg c10] at h
      refine j_aload_n (j := 0) dX2_disagreements_22 rfl rfl ?_
      replace h := zkE h
      obtain ⟨e11, h⟩ := h
      replace h := zb2E h
      obtain ⟨v13, G14, e12, h⟩ := h
      refine j_cont (zrV (As := []) msX2_393 (yX2_counted_ok e12) (Nat.le_trans (Nat.le_of_ble_eq_true rfl) hd) (zk_2 _ e11) rfl rfl (Nat.le_of_ble_eq_true rfl) dX2_disagreements_23) ?_
      refine j_istore_n (lv' := [(1, vI v13), (0, vR (some t))]) dX2_disagreements_26 rfl (Nat.le_of_ble_eq_true rfl) rfl ?_
      refine j_iload_n (j := 0) dX2_disagreements_27 rfl rfl ?_
      refine j_iconst (v := 1) dX2_disagreements_28 (by decide) ?_
      refine j_icmp_gt (tgt := 55) dX2_disagreements_29 (by decide) (fun c15 => ?_) (fun c15 => ?_)
      · rw [if_pos c15] at h
        exact J.sub (zall [] rfl) (wfX2_disagreements_55 hd   G14 h hk)
      · rw [if_neg c15] at h
        refine j_iload_n (j := 0) dX2_disagreements_32 rfl rfl ?_
        refine j_if_ne (tgt := 43) dX2_disagreements_33 (by decide) (fun c16 => ?_) (fun c16 => ?_)
        · rw [if_pos c16] at h
          refine j_aload_n (j := 1) dX2_disagreements_36 rfl rfl ?_
          replace h := zbE h
          obtain ⟨v17, e18, h⟩ := h
          refine j_getI fgX2_146 (fun _ _ _ => rfl) dX2_disagreements_37 e18 ?_
          refine j_if_eq (tgt := 55) dX2_disagreements_40 (by decide) (fun c19 => ?_) (fun c19 => ?_)
          · rw [if_pos c19] at h
            exact J.sub (zall [] rfl) (wfX2_disagreements_55 hd   G14 h hk)
          · rw [if_neg c19] at h
            exact J.sub (zall [1, 0] rfl) (wfX2_disagreements_43 hd t v13  G14 h hk)
        · rw [if_neg c16] at h
          exact J.sub (zall [1, 0] rfl) (wfX2_disagreements_43 hd t v13  G14 h hk)
  · rw [if_neg c5] at h
    refine j_iconst (v := 0) dX2_disagreements_20 (by decide) ?_
    obtain rfl := Option.some.inj h
    exact j_iret hk.1 hk.2 rfl dX2_disagreements_21
theorem yX2_disagreements_ok {t : Nat} {G : GS} {r : Int32} {G1 : GS} (h : fX2_disagreements_0 t G = some (r, G1)) : zRuns yX2_disagreements (ws_ yX2_disagreements cX2_disagreements 2 (some Jvm.ClassFile.FieldType.int)) [vR (some t)] (.inl (some (vI r)), G, G1, 11) :=
  zentry (M := mX2_disagreements) (plainFor_of_name (by decide +kernel)) ⟨rfl, rfl, rfl, rfl⟩ (Nat.le_of_ble_eq_true rfl) (wfX2_disagreements_0 (Nat.le_refl _) t G h ⟨rfl, rfl⟩)
abbrev mX2_errorCount : zM := (cX2_errorCount, RX2, 1, (some Jvm.ClassFile.FieldType.int), "errorCount", [], "()I")
def fX2_errorCount_0 (t : Nat)  (G : GS) : Option ((Int32) × GS) :=
  (zgI G 2 t 35).bind fun v1 => zk [2] G t <| zb2 (fX2_tellsOf_0 t v1 G) fun v5 G6 => some (v5, G6)
theorem wfX2_errorCount_0 {F : zF} (hd : 2 ≤ F.2.2.2) (t : Nat)  (G : GS) {a : (Int32) × GS} (h : fX2_errorCount_0 t  G = some a) (hk : zKI F a) : J mX2_errorCount F G 0 [(0, vR (some t))] [] := by
  unfold fX2_errorCount_0 at h
  refine j_aload_n (j := 0) dX2_errorCount_0 rfl rfl ?_
  refine j_aload_n (j := 0) dX2_errorCount_1 rfl rfl ?_
  replace h := zbE h
  obtain ⟨v1, e2, h⟩ := h
  refine j_getI fgX2_146 (fun _ _ _ => rfl) dX2_errorCount_2 e2 ?_
  replace h := zkE h
  obtain ⟨e3, h⟩ := h
  replace h := zb2E h
  obtain ⟨v5, G6, e4, h⟩ := h
  refine j_cont (zrV (As := [vI v1]) msX2_184 (yX2_tellsOf_ok e4) (Nat.le_trans (Nat.le_of_ble_eq_true rfl) hd) (zk_2 _ e3) rfl rfl (Nat.le_of_ble_eq_true rfl) dX2_errorCount_5) ?_
  obtain rfl := Option.some.inj h
  exact j_iret hk.1 hk.2 rfl dX2_errorCount_8
theorem yX2_errorCount_ok {t : Nat} {G : GS} {r : Int32} {G1 : GS} (h : fX2_errorCount_0 t G = some (r, G1)) : zRuns yX2_errorCount (ws_ yX2_errorCount cX2_errorCount 1 (some Jvm.ClassFile.FieldType.int)) [vR (some t)] (.inl (some (vI r)), G, G1, 2) :=
  zentry (M := mX2_errorCount) (plainFor_of_name (by decide +kernel)) ⟨rfl, rfl, rfl, rfl⟩ (Nat.le_of_ble_eq_true rfl) (wfX2_errorCount_0 (Nat.le_refl _) t G h ⟨rfl, rfl⟩)
abbrev mX2_isError : zM := (cX2_isError, RX2, 2, (some Jvm.ClassFile.FieldType.boolean), "isError", [], "(I)Z")
def fX2_isError_0 (t : Nat) (x1 : Int32)  (G : GS) : Option (Int32) :=
  (zgI G 2 t 35).bind fun v1 => (fX2_isIn_0 x1.toInt64 0 ((v1 - 1).toInt64) G).bind fun v4 => zcond (zbb v4) (some v4)
theorem wfX2_isError_0 {F : zF} (hd : 2 ≤ F.2.2.2) (t : Nat) (x1 : Int32)  (G : GS) {a : Int32} (h : fX2_isError_0 t x1  G = some a) (hk : zKPI F G a) : J mX2_isError F G 0 [(0, vR (some t)), (1, vI x1)] [] := by
  unfold fX2_isError_0 at h
  refine j_iload_n (j := 1) dX2_isError_0 rfl rfl ?_
  refine j_i2l dX2_isError_1 ?_
  refine j_lconst (v := 0) dX2_isError_2 rfl ?_
  refine j_aload_n (j := 0) dX2_isError_3 rfl rfl ?_
  replace h := zbE h
  obtain ⟨v1, e2, h⟩ := h
  refine j_getI fgX2_146 (fun _ _ _ => rfl) dX2_isError_4 e2 ?_
  refine j_iconst (v := 1) dX2_isError_7 (by decide) ?_
  refine j_isub dX2_isError_8 ?_
  refine j_i2l dX2_isError_9 ?_
  replace h := zbE h
  obtain ⟨v4, e3, h⟩ := h
  refine j_cont (zrS (As := [vL x1.toInt64, vL 0, vL ((v1 - 1).toInt64)]) msX2_103 (yX2_isIn_ok e3) (Nat.le_trans (Nat.le_of_ble_eq_true rfl) hd) rfl rfl (Nat.le_of_ble_eq_true rfl) dX2_isError_10) ?_
  replace h := zcondE h
  obtain ⟨e5, h⟩ := h
  obtain rfl := Option.some.inj h
  exact j_zret hk.1 hk.2 rfl (zbb_n e5) dX2_isError_13
theorem yX2_isError_ok {t : Nat} {x1 : Int32} {G : GS} {r : Int32} (h : fX2_isError_0 t x1 G = some r) : zRuns yX2_isError (ws_ yX2_isError cX2_isError 2 (some Jvm.ClassFile.FieldType.boolean)) [vR (some t), vI x1] (.inl (some (vI r)), G, G, 2) :=
  zentry (M := mX2_isError) (plainFor_of_name (by decide +kernel)) ⟨rfl, rfl, rfl, rfl⟩ (Nat.le_of_ble_eq_true rfl) (wfX2_isError_0 (Nat.le_refl _) t x1 G h ⟨rfl, rfl⟩)
end
