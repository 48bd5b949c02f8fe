/-! printed: functions and walks -/
set_option maxRecDepth 100000
noncomputable section
theorem fgX2_56 : zFG RX2 56 1 22 (.array (.int)) := ⟨(RX2, TX2, 42, tyX2), rfl, by decide, in_X2, rfl, "SelahGeneratorModel", Or.inl rfl, Or.inl q2694⟩
abbrev mX2_replaces : zM := (cX2_replaces, RX2, 9, none, "replaces", [], "(I)V")
def fX2_replaces_239 (t : Nat) (x1 : Int32) (x2 : Int32) (x4 : Int32) (x5 : Int32) (x6 : Int32)  (G : GS) : Option ((Int32 × GS) ⊕ (GS)) :=
  some (.inl ((x6 + 1), G))
theorem wfX2_replaces_239 {F : zF} (hd : 3 ≤ F.2.2.2) (t : Nat) (x1 : Int32) (x2 : Int32) (x4 : Int32) (x5 : Int32) (x6 : Int32)  (G : GS) {a : (Int32 × GS) ⊕ (GS)} (h : fX2_replaces_239 t x1 x2 x4 x5 x6  G = some a) (hk : (zcase (fun s : Int32 × GS => J mX2_replaces F s.2 111 [(0, vR (some t)), (1, vI x1), (2, vI x2), (4, vI x4), (5, vI x5), (6, vI s.1)] []) (zKV F)) a) : J mX2_replaces F G 239 [(0, vR (some t)), (1, vI x1), (2, vI x2), (4, vI x4), (5, vI x5), (6, vI x6)] [] := by
  unfold fX2_replaces_239 at h
  refine j_iinc (j := 5) (v := (x6 + 1)) (lv' := [(6, vI (x6 + 1)), (0, vR (some t)), (1, vI x1), (2, vI x2), (4, vI x4), (5, vI x5)]) dX2_replaces_239 rfl rfl (Nat.le_of_ble_eq_true rfl) rfl ?_
  refine j_goto (tgt := 111) dX2_replaces_242 (by decide) ?_
  obtain rfl := Option.some.inj h
  exact J.sub (zall [1, 2, 3, 4, 5, 0] rfl) hk
def fbX2_replaces_211 (t : Nat) (x1 : Int32) (x2 : Int32) (x4 : Int32) (x5 : Int32) (x6 : Int32) (x8 : Int32)  (G : GS) : Option ((Int32 × GS) ⊕ ((Int32 × GS) ⊕ (GS))) :=
  if x4 ≤ x8 then (zo (fX2_replaces_239 t x1 x2 x4 x5 x6 G)) else ((zgR G 2 t 22).bind fun r2 => r2.bind fun a4 => (zaI G 50 a4 x8).bind fun v6 => zk [2] G t <| (fX2_puts_0 t (x1 + x6) v6 G).bind fun G10 => some (.inl ((x8 + 1), G10)))
def flX2_replaces_211 (t : Nat) (x1 : Int32) (x2 : Int32) (x4 : Int32) (x5 : Int32) (x6 : Int32) (x8 : Int32) (G : GS) : Option ((Int32 × GS) ⊕ (GS)) := zloop (fun s : Int32 × GS => fbX2_replaces_211 t x1 x2 x4 x5 x6 s.1 s.2) (x8, G)
theorem wfbX2_replaces_211 {F : zF} (hd : 3 ≤ F.2.2.2) (t : Nat) (x1 : Int32) (x2 : Int32) (x4 : Int32) (x5 : Int32) (x6 : Int32) (x8 : Int32) (G : GS) {a : (Int32 × GS) ⊕ ((Int32 × GS) ⊕ (GS))} (h : fbX2_replaces_211 t x1 x2 x4 x5 x6 x8 G = some a) (hk : (zcase (fun s : Int32 × GS => J mX2_replaces F s.2 211 [(0, vR (some t)), (1, vI x1), (2, vI x2), (4, vI x4), (5, vI x5), (6, vI x6), (8, vI s.1)] []) ((zcase (fun s : Int32 × GS => J mX2_replaces F s.2 111 [(0, vR (some t)), (1, vI x1), (2, vI x2), (4, vI x4), (5, vI x5), (6, vI s.1)] []) (zKV F)))) a) : J mX2_replaces F G 211 [(0, vR (some t)), (1, vI x1), (2, vI x2), (4, vI x4), (5, vI x5), (6, vI x6), (8, vI x8)] [] := by
  unfold fbX2_replaces_211 at h
  refine j_iload (j := 6) dX2_replaces_211 rfl ?_
  refine j_iload (j := 3) dX2_replaces_213 rfl ?_
  refine j_icmp_ge (tgt := 239) dX2_replaces_215 (by decide) (fun c1 => ?_) (fun c1 => ?_)
  · rw [if_pos c1] at h
    replace h := zoE h
    obtain ⟨a, h, rfl⟩ := h
    replace hk := hk
    exact J.sub (zall [0, 1, 2, 3, 4, 5] rfl) (wfX2_replaces_239 hd t x1 x2 x4 x5 x6  G h hk)
  · rw [if_neg c1] at h
    refine j_aload_n (j := 0) dX2_replaces_218 rfl rfl ?_
    refine j_iload_n (j := 1) dX2_replaces_219 rfl rfl ?_
    refine j_iload (j := 5) dX2_replaces_220 rfl ?_
    refine j_iadd dX2_replaces_222 ?_
    refine j_aload_n (j := 0) dX2_replaces_223 rfl rfl ?_
    replace h := zbE h
    obtain ⟨r2, e3, h⟩ := h
    refine j_getR fgX2_56 (fun _ _ _ => rfl) dX2_replaces_224 e3 ?_
    refine j_iload (j := 6) dX2_replaces_227 rfl ?_
    replace h := zbE h
    obtain ⟨a4, e5, h⟩ := h
    subst e5
    replace h := zbE h
    obtain ⟨v6, e7, h⟩ := h
    refine j_iald (Or.inl rfl) e7 dX2_replaces_229 ?_
    replace h := zkE h
    obtain ⟨e8, h⟩ := h
    replace h := zbE h
    obtain ⟨G10, e9, h⟩ := h
    refine j_cont (zrV (As := [vI (x1 + x6), vI v6]) msX2_174 (yX2_puts_ok e9) (Nat.le_trans (Nat.le_of_ble_eq_true rfl) hd) (zk_2 _ e8) rfl rfl (Nat.le_of_ble_eq_true rfl) dX2_replaces_230) ?_
    refine j_iinc (j := 6) (v := (x8 + 1)) (lv' := [(8, vI (x8 + 1)), (0, vR (some t)), (1, vI x1), (2, vI x2), (4, vI x4), (5, vI x5), (6, vI x6)]) dX2_replaces_233 rfl rfl (Nat.le_of_ble_eq_true rfl) rfl ?_
    refine j_goto (tgt := 211) dX2_replaces_236 (by decide) ?_
    obtain rfl := Option.some.inj h
    exact J.sub (zall [1, 2, 3, 4, 5, 6, 0] rfl) hk
theorem wflX2_replaces_211 {F : zF} (hd : 3 ≤ F.2.2.2) (t : Nat) (x1 : Int32) (x2 : Int32) (x4 : Int32) (x5 : Int32) (x6 : Int32) (x8 : Int32) (G : GS) {a : (Int32 × GS) ⊕ (GS)} (h : flX2_replaces_211 t x1 x2 x4 x5 x6 x8 G = some a) (hk : (zcase (fun s : Int32 × GS => J mX2_replaces F s.2 111 [(0, vR (some t)), (1, vI x1), (2, vI x2), (4, vI x4), (5, vI x5), (6, vI s.1)] []) (zKV F)) a) : J mX2_replaces F G 211 [(0, vR (some t)), (1, vI x1), (2, vI x2), (4, vI x4), (5, vI x5), (6, vI x6), (8, vI x8)] [] := by
  unfold flX2_replaces_211 at h
  exact zloop_walk (P := (fun s : Int32 × GS => J mX2_replaces F s.2 211 [(0, vR (some t)), (1, vI x1), (2, vI x2), (4, vI x4), (5, vI x5), (6, vI x6), (8, vI s.1)] [])) (fun s b e hk => wfbX2_replaces_211 hd t x1 x2 x4 x5 x6 s.1 s.2 e hk) (x8, G) _ h hk
def fX2_replaces_208 (t : Nat) (x1 : Int32) (x2 : Int32) (x4 : Int32) (x5 : Int32) (x6 : Int32)  (G : GS) : Option ((Int32 × GS) ⊕ (GS)) :=
  flX2_replaces_211 t x1 x2 x4 x5 x6 0 G
theorem wfX2_replaces_208 {F : zF} (hd : 3 ≤ F.2.2.2) (t : Nat) (x1 : Int32) (x2 : Int32) (x4 : Int32) (x5 : Int32) (x6 : Int32)  (G : GS) {a : (Int32 × GS) ⊕ (GS)} (h : fX2_replaces_208 t x1 x2 x4 x5 x6  G = some a) (hk : (zcase (fun s : Int32 × GS => J mX2_replaces F s.2 111 [(0, vR (some t)), (1, vI x1), (2, vI x2), (4, vI x4), (5, vI x5), (6, vI s.1)] []) (zKV F)) a) : J mX2_replaces F G 208 [(0, vR (some t)), (1, vI x1), (2, vI x2), (4, vI x4), (5, vI x5), (6, vI x6)] [] := by
  unfold fX2_replaces_208 at h
  refine j_iconst (v := 0) dX2_replaces_208 (by decide) ?_
  refine j_istore (lv' := [(8, vI 0), (0, vR (some t)), (1, vI x1), (2, vI x2), (4, vI x4), (5, vI x5), (6, vI x6)]) dX2_replaces_209 (Nat.le_of_ble_eq_true rfl) rfl ?_
  exact J.sub (zall [1, 2, 3, 4, 5, 6, 0] rfl) (wflX2_replaces_211 hd t x1 x2 x4 x5 x6 0  G h hk)
def fbX2_replaces_174 (t : Nat) (x1 : Int32) (x2 : Int32) (x4 : Int32) (x5 : Int32) (x6 : Int32) (x7 : Int32) (x8 : Int32)  (G : GS) : Option ((Int32 × GS) ⊕ ((Int32 × GS) ⊕ (GS))) :=
  (zgR G 2 t 1).bind fun r1 => r1.bind fun a3 => (zaI G 50 a3 x7).bind fun v5 => if v5 ≤ x8 then (zo (fX2_replaces_208 t x1 x2 x4 x5 x6 G)) else (zk [2] G t <| (fX2_at_0 t x7 x8 G).bind fun v10 => zk [2] G t <| (fX2_puts_0 t (x1 + x6) v10 G).bind fun G13 => some (.inl ((x8 + 1), G13)))
def flX2_replaces_174 (t : Nat) (x1 : Int32) (x2 : Int32) (x4 : Int32) (x5 : Int32) (x6 : Int32) (x7 : Int32) (x8 : Int32) (G : GS) : Option ((Int32 × GS) ⊕ (GS)) := zloop (fun s : Int32 × GS => fbX2_replaces_174 t x1 x2 x4 x5 x6 x7 s.1 s.2) (x8, G)
theorem wfbX2_replaces_174 {F : zF} (hd : 3 ≤ F.2.2.2) (t : Nat) (x1 : Int32) (x2 : Int32) (x4 : Int32) (x5 : Int32) (x6 : Int32) (x7 : Int32) (x8 : Int32) (G : GS) {a : (Int32 × GS) ⊕ ((Int32 × GS) ⊕ (GS))} (h : fbX2_replaces_174 t x1 x2 x4 x5 x6 x7 x8 G = some a) (hk : (zcase (fun s : Int32 × GS => J mX2_replaces F s.2 174 [(0, vR (some t)), (1, vI x1), (2, vI x2), (4, vI x4), (5, vI x5), (6, vI x6), (7, vI x7), (8, vI s.1)] []) ((zcase (fun s : Int32 × GS => J mX2_replaces F s.2 111 [(0, vR (some t)), (1, vI x1), (2, vI x2), (4, vI x4), (5, vI x5), (6, vI s.1)] []) (zKV F)))) a) : J mX2_replaces F G 174 [(0, vR (some t)), (1, vI x1), (2, vI x2), (4, vI x4), (5, vI x5), (6, vI x6), (7, vI x7), (8, vI x8)] [] := by
  unfold fbX2_replaces_174 at h
  refine j_iload (j := 7) dX2_replaces_174 rfl ?_
  refine j_aload_n (j := 0) dX2_replaces_176 rfl rfl ?_
  replace h := zbE h
  obtain ⟨r1, e2, h⟩ := h
  refine j_getR fgX2_13 (fun _ _ _ => rfl) dX2_replaces_177 e2 ?_
  refine j_iload (j := 6) dX2_replaces_180 rfl ?_
  replace h := zbE h
  obtain ⟨a3, e4, h⟩ := h
  subst e4
  replace h := zbE h
  obtain ⟨v5, e6, h⟩ := h
  refine j_iald (Or.inl rfl) e6 dX2_replaces_182 ?_
  refine j_icmp_ge (tgt := 208) dX2_replaces_183 (by decide) (fun c7 => ?_) (fun c7 => ?_)
  · rw [if_pos c7] at h
    replace h := zoE h
    obtain ⟨a, h, rfl⟩ := h
    replace hk := hk
    exact J.sub (zall [0, 1, 2, 3, 4, 5] rfl) (wfX2_replaces_208 hd t x1 x2 x4 x5 x6  G h hk)
  · rw [if_neg c7] at h
    refine j_aload_n (j := 0) dX2_replaces_186 rfl rfl ?_
    refine j_iload_n (j := 1) dX2_replaces_187 rfl rfl ?_
    refine j_iload (j := 5) dX2_replaces_188 rfl ?_
    refine j_iadd dX2_replaces_190 ?_
    refine j_aload_n (j := 0) dX2_replaces_191 rfl rfl ?_
    refine j_iload (j := 6) dX2_replaces_192 rfl ?_
    refine j_iload (j := 7) dX2_replaces_194 rfl ?_
    replace h := zkE h
    obtain ⟨e8, h⟩ := h
    replace h := zbE h
    obtain ⟨v10, e9, h⟩ := h
    refine j_cont (zrV (As := [vI x7, vI x8]) msX2_187 (yX2_at_ok e9) (Nat.le_trans (Nat.le_of_ble_eq_true rfl) hd) (zk_2 _ e8) rfl rfl (Nat.le_of_ble_eq_true rfl) dX2_replaces_196) ?_
    replace h := zkE h
    obtain ⟨e11, h⟩ := h
    replace h := zbE h
    obtain ⟨G13, e12, h⟩ := h
    refine j_cont (zrV (As := [vI (x1 + x6), vI v10]) msX2_174 (yX2_puts_ok e12) (Nat.le_trans (Nat.le_of_ble_eq_true rfl) hd) (zk_2 _ e11) rfl rfl (Nat.le_of_ble_eq_true rfl) dX2_replaces_199) ?_
    refine j_iinc (j := 7) (v := (x8 + 1)) (lv' := [(8, vI (x8 + 1)), (0, vR (some t)), (1, vI x1), (2, vI x2), (4, vI x4), (5, vI x5), (6, vI x6), (7, vI x7)]) dX2_replaces_202 rfl rfl (Nat.le_of_ble_eq_true rfl) rfl ?_
    refine j_goto (tgt := 174) dX2_replaces_205 (by decide) ?_
    obtain rfl := Option.some.inj h
    exact J.sub (zall [1, 2, 3, 4, 5, 6, 7, 0] rfl) hk
theorem wflX2_replaces_174 {F : zF} (hd : 3 ≤ F.2.2.2) (t : Nat) (x1 : Int32) (x2 : Int32) (x4 : Int32) (x5 : Int32) (x6 : Int32) (x7 : Int32) (x8 : Int32) (G : GS) {a : (Int32 × GS) ⊕ (GS)} (h : flX2_replaces_174 t x1 x2 x4 x5 x6 x7 x8 G = some a) (hk : (zcase (fun s : Int32 × GS => J mX2_replaces F s.2 111 [(0, vR (some t)), (1, vI x1), (2, vI x2), (4, vI x4), (5, vI x5), (6, vI s.1)] []) (zKV F)) a) : J mX2_replaces F G 174 [(0, vR (some t)), (1, vI x1), (2, vI x2), (4, vI x4), (5, vI x5), (6, vI x6), (7, vI x7), (8, vI x8)] [] := by
  unfold flX2_replaces_174 at h
  exact zloop_walk (P := (fun s : Int32 × GS => J mX2_replaces F s.2 174 [(0, vR (some t)), (1, vI x1), (2, vI x2), (4, vI x4), (5, vI x5), (6, vI x6), (7, vI x7), (8, vI s.1)] [])) (fun s b e hk => wfbX2_replaces_174 hd t x1 x2 x4 x5 x6 x7 s.1 s.2 e hk) (x8, G) _ h hk
def fX2_replaces_159 (t : Nat) (x1 : Int32) (x2 : Int32) (x4 : Int32) (x5 : Int32) (x6 : Int32) (s0 : Int32) (G : GS) : Option ((Int32 × GS) ⊕ (GS)) :=
  (zgR G 2 t 0).bind fun r1 => r1.bind fun a3 => (zsI G 50 a3 (x1 + x6) x2).bind fun G5 => flX2_replaces_174 t x1 x2 x4 x5 x6 s0 0 G5
theorem wfX2_replaces_159 {F : zF} (hd : 3 ≤ F.2.2.2) (t : Nat) (x1 : Int32) (x2 : Int32) (x4 : Int32) (x5 : Int32) (x6 : Int32) (s0 : Int32) (G : GS) {a : (Int32 × GS) ⊕ (GS)} (h : fX2_replaces_159 t x1 x2 x4 x5 x6 s0 G = some a) (hk : (zcase (fun s : Int32 × GS => J mX2_replaces F s.2 111 [(0, vR (some t)), (1, vI x1), (2, vI x2), (4, vI x4), (5, vI x5), (6, vI s.1)] []) (zKV F)) a) : J mX2_replaces F G 159 [(0, vR (some t)), (1, vI x1), (2, vI x2), (4, vI x4), (5, vI x5), (6, vI x6)] [vI s0] := by
  unfold fX2_replaces_159 at h
  refine j_istore (lv' := [(7, vI s0), (0, vR (some t)), (1, vI x1), (2, vI x2), (4, vI x4), (5, vI x5), (6, vI x6)]) dX2_replaces_159 (Nat.le_of_ble_eq_true rfl) rfl ?_
  refine j_aload_n (j := 1) dX2_replaces_161 rfl rfl ?_
  replace h := zbE h
  obtain ⟨r1, e2, h⟩ := h
  refine j_getR fgX2_7 (fun _ _ _ => rfl) dX2_replaces_162 e2 ?_
  refine j_iload_n (j := 2) dX2_replaces_165 rfl rfl ?_
  refine j_iload (j := 6) dX2_replaces_166 rfl ?_
  refine j_iadd dX2_replaces_168 ?_
  refine j_iload_n (j := 3) dX2_replaces_169 rfl rfl ?_
  replace h := zbE h
  obtain ⟨a3, e4, h⟩ := h
  subst e4
  replace h := zbE h
  obtain ⟨G5, e6, h⟩ := h
  refine j_iast e6 dX2_replaces_170 ?_
  refine j_iconst (v := 0) dX2_replaces_171 (by decide) ?_
  refine j_istore (lv' := [(8, vI 0), (7, vI s0), (0, vR (some t)), (1, vI x1), (2, vI x2), (4, vI x4), (5, vI x5), (6, vI x6)]) dX2_replaces_172 (Nat.le_of_ble_eq_true rfl) rfl ?_
  exact J.sub (zall [2, 3, 4, 5, 6, 7, 1, 0] rfl) (wflX2_replaces_174 hd t x1 x2 x4 x5 x6 s0 0  G5 h hk)
def fbX2_replaces_111 (t : Nat) (x1 : Int32) (x2 : Int32) (x4 : Int32) (x5 : Int32) (x6 : Int32)  (G : GS) : Option ((Int32 × GS) ⊕ (GS)) :=
  if x5 ≤ x6 then (zo (some G)) else (zk [2] G t <| (fX2_opens_0 t (x1 + x6) G).bind fun G4 => (zgR G4 2 t 23).bind fun r5 => r5.bind fun a7 => (zaI G4 50 a7 x6).bind fun v9 => if v9 < x1 then ((zgR G4 2 t 23).bind fun r12 => r12.bind fun a14 => (zaI G4 50 a14 x6).bind fun v16 => fX2_replaces_159 t x1 x2 x4 x5 x6 v16 G4) else ((zgR G4 2 t 23).bind fun r18 => r18.bind fun a20 => (zaI G4 50 a20 x6).bind fun v22 => fX2_replaces_159 t x1 x2 x4 x5 x6 ((v22 + x6) + 1) G4))
def flX2_replaces_111 (t : Nat) (x1 : Int32) (x2 : Int32) (x4 : Int32) (x5 : Int32) (x6 : Int32) (G : GS) : Option (GS) := zloop (fun s : Int32 × GS => fbX2_replaces_111 t x1 x2 x4 x5 s.1 s.2) (x6, G)
theorem wfbX2_replaces_111 {F : zF} (hd : 3 ≤ F.2.2.2) (t : Nat) (x1 : Int32) (x2 : Int32) (x4 : Int32) (x5 : Int32) (x6 : Int32) (G : GS) {a : (Int32 × GS) ⊕ (GS)} (h : fbX2_replaces_111 t x1 x2 x4 x5 x6 G = some a) (hk : (zcase (fun s : Int32 × GS => J mX2_replaces F s.2 111 [(0, vR (some t)), (1, vI x1), (2, vI x2), (4, vI x4), (5, vI x5), (6, vI s.1)] []) (zKV F)) a) : J mX2_replaces F G 111 [(0, vR (some t)), (1, vI x1), (2, vI x2), (4, vI x4), (5, vI x5), (6, vI x6)] [] := by
  unfold fbX2_replaces_111 at h
  refine j_iload (j := 5) dX2_replaces_111 rfl ?_
  refine j_iload (j := 4) dX2_replaces_113 rfl ?_
  refine j_icmp_ge (tgt := 245) dX2_replaces_115 (by decide) (fun c1 => ?_) (fun c1 => ?_)
  · rw [if_pos c1] at h
    replace h := zoE h
    obtain ⟨a, h, rfl⟩ := h
    replace hk := hk
    obtain rfl := Option.some.inj h
    exact j_vret hk.1 hk.2 rfl dX2_replaces_245
  · rw [if_neg c1] at h
    refine j_aload_n (j := 0) dX2_replaces_118 rfl rfl ?_
    refine j_iload_n (j := 1) dX2_replaces_119 rfl rfl ?_
    refine j_iload (j := 5) dX2_replaces_120 rfl ?_
    refine j_iadd dX2_replaces_122 ?_
    replace h := zkE h
    obtain ⟨e2, h⟩ := h
    replace h := zbE h
    obtain ⟨G4, e3, h⟩ := h
    refine j_cont (zrV (As := [vI (x1 + x6)]) msX2_120 (yX2_opens_ok e3) (Nat.le_trans (Nat.le_of_ble_eq_true rfl) hd) (zk_2 _ e2) rfl rfl (Nat.le_of_ble_eq_true rfl) dX2_replaces_123) ?_
    refine j_aload_n (j := 0) dX2_replaces_126 rfl rfl ?_
    replace h := zbE h
    obtain ⟨r5, e6, h⟩ := h
    refine j_getR fgX2_59 (fun _ _ _ => rfl) dX2_replaces_127 e6 ?_
    refine j_iload (j := 5) dX2_replaces_130 rfl ?_
    replace h := zbE h
    obtain ⟨a7, e8, h⟩ := h
    subst e8
    replace h := zbE h
    obtain ⟨v9, e10, h⟩ := h
    refine j_iald (Or.inl rfl) e10 dX2_replaces_132 ?_
    refine j_iload_n (j := 1) dX2_replaces_133 rfl rfl ?_
    refine j_icmp_lt (tgt := 152) dX2_replaces_134 (by decide) (fun c11 => ?_) (fun c11 => ?_)
    · rw [if_pos c11] at h
      refine j_aload_n (j := 0) dX2_replaces_152 rfl rfl ?_
      replace h := zbE h
      obtain ⟨r12, e13, h⟩ := h
      refine j_getR fgX2_59 (fun _ _ _ => rfl) dX2_replaces_153 e13 ?_
      refine j_iload (j := 5) dX2_replaces_156 rfl ?_
      replace h := zbE h
      obtain ⟨a14, e15, h⟩ := h
      subst e15
      replace h := zbE h
      obtain ⟨v16, e17, h⟩ := h
      refine j_iald (Or.inl rfl) e17 dX2_replaces_158 ?_
      exact J.sub (zall [0, 1, 2, 3, 4, 5] rfl) (wfX2_replaces_159 hd t x1 x2 x4 x5 x6 v16 G4 h hk)
    · rw [if_neg c11] at h
      refine j_aload_n (j := 0) dX2_replaces_137 rfl rfl ?_
      replace h := zbE h
      obtain ⟨r18, e19, h⟩ := h
      refine j_getR fgX2_59 (fun _ _ _ => rfl) dX2_replaces_138 e19 ?_
      refine j_iload (j := 5) dX2_replaces_141 rfl ?_
      replace h := zbE h
      obtain ⟨a20, e21, h⟩ := h
      subst e21
      replace h := zbE h
      obtain ⟨v22, e23, h⟩ := h
      refine j_iald (Or.inl rfl) e23 dX2_replaces_143 ?_
      refine j_iload (j := 5) dX2_replaces_144 rfl ?_
      refine j_iadd dX2_replaces_146 ?_
      refine j_iconst (v := 1) dX2_replaces_147 (by decide) ?_
      refine j_iadd dX2_replaces_148 ?_
      refine j_goto (tgt := 159) dX2_replaces_149 (by decide) ?_
      exact J.sub (zall [0, 1, 2, 3, 4, 5] rfl) (wfX2_replaces_159 hd t x1 x2 x4 x5 x6 ((v22 + x6) + 1) G4 h hk)
theorem wflX2_replaces_111 {F : zF} (hd : 3 ≤ F.2.2.2) (t : Nat) (x1 : Int32) (x2 : Int32) (x4 : Int32) (x5 : Int32) (x6 : Int32) (G : GS) {a : GS} (h : flX2_replaces_111 t x1 x2 x4 x5 x6 G = some a) (hk : zKV F a) : J mX2_replaces F G 111 [(0, vR (some t)), (1, vI x1), (2, vI x2), (4, vI x4), (5, vI x5), (6, vI x6)] [] := by
  unfold flX2_replaces_111 at h
  exact zloop_walk (P := (fun s : Int32 × GS => J mX2_replaces F s.2 111 [(0, vR (some t)), (1, vI x1), (2, vI x2), (4, vI x4), (5, vI x5), (6, vI s.1)] [])) (fun s b e hk => wfbX2_replaces_111 hd t x1 x2 x4 x5 s.1 s.2 e hk) (x6, G) _ h hk
def fX2_replaces_108 (t : Nat) (x1 : Int32) (x2 : Int32) (x4 : Int32) (x5 : Int32)  (G : GS) : Option (GS) :=
  flX2_replaces_111 t x1 x2 x4 x5 0 G
theorem wfX2_replaces_108 {F : zF} (hd : 3 ≤ F.2.2.2) (t : Nat) (x1 : Int32) (x2 : Int32) (x4 : Int32) (x5 : Int32)  (G : GS) {a : GS} (h : fX2_replaces_108 t x1 x2 x4 x5  G = some a) (hk : zKV F a) : J mX2_replaces F G 108 [(0, vR (some t)), (1, vI x1), (2, vI x2), (4, vI x4), (5, vI x5)] [] := by
  unfold fX2_replaces_108 at h
  refine j_iconst (v := 0) dX2_replaces_108 (by decide) ?_
  refine j_istore (lv' := [(6, vI 0), (0, vR (some t)), (1, vI x1), (2, vI x2), (4, vI x4), (5, vI x5)]) dX2_replaces_109 (Nat.le_of_ble_eq_true rfl) rfl ?_
  exact J.sub (zall [1, 2, 3, 4, 5, 0] rfl) (wflX2_replaces_111 hd t x1 x2 x4 x5 0  G h hk)
def fX2_replaces_102 (t : Nat) (x1 : Int32) (x2 : Int32) (x3 : Int32) (x4 : Int32) (x5 : Int32) (x6 : Int32)  (G : GS) : Option ((Int32 × Int32 × GS) ⊕ (GS)) :=
  some (.inl (x5, (x6 + 1), G))
theorem wfX2_replaces_102 {F : zF} (hd : 3 ≤ F.2.2.2) (t : Nat) (x1 : Int32) (x2 : Int32) (x3 : Int32) (x4 : Int32) (x5 : Int32) (x6 : Int32)  (G : GS) {a : (Int32 × Int32 × GS) ⊕ (GS)} (h : fX2_replaces_102 t x1 x2 x3 x4 x5 x6  G = some a) (hk : (zcase (fun s : Int32 × Int32 × GS => J mX2_replaces F s.2.2 67 [(0, vR (some t)), (1, vI x1), (2, vI x2), (3, vI x3), (4, vI x4), (5, vI s.1), (6, vI s.2.1)] []) (zKV F)) a) : J mX2_replaces F G 102 [(0, vR (some t)), (1, vI x1), (2, vI x2), (3, vI x3), (4, vI x4), (5, vI x5), (6, vI x6)] [] := by
  unfold fX2_replaces_102 at h
  refine j_iinc (j := 6) (v := (x6 + 1)) (lv' := [(6, vI (x6 + 1)), (0, vR (some t)), (1, vI x1), (2, vI x2), (3, vI x3), (4, vI x4), (5, vI x5)]) dX2_replaces_102 rfl rfl (Nat.le_of_ble_eq_true rfl) rfl ?_
  refine j_goto (tgt := 67) dX2_replaces_105 (by decide) ?_
  obtain rfl := Option.some.inj h
  exact J.sub (zall [1, 2, 3, 4, 5, 6, 0] rfl) hk
def fbX2_replaces_67 (t : Nat) (x1 : Int32) (x2 : Int32) (x3 : Int32) (x4 : Int32) (x5 : Int32) (x6 : Int32)  (G : GS) : Option ((Int32 × Int32 × GS) ⊕ (GS)) :=
  (zgI G 2 t 6).bind fun v1 => if v1 ≤ x6 then (zo (fX2_replaces_108 t x1 x2 x4 x5 G)) else ((zgR G 2 t 0).bind fun r4 => r4.bind fun a6 => (zaI G 50 a6 x6).bind fun v8 => if v8 = x3 then ((zgR G 2 t 23).bind fun r11 => r11.bind fun a13 => (zsI G 50 a13 x5 x6).bind fun G15 => fX2_replaces_102 t x1 x2 x3 x4 (x5 + 1) x6 G15) else (fX2_replaces_102 t x1 x2 x3 x4 x5 x6 G))
def flX2_replaces_67 (t : Nat) (x1 : Int32) (x2 : Int32) (x3 : Int32) (x4 : Int32) (x5 : Int32) (x6 : Int32) (G : GS) : Option (GS) := zloop (fun s : Int32 × Int32 × GS => fbX2_replaces_67 t x1 x2 x3 x4 s.1 s.2.1 s.2.2) (x5, x6, G)
theorem wfbX2_replaces_67 {F : zF} (hd : 3 ≤ F.2.2.2) (t : Nat) (x1 : Int32) (x2 : Int32) (x3 : Int32) (x4 : Int32) (x5 : Int32) (x6 : Int32) (G : GS) {a : (Int32 × Int32 × GS) ⊕ (GS)} (h : fbX2_replaces_67 t x1 x2 x3 x4 x5 x6 G = some a) (hk : (zcase (fun s : Int32 × Int32 × GS => J mX2_replaces F s.2.2 67 [(0, vR (some t)), (1, vI x1), (2, vI x2), (3, vI x3), (4, vI x4), (5, vI s.1), (6, vI s.2.1)] []) (zKV F)) a) : J mX2_replaces F G 67 [(0, vR (some t)), (1, vI x1), (2, vI x2), (3, vI x3), (4, vI x4), (5, vI x5), (6, vI x6)] [] := by
  unfold fbX2_replaces_67 at h
  refine j_iload (j := 6) dX2_replaces_67 rfl ?_
  refine j_aload_n (j := 0) dX2_replaces_69 rfl rfl ?_
  replace h := zbE h
  obtain ⟨v1, e2, h⟩ := h
  refine j_getI fgX2_113 (fun _ _ _ => rfl) dX2_replaces_70 e2 ?_
  refine j_icmp_ge (tgt := 108) dX2_replaces_73 (by decide) (fun c3 => ?_) (fun c3 => ?_)
  · rw [if_pos c3] at h
    replace h := zoE h
    obtain ⟨a, h, rfl⟩ := h
    replace hk := hk
    exact J.sub (zall [0, 1, 2, 4, 5] rfl) (wfX2_replaces_108 hd t x1 x2 x4 x5  G h hk)
  · rw [if_neg c3] at h
    refine j_aload_n (j := 0) dX2_replaces_76 rfl rfl ?_
    replace h := zbE h
    obtain ⟨r4, e5, h⟩ := h
    refine j_getR fgX2_7 (fun _ _ _ => rfl) dX2_replaces_77 e5 ?_
    refine j_iload (j := 6) dX2_replaces_80 rfl ?_
    replace h := zbE h
    obtain ⟨a6, e7, h⟩ := h
    subst e7
    replace h := zbE h
    obtain ⟨v8, e9, h⟩ := h
    refine j_iald (Or.inl rfl) e9 dX2_replaces_82 ?_
    refine j_iload_n (j := 3) dX2_replaces_83 rfl rfl ?_
    refine j_icmp_eq (tgt := 90) dX2_replaces_84 (by decide) (fun c10 => ?_) (fun c10 => ?_)
    · rw [if_pos c10] at h
      refine j_aload_n (j := 0) dX2_replaces_90 rfl rfl ?_
      replace h := zbE h
      obtain ⟨r11, e12, h⟩ := h
      refine j_getR fgX2_59 (fun _ _ _ => rfl) dX2_replaces_91 e12 ?_
      refine j_iload (j := 5) dX2_replaces_94 rfl ?_
      refine j_iload (j := 6) dX2_replaces_96 rfl ?_
      replace h := zbE h
      obtain ⟨a13, e14, h⟩ := h
      subst e14
      replace h := zbE h
      obtain ⟨G15, e16, h⟩ := h
      refine j_iast e16 dX2_replaces_98 ?_
      refine j_iinc (j := 5) (v := (x5 + 1)) (lv' := [(5, vI (x5 + 1)), (0, vR (some t)), (1, vI x1), (2, vI x2), (3, vI x3), (4, vI x4), (6, vI x6)]) dX2_replaces_99 rfl rfl (Nat.le_of_ble_eq_true rfl) rfl ?_
      exact J.sub (zall [1, 2, 3, 4, 5, 0, 6] rfl) (wfX2_replaces_102 hd t x1 x2 x3 x4 (x5 + 1) x6  G15 h hk)
    · rw [if_neg c10] at h
      refine j_goto (tgt := 102) dX2_replaces_87 (by decide) ?_
      exact J.sub (zall [0, 1, 2, 3, 4, 5, 6] rfl) (wfX2_replaces_102 hd t x1 x2 x3 x4 x5 x6  G h hk)
theorem wflX2_replaces_67 {F : zF} (hd : 3 ≤ F.2.2.2) (t : Nat) (x1 : Int32) (x2 : Int32) (x3 : Int32) (x4 : Int32) (x5 : Int32) (x6 : Int32) (G : GS) {a : GS} (h : flX2_replaces_67 t x1 x2 x3 x4 x5 x6 G = some a) (hk : zKV F a) : J mX2_replaces F G 67 [(0, vR (some t)), (1, vI x1), (2, vI x2), (3, vI x3), (4, vI x4), (5, vI x5), (6, vI x6)] [] := by
  unfold flX2_replaces_67 at h
  exact zloop_walk (P := (fun s : Int32 × Int32 × GS => J mX2_replaces F s.2.2 67 [(0, vR (some t)), (1, vI x1), (2, vI x2), (3, vI x3), (4, vI x4), (5, vI s.1), (6, vI s.2.1)] [])) (fun s b e hk => wfbX2_replaces_67 hd t x1 x2 x3 x4 s.1 s.2.1 s.2.2 e hk) (x5, x6, G) _ h hk
def fX2_replaces_56 (t : Nat) (x1 : Int32) (x2 : Int32) (x3 : Int32) (x4 : Int32)  (G : GS) : Option (GS) :=
  zk [2] G t <| (fX2_closes_0 t x1 G).bind fun G3 => flX2_replaces_67 t x1 x2 x3 x4 0 0 G3
theorem wfX2_replaces_56 {F : zF} (hd : 3 ≤ F.2.2.2) (t : Nat) (x1 : Int32) (x2 : Int32) (x3 : Int32) (x4 : Int32)  (G : GS) {a : GS} (h : fX2_replaces_56 t x1 x2 x3 x4  G = some a) (hk : zKV F a) : J mX2_replaces F G 56 [(0, vR (some t)), (1, vI x1), (2, vI x2), (3, vI x3), (4, vI x4)] [] := by
  unfold fX2_replaces_56 at h
  refine j_aload_n (j := 0) dX2_replaces_56 rfl rfl ?_
  refine j_iload_n (j := 1) dX2_replaces_57 rfl rfl ?_
  replace h := zkE h
  obtain ⟨e1, h⟩ := h
  replace h := zbE h
  obtain ⟨G3, e2, h⟩ := h
  refine j_cont (zrV (As := [vI x1]) msX2_181 (yX2_closes_ok e2) (Nat.le_trans (Nat.le_of_ble_eq_true rfl) hd) (zk_2 _ e1) rfl rfl (Nat.le_of_ble_eq_true rfl) dX2_replaces_58) ?_
  refine j_iconst (v := 0) dX2_replaces_61 (by decide) ?_
  refine j_istore (lv' := [(5, vI 0), (0, vR (some t)), (1, vI x1), (2, vI x2), (3, vI x3), (4, vI x4)]) dX2_replaces_62 (Nat.le_of_ble_eq_true rfl) rfl ?_
  refine j_iconst (v := 0) dX2_replaces_64 (by decide) ?_
  refine j_istore (lv' := [(6, vI 0), (5, vI 0), (0, vR (some t)), (1, vI x1), (2, vI x2), (3, vI x3), (4, vI x4)]) dX2_replaces_65 (Nat.le_of_ble_eq_true rfl) rfl ?_
  exact J.sub (zall [2, 3, 4, 5, 6, 1, 0] rfl) (wflX2_replaces_67 hd t x1 x2 x3 x4 0 0  G3 h hk)
def fbX2_replaces_27 (t : Nat) (x1 : Int32) (x2 : Int32) (x3 : Int32) (x4 : Int32) (x5 : Int32)  (G : GS) : Option ((Int32 × GS) ⊕ (GS)) :=
  if x4 ≤ x5 then (zo (fX2_replaces_56 t x1 x2 x3 x4 G)) else ((zgR G 2 t 22).bind fun r2 => zk [2] G t <| (fX2_at_0 t x1 (x5 + 1) G).bind fun v6 => r2.bind fun a7 => (zsI G 50 a7 x5 v6).bind fun G9 => some (.inl ((x5 + 1), G9)))
def flX2_replaces_27 (t : Nat) (x1 : Int32) (x2 : Int32) (x3 : Int32) (x4 : Int32) (x5 : Int32) (G : GS) : Option (GS) := zloop (fun s : Int32 × GS => fbX2_replaces_27 t x1 x2 x3 x4 s.1 s.2) (x5, G)
theorem wfbX2_replaces_27 {F : zF} (hd : 3 ≤ F.2.2.2) (t : Nat) (x1 : Int32) (x2 : Int32) (x3 : Int32) (x4 : Int32) (x5 : Int32) (G : GS) {a : (Int32 × GS) ⊕ (GS)} (h : fbX2_replaces_27 t x1 x2 x3 x4 x5 G = some a) (hk : (zcase (fun s : Int32 × GS => J mX2_replaces F s.2 27 [(0, vR (some t)), (1, vI x1), (2, vI x2), (3, vI x3), (4, vI x4), (5, vI s.1)] []) (zKV F)) a) : J mX2_replaces F G 27 [(0, vR (some t)), (1, vI x1), (2, vI x2), (3, vI x3), (4, vI x4), (5, vI x5)] [] := by
  unfold fbX2_replaces_27 at h
  refine j_iload (j := 5) dX2_replaces_27 rfl ?_
  refine j_iload (j := 4) dX2_replaces_29 rfl ?_
  refine j_icmp_ge (tgt := 56) dX2_replaces_31 (by decide) (fun c1 => ?_) (fun c1 => ?_)
  · rw [if_pos c1] at h
    replace h := zoE h
    obtain ⟨a, h, rfl⟩ := h
    replace hk := hk
    exact J.sub (zall [0, 1, 2, 3, 4] rfl) (wfX2_replaces_56 hd t x1 x2 x3 x4  G h hk)
  · rw [if_neg c1] at h
    refine j_aload_n (j := 0) dX2_replaces_34 rfl rfl ?_
    replace h := zbE h
    obtain ⟨r2, e3, h⟩ := h
    refine j_getR fgX2_56 (fun _ _ _ => rfl) dX2_replaces_35 e3 ?_
    refine j_iload (j := 5) dX2_replaces_38 rfl ?_
    refine j_aload_n (j := 0) dX2_replaces_40 rfl rfl ?_
    refine j_iload_n (j := 1) dX2_replaces_41 rfl rfl ?_
    refine j_iload (j := 5) dX2_replaces_42 rfl ?_
    refine j_iconst (v := 1) dX2_replaces_44 (by decide) ?_
    refine j_iadd dX2_replaces_45 ?_
    replace h := zkE h
    obtain ⟨e4, h⟩ := h
    replace h := zbE h
    obtain ⟨v6, e5, h⟩ := h
    refine j_cont (zrV (As := [vI x1, vI (x5 + 1)]) msX2_187 (yX2_at_ok e5) (Nat.le_trans (Nat.le_of_ble_eq_true rfl) hd) (zk_2 _ e4) rfl rfl (Nat.le_of_ble_eq_true rfl) dX2_replaces_46) ?_
    replace h := zbE h
    obtain ⟨a7, e8, h⟩ := h
    subst e8
    replace h := zbE h
    obtain ⟨G9, e10, h⟩ := h
    refine j_iast e10 dX2_replaces_49 ?_
    refine j_iinc (j := 5) (v := (x5 + 1)) (lv' := [(5, vI (x5 + 1)), (0, vR (some t)), (1, vI x1), (2, vI x2), (3, vI x3), (4, vI x4)]) dX2_replaces_50 rfl rfl (Nat.le_of_ble_eq_true rfl) rfl ?_
    refine j_goto (tgt := 27) dX2_replaces_53 (by decide) ?_
    obtain rfl := Option.some.inj h
    exact J.sub (zall [1, 2, 3, 4, 5, 0] rfl) hk
theorem wflX2_replaces_27 {F : zF} (hd : 3 ≤ F.2.2.2) (t : Nat) (x1 : Int32) (x2 : Int32) (x3 : Int32) (x4 : Int32) (x5 : Int32) (G : GS) {a : GS} (h : flX2_replaces_27 t x1 x2 x3 x4 x5 G = some a) (hk : zKV F a) : J mX2_replaces F G 27 [(0, vR (some t)), (1, vI x1), (2, vI x2), (3, vI x3), (4, vI x4), (5, vI x5)] [] := by
  unfold flX2_replaces_27 at h
  exact zloop_walk (P := (fun s : Int32 × GS => J mX2_replaces F s.2 27 [(0, vR (some t)), (1, vI x1), (2, vI x2), (3, vI x3), (4, vI x4), (5, vI s.1)] [])) (fun s b e hk => wfbX2_replaces_27 hd t x1 x2 x3 x4 s.1 s.2 e hk) (x5, G) _ h hk
def fX2_replaces_0 (t : Nat) (x1 : Int32)  (G : GS) : Option (GS) :=
  (zgR G 2 t 0).bind fun r1 => r1.bind fun a3 => (zaI G 50 a3 x1).bind fun v5 => zk [2] G t <| (fX2_at_0 t x1 0 G).bind fun v9 => (zgR G 2 t 1).bind fun r10 => r10.bind fun a12 => (zaI G 50 a12 x1).bind fun v14 => flX2_replaces_27 t x1 v5 v9 (v14 - 1) 0 G
theorem wfX2_replaces_0 {F : zF} (hd : 3 ≤ F.2.2.2) (t : Nat) (x1 : Int32)  (G : GS) {a : GS} (h : fX2_replaces_0 t x1  G = some a) (hk : zKV F a) : J mX2_replaces F G 0 [(0, vR (some t)), (1, vI x1)] [] := by
  unfold fX2_replaces_0 at h
  refine j_aload_n (j := 0) dX2_replaces_0 rfl rfl ?_
  replace h := zbE h
  obtain ⟨r1, e2, h⟩ := h
  refine j_getR fgX2_7 (fun _ _ _ => rfl) dX2_replaces_1 e2 ?_
  refine j_iload_n (j := 1) dX2_replaces_4 rfl rfl ?_
  replace h := zbE h
  obtain ⟨a3, e4, h⟩ := h
  subst e4
  replace h := zbE h
  obtain ⟨v5, e6, h⟩ := h
  refine j_iald (Or.inl rfl) e6 dX2_replaces_5 ?_
  refine j_istore_n (lv' := [(2, vI v5), (0, vR (some t)), (1, vI x1)]) dX2_replaces_6 rfl (Nat.le_of_ble_eq_true rfl) rfl ?_
  refine j_aload_n (j := 1) dX2_replaces_7 rfl rfl ?_
  refine j_iload_n (j := 2) dX2_replaces_8 rfl rfl ?_
  refine j_iconst (v := 0) dX2_replaces_9 (by decide) ?_
  replace h := zkE h
  obtain ⟨e7, h⟩ := h
  replace h := zbE h
  obtain ⟨v9, e8, h⟩ := h
  refine j_cont (zrV (As := [vI x1, vI 0]) msX2_187 (yX2_at_ok e8) (Nat.le_trans (Nat.le_of_ble_eq_true rfl) hd) (zk_2 _ e7) rfl rfl (Nat.le_of_ble_eq_true rfl) dX2_replaces_10) ?_
  refine j_istore_n (lv' := [(3, vI v9), (2, vI v5), (0, vR (some t)), (1, vI x1)]) dX2_replaces_13 rfl (Nat.le_of_ble_eq_true rfl) rfl ?_
  refine j_aload_n (j := 2) dX2_replaces_14 rfl rfl ?_
  replace h := zbE h
  obtain ⟨r10, e11, h⟩ := h
  refine j_getR fgX2_13 (fun _ _ _ => rfl) dX2_replaces_15 e11 ?_
  refine j_iload_n (j := 3) dX2_replaces_18 rfl rfl ?_
  replace h := zbE h
  obtain ⟨a12, e13, h⟩ := h
  subst e13
  replace h := zbE h
  obtain ⟨v14, e15, h⟩ := h
  refine j_iald (Or.inl rfl) e15 dX2_replaces_19 ?_
  refine j_iconst (v := 1) dX2_replaces_20 (by decide) ?_
  refine j_isub dX2_replaces_21 ?_
  refine j_istore (lv' := [(4, vI (v14 - 1)), (3, vI v9), (2, vI v5), (0, vR (some t)), (1, vI x1)]) dX2_replaces_22 (Nat.le_of_ble_eq_true rfl) rfl ?_
  refine j_iconst (v := 0) dX2_replaces_24 (by decide) ?_
  refine j_istore (lv' := [(5, vI 0), (4, vI (v14 - 1)), (3, vI v9), (2, vI v5), (0, vR (some t)), (1, vI x1)]) dX2_replaces_25 (Nat.le_of_ble_eq_true rfl) rfl ?_
  exact J.sub (zall [4, 5, 3, 2, 1, 0] rfl) (wflX2_replaces_27 hd t x1 v5 v9 (v14 - 1) 0  G h hk)
theorem yX2_replaces_ok {t : Nat} {x1 : Int32} {G : GS} {G1 : GS} (h : fX2_replaces_0 t x1 G = some G1) : zRuns yX2_replaces (ws_ yX2_replaces cX2_replaces 9 none) [vR (some t), vI x1] (.inl none, G, G1, 3) :=
  zentry (M := mX2_replaces) (plainFor_of_name (by decide +kernel)) ⟨rfl, rfl, rfl, rfl⟩ (Nat.le_of_ble_eq_true rfl) (wfX2_replaces_0 (Nat.le_refl _) t x1 G h ⟨rfl, rfl⟩)
abbrev mX2_turns : zM := (cX2_turns, RX2, 9, none, "turns", [], "(II)V")
def fX2_turns_163 (t : Nat) (x2 : Int32)  (G : GS) : Option (GS) :=
  zk [2] G t <| zb2 (fX2_begins_0 t x2 G) fun v3 G4 => (zgR G4 2 t 1).bind fun r5 => r5.bind fun a7 => (zsI G4 50 a7 v3 0).bind fun G9 => some G9
theorem wfX2_turns_163 {F : zF} (hd : 4 ≤ F.2.2.2) (t : Nat) (x2 : Int32)  (G : GS) {a : GS} (h : fX2_turns_163 t x2  G = some a) (hk : zKV F a) : J mX2_turns F G 163 [(0, vR (some t)), (2, vI x2)] [] := by
  unfold fX2_turns_163 at h
  refine j_aload_n (j := 0) dX2_turns_163 rfl rfl ?_
  refine j_iload_n (j := 1) dX2_turns_164 rfl rfl ?_
  replace h := zkE h
  obtain ⟨e1, h⟩ := h
  replace h := zb2E h
  obtain ⟨v3, G4, e2, h⟩ := h
  refine j_cont (zrV (As := [vI x2]) msX2_160 (yX2_begins_ok e2) (Nat.le_trans (Nat.le_of_ble_eq_true rfl) hd) (zk_2 _ e1) rfl rfl (Nat.le_of_ble_eq_true rfl) dX2_turns_165) ?_
  refine j_istore (lv' := [(4, vI v3), (0, vR (some t)), (2, vI x2)]) dX2_turns_168 (Nat.le_of_ble_eq_true rfl) rfl ?_
  refine j_aload_n (j := 1) dX2_turns_170 rfl rfl ?_
  replace h := zbE h
  obtain ⟨r5, e6, h⟩ := h
  refine j_getR fgX2_13 (fun _ _ _ => rfl) dX2_turns_171 e6 ?_
  refine j_iload (j := 0) dX2_turns_174 rfl ?_
  refine j_iconst (v := 0) dX2_turns_176 (by decide) ?_
  replace h := zbE h
  obtain ⟨a7, e8, h⟩ := h
  subst e8
  replace h := zbE h
  obtain ⟨G9, e10, h⟩ := h
  refine j_iast e10 dX2_turns_177 ?_
  obtain rfl := Option.some.inj h
  exact j_vret hk.1 hk.2 rfl dX2_turns_178
def fX2_turns_157 (t : Nat) (x1 : Int32) (x2 : Int32) (x3 : Int32) (x4 : Int32) (x5 : Int32)  (G : GS) : Option ((Int32 × Int32 × GS) ⊕ (GS)) :=
  some (.inl ((x4 + 1), x5, G))
theorem wfX2_turns_157 {F : zF} (hd : 4 ≤ F.2.2.2) (t : Nat) (x1 : Int32) (x2 : Int32) (x3 : Int32) (x4 : Int32) (x5 : Int32)  (G : GS) {a : (Int32 × Int32 × GS) ⊕ (GS)} (h : fX2_turns_157 t x1 x2 x3 x4 x5  G = some a) (hk : (zcase (fun s : Int32 × Int32 × GS => J mX2_turns F s.2.2 11 [(0, vR (some t)), (1, vI x1), (2, vI x2), (3, vI x3), (4, vI s.1), (5, vI s.2.1)] []) (zKV F)) a) : J mX2_turns F G 157 [(0, vR (some t)), (1, vI x1), (2, vI x2), (3, vI x3), (4, vI x4), (5, vI x5)] [] := by
  unfold fX2_turns_157 at h
  refine j_iinc (j := 4) (v := (x4 + 1)) (lv' := [(4, vI (x4 + 1)), (0, vR (some t)), (1, vI x1), (2, vI x2), (3, vI x3), (5, vI x5)]) dX2_turns_157 rfl rfl (Nat.le_of_ble_eq_true rfl) rfl ?_
  refine j_goto (tgt := 11) dX2_turns_160 (by decide) ?_
  obtain rfl := Option.some.inj h
  exact J.sub (zall [1, 2, 3, 4, 0, 5] rfl) hk
def fX2_turns_150 (t : Nat) (x1 : Int32) (x2 : Int32) (x3 : Int32) (x4 : Int32) (x5 : Int32) (x7 : Int32)  (G : GS) : Option ((Int32 × Int32 × GS) ⊕ (GS)) :=
  zk [2] G t <| (fX2_puts_0 t x7 x2 G).bind fun G3 => fX2_turns_157 t x1 x2 x3 x4 x5 G3
theorem wfX2_turns_150 {F : zF} (hd : 4 ≤ F.2.2.2) (t : Nat) (x1 : Int32) (x2 : Int32) (x3 : Int32) (x4 : Int32) (x5 : Int32) (x7 : Int32)  (G : GS) {a : (Int32 × Int32 × GS) ⊕ (GS)} (h : fX2_turns_150 t x1 x2 x3 x4 x5 x7  G = some a) (hk : (zcase (fun s : Int32 × Int32 × GS => J mX2_turns F s.2.2 11 [(0, vR (some t)), (1, vI x1), (2, vI x2), (3, vI x3), (4, vI s.1), (5, vI s.2.1)] []) (zKV F)) a) : J mX2_turns F G 150 [(0, vR (some t)), (1, vI x1), (2, vI x2), (3, vI x3), (4, vI x4), (5, vI x5), (7, vI x7)] [] := by
  unfold fX2_turns_150 at h
  refine j_aload_n (j := 0) dX2_turns_150 rfl rfl ?_
  refine j_iload (j := 6) dX2_turns_151 rfl ?_
  refine j_iload_n (j := 2) dX2_turns_153 rfl rfl ?_
  replace h := zkE h
  obtain ⟨e1, h⟩ := h
  replace h := zbE h
  obtain ⟨G3, e2, h⟩ := h
  refine j_cont (zrV (As := [vI x7, vI x2]) msX2_174 (yX2_puts_ok e2) (Nat.le_trans (Nat.le_of_ble_eq_true rfl) hd) (zk_2 _ e1) rfl rfl (Nat.le_of_ble_eq_true rfl) dX2_turns_154) ?_
  exact J.sub (zall [0, 1, 2, 3, 4, 5] rfl) (wfX2_turns_157 hd t x1 x2 x3 x4 x5  G3 h hk)
def fbX2_turns_124 (t : Nat) (x1 : Int32) (x2 : Int32) (x3 : Int32) (x4 : Int32) (x5 : Int32) (x6 : Int32) (x7 : Int32) (x8 : Int32)  (G : GS) : Option ((Int32 × GS) ⊕ ((Int32 × Int32 × GS) ⊕ (GS))) :=
  if x6 ≤ x8 then (zo (fX2_turns_150 t x1 x2 x3 x4 x5 x7 G)) else ((zgR G 2 t 22).bind fun r2 => r2.bind fun a4 => (zaI G 50 a4 x8).bind fun v6 => zk [2] G t <| (fX2_puts_0 t x7 v6 G).bind fun G10 => some (.inl ((x8 + 1), G10)))
def flX2_turns_124 (t : Nat) (x1 : Int32) (x2 : Int32) (x3 : Int32) (x4 : Int32) (x5 : Int32) (x6 : Int32) (x7 : Int32) (x8 : Int32) (G : GS) : Option ((Int32 × Int32 × GS) ⊕ (GS)) := zloop (fun s : Int32 × GS => fbX2_turns_124 t x1 x2 x3 x4 x5 x6 x7 s.1 s.2) (x8, G)
theorem wfbX2_turns_124 {F : zF} (hd : 4 ≤ F.2.2.2) (t : Nat) (x1 : Int32) (x2 : Int32) (x3 : Int32) (x4 : Int32) (x5 : Int32) (x6 : Int32) (x7 : Int32) (x8 : Int32) (G : GS) {a : (Int32 × GS) ⊕ ((Int32 × Int32 × GS) ⊕ (GS))} (h : fbX2_turns_124 t x1 x2 x3 x4 x5 x6 x7 x8 G = some a) (hk : (zcase (fun s : Int32 × GS => J mX2_turns F s.2 124 [(0, vR (some t)), (1, vI x1), (2, vI x2), (3, vI x3), (4, vI x4), (5, vI x5), (6, vI x6), (7, vI x7), (8, vI s.1)] []) ((zcase (fun s : Int32 × Int32 × GS => J mX2_turns F s.2.2 11 [(0, vR (some t)), (1, vI x1), (2, vI x2), (3, vI x3), (4, vI s.1), (5, vI s.2.1)] []) (zKV F)))) a) : J mX2_turns F G 124 [(0, vR (some t)), (1, vI x1), (2, vI x2), (3, vI x3), (4, vI x4), (5, vI x5), (6, vI x6), (7, vI x7), (8, vI x8)] [] := by
  unfold fbX2_turns_124 at h
  refine j_iload (j := 8) dX2_turns_124 rfl ?_
  refine j_iload (j := 6) dX2_turns_126 rfl ?_
  refine j_icmp_ge (tgt := 150) dX2_turns_128 (by decide) (fun c1 => ?_) (fun c1 => ?_)
  · rw [if_pos c1] at h
    replace h := zoE h
    obtain ⟨a, h, rfl⟩ := h
    replace hk := hk
    exact J.sub (zall [0, 1, 2, 3, 4, 5, 7] rfl) (wfX2_turns_150 hd t x1 x2 x3 x4 x5 x7  G h hk)
  · rw [if_neg c1] at h
    refine j_aload_n (j := 0) dX2_turns_131 rfl rfl ?_
    refine j_iload (j := 7) dX2_turns_132 rfl ?_
    refine j_aload_n (j := 0) dX2_turns_134 rfl rfl ?_
    replace h := zbE h
    obtain ⟨r2, e3, h⟩ := h
    refine j_getR fgX2_56 (fun _ _ _ => rfl) dX2_turns_135 e3 ?_
    refine j_iload (j := 8) dX2_turns_138 rfl ?_
    replace h := zbE h
    obtain ⟨a4, e5, h⟩ := h
    subst e5
    replace h := zbE h
    obtain ⟨v6, e7, h⟩ := h
    refine j_iald (Or.inl rfl) e7 dX2_turns_140 ?_
    replace h := zkE h
    obtain ⟨e8, h⟩ := h
    replace h := zbE h
    obtain ⟨G10, e9, h⟩ := h
    refine j_cont (zrV (As := [vI x7, vI v6]) msX2_174 (yX2_puts_ok e9) (Nat.le_trans (Nat.le_of_ble_eq_true rfl) hd) (zk_2 _ e8) rfl rfl (Nat.le_of_ble_eq_true rfl) dX2_turns_141) ?_
    refine j_iinc (j := 8) (v := (x8 + 1)) (lv' := [(8, vI (x8 + 1)), (0, vR (some t)), (1, vI x1), (2, vI x2), (3, vI x3), (4, vI x4), (5, vI x5), (6, vI x6), (7, vI x7)]) dX2_turns_144 rfl rfl (Nat.le_of_ble_eq_true rfl) rfl ?_
    refine j_goto (tgt := 124) dX2_turns_147 (by decide) ?_
    obtain rfl := Option.some.inj h
    exact J.sub (zall [1, 2, 3, 4, 5, 6, 7, 8, 0] rfl) hk
theorem wflX2_turns_124 {F : zF} (hd : 4 ≤ F.2.2.2) (t : Nat) (x1 : Int32) (x2 : Int32) (x3 : Int32) (x4 : Int32) (x5 : Int32) (x6 : Int32) (x7 : Int32) (x8 : Int32) (G : GS) {a : (Int32 × Int32 × GS) ⊕ (GS)} (h : flX2_turns_124 t x1 x2 x3 x4 x5 x6 x7 x8 G = some a) (hk : (zcase (fun s : Int32 × Int32 × GS => J mX2_turns F s.2.2 11 [(0, vR (some t)), (1, vI x1), (2, vI x2), (3, vI x3), (4, vI s.1), (5, vI s.2.1)] []) (zKV F)) a) : J mX2_turns F G 124 [(0, vR (some t)), (1, vI x1), (2, vI x2), (3, vI x3), (4, vI x4), (5, vI x5), (6, vI x6), (7, vI x7), (8, vI x8)] [] := by
  unfold flX2_turns_124 at h
  exact zloop_walk (P := (fun s : Int32 × GS => J mX2_turns F s.2 124 [(0, vR (some t)), (1, vI x1), (2, vI x2), (3, vI x3), (4, vI x4), (5, vI x5), (6, vI x6), (7, vI x7), (8, vI s.1)] [])) (fun s b e hk => wfbX2_turns_124 hd t x1 x2 x3 x4 x5 x6 x7 s.1 s.2 e hk) (x8, G) _ h hk
def fX2_turns_100 (t : Nat) (x1 : Int32) (x2 : Int32) (x3 : Int32) (x4 : Int32) (x5 : Int32) (x6 : Int32)  (G : GS) : Option ((Int32 × Int32 × GS) ⊕ (GS)) :=
  zk [2] G t <| (fX2_closes_0 t x5 G).bind fun G3 => if x6 = 0 then (fX2_turns_157 t x1 x2 x3 x4 x5 G3) else (zk [2] G3 t <| zb2 (fX2_begins_0 t x2 G3) fun v7 G8 => flX2_turns_124 t x1 x2 x3 x4 x5 x6 v7 0 G8)
theorem wfX2_turns_100 {F : zF} (hd : 4 ≤ F.2.2.2) (t : Nat) (x1 : Int32) (x2 : Int32) (x3 : Int32) (x4 : Int32) (x5 : Int32) (x6 : Int32)  (G : GS) {a : (Int32 × Int32 × GS) ⊕ (GS)} (h : fX2_turns_100 t x1 x2 x3 x4 x5 x6  G = some a) (hk : (zcase (fun s : Int32 × Int32 × GS => J mX2_turns F s.2.2 11 [(0, vR (some t)), (1, vI x1), (2, vI x2), (3, vI x3), (4, vI s.1), (5, vI s.2.1)] []) (zKV F)) a) : J mX2_turns F G 100 [(0, vR (some t)), (1, vI x1), (2, vI x2), (3, vI x3), (4, vI x4), (5, vI x5), (6, vI x6)] [] := by
  unfold fX2_turns_100 at h
  refine j_aload_n (j := 0) dX2_turns_100 rfl rfl ?_
  refine j_iload (j := 5) dX2_turns_101 rfl ?_
  replace h := zkE h
  obtain ⟨e1, h⟩ := h
  replace h := zbE h
  obtain ⟨G3, e2, h⟩ := h
  refine j_cont (zrV (As := [vI x5]) msX2_181 (yX2_closes_ok e2) (Nat.le_trans (Nat.le_of_ble_eq_true rfl) hd) (zk_2 _ e1) rfl rfl (Nat.le_of_ble_eq_true rfl) dX2_turns_103) ?_
  refine j_iload (j := 6) dX2_turns_106 rfl ?_
  refine j_if_ne (tgt := 114) dX2_turns_108 (by decide) (fun c4 => ?_) (fun c4 => ?_)
  · rw [if_pos c4] at h
    refine j_goto (tgt := 157) dX2_turns_111 (by decide) ?_
    exact J.sub (zall [0, 1, 2, 3, 4, 5] rfl) (wfX2_turns_157 hd t x1 x2 x3 x4 x5  G3 h hk)
  · rw [if_neg c4] at h
    refine j_aload_n (j := 0) dX2_turns_114 rfl rfl ?_
    refine j_iload_n (j := 2) dX2_turns_115 rfl rfl ?_
    replace h := zkE h
    obtain ⟨e5, h⟩ := h
    replace h := zb2E h
    obtain ⟨v7, G8, e6, h⟩ := h
    refine j_cont (zrV (As := [vI x2]) msX2_160 (yX2_begins_ok e6) (Nat.le_trans (Nat.le_of_ble_eq_true rfl) hd) (zk_2 _ e5) rfl rfl (Nat.le_of_ble_eq_true rfl) dX2_turns_116) ?_
    refine j_istore (lv' := [(7, vI v7), (0, vR (some t)), (1, vI x1), (2, vI x2), (3, vI x3), (4, vI x4), (5, vI x5), (6, vI x6)]) dX2_turns_119 (Nat.le_of_ble_eq_true rfl) rfl ?_
    refine j_iconst (v := 0) dX2_turns_121 (by decide) ?_
    refine j_istore (lv' := [(8, vI 0), (7, vI v7), (0, vR (some t)), (1, vI x1), (2, vI x2), (3, vI x3), (4, vI x4), (5, vI x5), (6, vI x6)]) dX2_turns_122 (Nat.le_of_ble_eq_true rfl) rfl ?_
    exact J.sub (zall [2, 3, 4, 5, 6, 7, 8, 1, 0] rfl) (wflX2_turns_124 hd t x1 x2 x3 x4 x5 x6 v7 0  G8 h hk)
def fbX2_turns_70 (t : Nat) (x1 : Int32) (x2 : Int32) (x3 : Int32) (x4 : Int32) (x5 : Int32) (x6 : Int32) (x7 : Int32)  (G : GS) : Option ((Int32 × GS) ⊕ ((Int32 × Int32 × GS) ⊕ (GS))) :=
  if x6 ≤ x7 then (zo (fX2_turns_100 t x1 x2 x3 x4 x5 x6 G)) else ((zgR G 2 t 22).bind fun r2 => zk [2] G t <| (fX2_at_0 t x5 (x7 + 1) G).bind fun v6 => r2.bind fun a7 => (zsI G 50 a7 x7 v6).bind fun G9 => some (.inl ((x7 + 1), G9)))
def flX2_turns_70 (t : Nat) (x1 : Int32) (x2 : Int32) (x3 : Int32) (x4 : Int32) (x5 : Int32) (x6 : Int32) (x7 : Int32) (G : GS) : Option ((Int32 × Int32 × GS) ⊕ (GS)) := zloop (fun s : Int32 × GS => fbX2_turns_70 t x1 x2 x3 x4 x5 x6 s.1 s.2) (x7, G)
theorem wfbX2_turns_70 {F : zF} (hd : 4 ≤ F.2.2.2) (t : Nat) (x1 : Int32) (x2 : Int32) (x3 : Int32) (x4 : Int32) (x5 : Int32) (x6 : Int32) (x7 : Int32) (G : GS) {a : (Int32 × GS) ⊕ ((Int32 × Int32 × GS) ⊕ (GS))} (h : fbX2_turns_70 t x1 x2 x3 x4 x5 x6 x7 G = some a) (hk : (zcase (fun s : Int32 × GS => J mX2_turns F s.2 70 [(0, vR (some t)), (1, vI x1), (2, vI x2), (3, vI x3), (4, vI x4), (5, vI x5), (6, vI x6), (7, vI s.1)] []) ((zcase (fun s : Int32 × Int32 × GS => J mX2_turns F s.2.2 11 [(0, vR (some t)), (1, vI x1), (2, vI x2), (3, vI x3), (4, vI s.1), (5, vI s.2.1)] []) (zKV F)))) a) : J mX2_turns F G 70 [(0, vR (some t)), (1, vI x1), (2, vI x2), (3, vI x3), (4, vI x4), (5, vI x5), (6, vI x6), (7, vI x7)] [] := by
  unfold fbX2_turns_70 at h
  refine j_iload (j := 7) dX2_turns_70 rfl ?_
  refine j_iload (j := 6) dX2_turns_72 rfl ?_
  refine j_icmp_ge (tgt := 100) dX2_turns_74 (by decide) (fun c1 => ?_) (fun c1 => ?_)
  · rw [if_pos c1] at h
    replace h := zoE h
    obtain ⟨a, h, rfl⟩ := h
    replace hk := hk
    exact J.sub (zall [0, 1, 2, 3, 4, 5, 6] rfl) (wfX2_turns_100 hd t x1 x2 x3 x4 x5 x6  G h hk)
  · rw [if_neg c1] at h
    refine j_aload_n (j := 0) dX2_turns_77 rfl rfl ?_
    replace h := zbE h
    obtain ⟨r2, e3, h⟩ := h
    refine j_getR fgX2_56 (fun _ _ _ => rfl) dX2_turns_78 e3 ?_
    refine j_iload (j := 7) dX2_turns_81 rfl ?_
    refine j_aload_n (j := 0) dX2_turns_83 rfl rfl ?_
    refine j_iload (j := 5) dX2_turns_84 rfl ?_
    refine j_iload (j := 7) dX2_turns_86 rfl ?_
    refine j_iconst (v := 1) dX2_turns_88 (by decide) ?_
    refine j_iadd dX2_turns_89 ?_
    replace h := zkE h
    obtain ⟨e4, h⟩ := h
    replace h := zbE h
    obtain ⟨v6, e5, h⟩ := h
    refine j_cont (zrV (As := [vI x5, vI (x7 + 1)]) msX2_187 (yX2_at_ok e5) (Nat.le_trans (Nat.le_of_ble_eq_true rfl) hd) (zk_2 _ e4) rfl rfl (Nat.le_of_ble_eq_true rfl) dX2_turns_90) ?_
    replace h := zbE h
    obtain ⟨a7, e8, h⟩ := h
    subst e8
    replace h := zbE h
    obtain ⟨G9, e10, h⟩ := h
    refine j_iast e10 dX2_turns_93 ?_
    refine j_iinc (j := 7) (v := (x7 + 1)) (lv' := [(7, vI (x7 + 1)), (0, vR (some t)), (1, vI x1), (2, vI x2), (3, vI x3), (4, vI x4), (5, vI x5), (6, vI x6)]) dX2_turns_94 rfl rfl (Nat.le_of_ble_eq_true rfl) rfl ?_
    refine j_goto (tgt := 70) dX2_turns_97 (by decide) ?_
    obtain rfl := Option.some.inj h
    exact J.sub (zall [1, 2, 3, 4, 5, 6, 7, 0] rfl) hk
theorem wflX2_turns_70 {F : zF} (hd : 4 ≤ F.2.2.2) (t : Nat) (x1 : Int32) (x2 : Int32) (x3 : Int32) (x4 : Int32) (x5 : Int32) (x6 : Int32) (x7 : Int32) (G : GS) {a : (Int32 × Int32 × GS) ⊕ (GS)} (h : flX2_turns_70 t x1 x2 x3 x4 x5 x6 x7 G = some a) (hk : (zcase (fun s : Int32 × Int32 × GS => J mX2_turns F s.2.2 11 [(0, vR (some t)), (1, vI x1), (2, vI x2), (3, vI x3), (4, vI s.1), (5, vI s.2.1)] []) (zKV F)) a) : J mX2_turns F G 70 [(0, vR (some t)), (1, vI x1), (2, vI x2), (3, vI x3), (4, vI x4), (5, vI x5), (6, vI x6), (7, vI x7)] [] := by
  unfold flX2_turns_70 at h
  exact zloop_walk (P := (fun s : Int32 × GS => J mX2_turns F s.2 70 [(0, vR (some t)), (1, vI x1), (2, vI x2), (3, vI x3), (4, vI x4), (5, vI x5), (6, vI x6), (7, vI s.1)] [])) (fun s b e hk => wfbX2_turns_70 hd t x1 x2 x3 x4 x5 x6 s.1 s.2 e hk) (x7, G) _ h hk
def fbX2_turns_11 (t : Nat) (x1 : Int32) (x2 : Int32) (x3 : Int32) (x4 : Int32) (x5 : Int32)  (G : GS) : Option ((Int32 × Int32 × GS) ⊕ (GS)) :=
  if x3 ≤ x4 then (zo (fX2_turns_163 t x2 G)) else ((zgR G 2 t 0).bind fun r2 => r2.bind fun a4 => (zaI G 50 a4 x5).bind fun v6 => if v6 = x1 then (zk [2] G t <| (fX2_beginsWithItself_0 t x5 G).bind fun v11 => if v11 = 0 then (zk [2] G t <| (fX2_puts_0 t x5 x2 G).bind fun G15 => fX2_turns_157 t x1 x2 x3 x4 (x5 + 1) G15) else ((zgR G 2 t 1).bind fun r16 => r16.bind fun a18 => (zaI G 50 a18 x5).bind fun v20 => flX2_turns_70 t x1 x2 x3 x4 x5 (v20 - 1) 0 G)) else (fX2_turns_157 t x1 x2 x3 x4 (x5 + 1) G))
def flX2_turns_11 (t : Nat) (x1 : Int32) (x2 : Int32) (x3 : Int32) (x4 : Int32) (x5 : Int32) (G : GS) : Option (GS) := zloop (fun s : Int32 × Int32 × GS => fbX2_turns_11 t x1 x2 x3 s.1 s.2.1 s.2.2) (x4, x5, G)
theorem wfbX2_turns_11 {F : zF} (hd : 4 ≤ F.2.2.2) (t : Nat) (x1 : Int32) (x2 : Int32) (x3 : Int32) (x4 : Int32) (x5 : Int32) (G : GS) {a : (Int32 × Int32 × GS) ⊕ (GS)} (h : fbX2_turns_11 t x1 x2 x3 x4 x5 G = some a) (hk : (zcase (fun s : Int32 × Int32 × GS => J mX2_turns F s.2.2 11 [(0, vR (some t)), (1, vI x1), (2, vI x2), (3, vI x3), (4, vI s.1), (5, vI s.2.1)] []) (zKV F)) a) : J mX2_turns F G 11 [(0, vR (some t)), (1, vI x1), (2, vI x2), (3, vI x3), (4, vI x4), (5, vI x5)] [] := by
  unfold fbX2_turns_11 at h
  refine j_iload (j := 4) dX2_turns_11 rfl ?_
  refine j_iload_n (j := 3) dX2_turns_13 rfl rfl ?_
  refine j_icmp_ge (tgt := 163) dX2_turns_14 (by decide) (fun c1 => ?_) (fun c1 => ?_)
  · rw [if_pos c1] at h
    replace h := zoE h
    obtain ⟨a, h, rfl⟩ := h
    replace hk := hk
    exact J.sub (zall [0, 2] rfl) (wfX2_turns_163 hd t x2  G h hk)
  · rw [if_neg c1] at h
    refine j_aload_n (j := 0) dX2_turns_17 rfl rfl ?_
    replace h := zbE h
    obtain ⟨r2, e3, h⟩ := h
    refine j_getR fgX2_7 (fun _ _ _ => rfl) dX2_turns_18 e3 ?_
    refine j_iload (j := 5) dX2_turns_21 rfl ?_
    replace h := zbE h
    obtain ⟨a4, e5, h⟩ := h
    subst e5
    replace h := zbE h
    obtain ⟨v6, e7, h⟩ := h
    refine j_iald (Or.inl rfl) e7 dX2_turns_23 ?_
    refine j_iload_n (j := 1) dX2_turns_24 rfl rfl ?_
    refine j_icmp_eq (tgt := 34) dX2_turns_25 (by decide) (fun c8 => ?_) (fun c8 => ?_)
    · rw [if_pos c8] at h
      refine j_aload_n (j := 0) dX2_turns_34 rfl rfl ?_
      refine j_iload (j := 5) dX2_turns_35 rfl ?_
      replace h := zkE h
      obtain ⟨e9, h⟩ := h
      replace h := zbE h
      obtain ⟨v11, e10, h⟩ := h
      refine j_cont (zrV (As := [vI x5]) msX2_291 (yX2_beginsWithItself_ok e10) (Nat.le_trans (Nat.le_of_ble_eq_true rfl) hd) (zk_2 _ e9) rfl rfl (Nat.le_of_ble_eq_true rfl) dX2_turns_37) ?_
      refine j_if_ne (tgt := 56) dX2_turns_40 (by decide) (fun c12 => ?_) (fun c12 => ?_)
      · rw [if_pos c12] at h
        refine j_aload_n (j := 0) dX2_turns_43 rfl rfl ?_
        refine j_iload (j := 5) dX2_turns_44 rfl ?_
        refine j_iload_n (j := 2) dX2_turns_46 rfl rfl ?_
        replace h := zkE h
        obtain ⟨e13, h⟩ := h
        replace h := zbE h
        obtain ⟨G15, e14, h⟩ := h
        refine j_cont (zrV (As := [vI x5, vI x2]) msX2_174 (yX2_puts_ok e14) (Nat.le_trans (Nat.le_of_ble_eq_true rfl) hd) (zk_2 _ e13) rfl rfl (Nat.le_of_ble_eq_true rfl) dX2_turns_47) ?_
        refine j_iinc (j := 5) (v := (x5 + 1)) (lv' := [(5, vI (x5 + 1)), (0, vR (some t)), (1, vI x1), (2, vI x2), (3, vI x3), (4, vI x4)]) dX2_turns_50 rfl rfl (Nat.le_of_ble_eq_true rfl) rfl ?_
        refine j_goto (tgt := 157) dX2_turns_53 (by decide) ?_
        exact J.sub (zall [1, 2, 3, 4, 5, 0] rfl) (wfX2_turns_157 hd t x1 x2 x3 x4 (x5 + 1)  G15 h hk)
      · rw [if_neg c12] at h
        refine j_aload_n (j := 0) dX2_turns_56 rfl rfl ?_
        replace h := zbE h
        obtain ⟨r16, e17, h⟩ := h
        refine j_getR fgX2_13 (fun _ _ _ => rfl) dX2_turns_57 e17 ?_
        refine j_iload (j := 5) dX2_turns_60 rfl ?_
        replace h := zbE h
        obtain ⟨a18, e19, h⟩ := h
        subst e19
        replace h := zbE h
        obtain ⟨v20, e21, h⟩ := h
        refine j_iald (Or.inl rfl) e21 dX2_turns_62 ?_
        refine j_iconst (v := 1) dX2_turns_63 (by decide) ?_
        refine j_isub dX2_turns_64 ?_
        refine j_istore (lv' := [(6, vI (v20 - 1)), (0, vR (some t)), (1, vI x1), (2, vI x2), (3, vI x3), (4, vI x4), (5, vI x5)]) dX2_turns_65 (Nat.le_of_ble_eq_true rfl) rfl ?_
        refine j_iconst (v := 0) dX2_turns_67 (by decide) ?_
        refine j_istore (lv' := [(7, vI 0), (6, vI (v20 - 1)), (0, vR (some t)), (1, vI x1), (2, vI x2), (3, vI x3), (4, vI x4), (5, vI x5)]) dX2_turns_68 (Nat.le_of_ble_eq_true rfl) rfl ?_
        exact J.sub (zall [2, 3, 4, 5, 6, 7, 1, 0] rfl) (wflX2_turns_70 hd t x1 x2 x3 x4 x5 (v20 - 1) 0  G h hk)
    · rw [if_neg c8] at h
      refine j_iinc (j := 5) (v := (x5 + 1)) (lv' := [(5, vI (x5 + 1)), (0, vR (some t)), (1, vI x1), (2, vI x2), (3, vI x3), (4, vI x4)]) dX2_turns_28 rfl rfl (Nat.le_of_ble_eq_true rfl) rfl ?_
      refine j_goto (tgt := 157) dX2_turns_31 (by decide) ?_
      exact J.sub (zall [1, 2, 3, 4, 5, 0] rfl) (wfX2_turns_157 hd t x1 x2 x3 x4 (x5 + 1)  G h hk)
theorem wflX2_turns_11 {F : zF} (hd : 4 ≤ F.2.2.2) (t : Nat) (x1 : Int32) (x2 : Int32) (x3 : Int32) (x4 : Int32) (x5 : Int32) (G : GS) {a : GS} (h : flX2_turns_11 t x1 x2 x3 x4 x5 G = some a) (hk : zKV F a) : J mX2_turns F G 11 [(0, vR (some t)), (1, vI x1), (2, vI x2), (3, vI x3), (4, vI x4), (5, vI x5)] [] := by
  unfold flX2_turns_11 at h
  exact zloop_walk (P := (fun s : Int32 × Int32 × GS => J mX2_turns F s.2.2 11 [(0, vR (some t)), (1, vI x1), (2, vI x2), (3, vI x3), (4, vI s.1), (5, vI s.2.1)] [])) (fun s b e hk => wfbX2_turns_11 hd t x1 x2 x3 s.1 s.2.1 s.2.2 e hk) (x4, x5, G) _ h hk
def fX2_turns_0 (t : Nat) (x1 : Int32) (x2 : Int32)  (G : GS) : Option (GS) :=
  (zgI G 2 t 6).bind fun v1 => flX2_turns_11 t x1 x2 v1 0 0 G
theorem wfX2_turns_0 {F : zF} (hd : 4 ≤ F.2.2.2) (t : Nat) (x1 : Int32) (x2 : Int32)  (G : GS) {a : GS} (h : fX2_turns_0 t x1 x2  G = some a) (hk : zKV F a) : J mX2_turns F G 0 [(0, vR (some t)), (1, vI x1), (2, vI x2)] [] := by
  unfold fX2_turns_0 at h
  refine j_aload_n (j := 0) dX2_turns_0 rfl rfl ?_
  replace h := zbE h
  obtain ⟨v1, e2, h⟩ := h
  refine j_getI fgX2_113 (fun _ _ _ => rfl) dX2_turns_1 e2 ?_
  refine j_istore_n (lv' := [(3, vI v1), (0, vR (some t)), (1, vI x1), (2, vI x2)]) dX2_turns_4 rfl (Nat.le_of_ble_eq_true rfl) rfl ?_
  refine j_iconst (v := 0) dX2_turns_5 (by decide) ?_
  refine j_istore (lv' := [(4, vI 0), (3, vI v1), (0, vR (some t)), (1, vI x1), (2, vI x2)]) dX2_turns_6 (Nat.le_of_ble_eq_true rfl) rfl ?_
  refine j_iconst (v := 0) dX2_turns_8 (by decide) ?_
  refine j_istore (lv' := [(5, vI 0), (4, vI 0), (3, vI v1), (0, vR (some t)), (1, vI x1), (2, vI x2)]) dX2_turns_9 (Nat.le_of_ble_eq_true rfl) rfl ?_
  exact J.sub (zall [3, 4, 5, 2, 1, 0] rfl) (wflX2_turns_11 hd t x1 x2 v1 0 0  G h hk)
theorem yX2_turns_ok {t : Nat} {x1 : Int32} {x2 : Int32} {G : GS} {G1 : GS} (h : fX2_turns_0 t x1 x2 G = some G1) : zRuns yX2_turns (ws_ yX2_turns cX2_turns 9 none) [vR (some t), vI x1, vI x2] (.inl none, G, G1, 4) :=
  zentry (M := mX2_turns) (plainFor_of_name (by decide +kernel)) ⟨rfl, rfl, rfl, rfl⟩ (Nat.le_of_ble_eq_true rfl) (wfX2_turns_0 (Nat.le_refl _) t x1 x2 G h ⟨rfl, rfl⟩)
theorem msX2_294 : zSV RX2 294 RX2 yX2_firstReplaceable cX2_firstReplaceable 4 (some Jvm.ClassFile.FieldType.int) 2 := ⟨lw_V q3081 q3083 qs97 q131 q3084, (by decide +kernel), (by decide)⟩
theorem msX2_297 : zSV RX2 297 RX2 yX2_replaces cX2_replaces 9 none 1 := ⟨lw_V q3085 q3087 qs98 q131 q3088, (by decide +kernel), (by decide)⟩
theorem msX2_303 : zSV RX2 303 RX2 yX2_isDirect cX2_isDirect 3 (some Jvm.ClassFile.FieldType.boolean) 1 := ⟨lw_V q3093 q3095 qs100 q131 q3096, (by decide +kernel), (by decide)⟩
theorem msX2_309 : zSV RX2 309 RX2 yX2_turns cX2_turns 9 none 2 := ⟨lw_V q3105 q3107 qs103 q131 q3108, (by decide +kernel), (by decide)⟩
abbrev mX2_removes : zM := (cX2_removes, RX2, 6, (some Jvm.ClassFile.FieldType.int), "removes", [], "()I")
def fX2_removes_161 (t : Nat) (x1 : Int32) (x2 : Int32) (x3 : Int32) (x4 : Int32)  (G : GS) : Option ((Int32 × Int32 × Int32 × GS) ⊕ ((Int32) × GS)) :=
  some (.inl (x2, x3, (x4 + 1), G))
theorem wfX2_removes_161 {F : zF} (hd : 5 ≤ F.2.2.2) (t : Nat) (x1 : Int32) (x2 : Int32) (x3 : Int32) (x4 : Int32)  (G : GS) {a : (Int32 × Int32 × Int32 × GS) ⊕ ((Int32) × GS)} (h : fX2_removes_161 t x1 x2 x3 x4  G = some a) (hk : (zcase (fun s : Int32 × Int32 × Int32 × GS => J mX2_removes F s.2.2.2 40 [(0, vR (some t)), (1, vI x1), (2, vI s.1), (3, vI s.2.1), (4, vI s.2.2.1)] []) (zKI F)) a) : J mX2_removes F G 161 [(0, vR (some t)), (1, vI x1), (2, vI x2), (3, vI x3), (4, vI x4)] [] := by
  unfold fX2_removes_161 at h
  refine j_iinc (j := 4) (v := (x4 + 1)) (lv' := [(4, vI (x4 + 1)), (0, vR (some t)), (1, vI x1), (2, vI x2), (3, vI x3)]) dX2_removes_161 rfl rfl (Nat.le_of_ble_eq_true rfl) rfl ?_
  refine j_goto (tgt := 40) dX2_removes_164 (by decide) ?_
  obtain rfl := Option.some.inj h
  exact J.sub (zall [1, 2, 3, 4, 0] rfl) hk
def fX2_removes_115 (t : Nat) (x1 : Int32) (x2 : Int32) (x3 : Int32) (x4 : Int32)  (G : GS) : Option ((Int32 × Int32 × Int32 × GS) ⊕ ((Int32) × GS)) :=
  zk [2] G t <| (fX2_isDirect_0 t x4 G).bind fun v3 => if v3 = 0 then (fX2_removes_161 t x1 x2 x3 x4 G) else (zk [2] G t <| (fX2_unused_0 t G).bind fun v7 => if v7 = (-1) then (zo (some ((-1), G))) else (zk [2] G t <| (fX2_turns_0 t x4 v7 G).bind fun G11 => zk [2] G11 t <| (fX2_isTooMuch_0 t G11).bind fun v14 => if v14 = 0 then (fX2_removes_161 t x1 x2 (x3 + 1) x4 G11) else (zo (some ((-1), G11)))))
theorem wfX2_removes_115 {F : zF} (hd : 5 ≤ F.2.2.2) (t : Nat) (x1 : Int32) (x2 : Int32) (x3 : Int32) (x4 : Int32)  (G : GS) {a : (Int32 × Int32 × Int32 × GS) ⊕ ((Int32) × GS)} (h : fX2_removes_115 t x1 x2 x3 x4  G = some a) (hk : (zcase (fun s : Int32 × Int32 × Int32 × GS => J mX2_removes F s.2.2.2 40 [(0, vR (some t)), (1, vI x1), (2, vI s.1), (3, vI s.2.1), (4, vI s.2.2.1)] []) (zKI F)) a) : J mX2_removes F G 115 [(0, vR (some t)), (1, vI x1), (2, vI x2), (3, vI x3), (4, vI x4)] [] := by
  unfold fX2_removes_115 at h
  refine j_aload_n (j := 0) dX2_removes_115 rfl rfl ?_
  refine j_iload (j := 4) dX2_removes_116 rfl ?_
  replace h := zkE h
  obtain ⟨e1, h⟩ := h
  replace h := zbE h
  obtain ⟨v3, e2, h⟩ := h
  refine j_cont (zrV (As := [vI x4]) msX2_303 (yX2_isDirect_ok e2) (Nat.le_trans (Nat.le_of_ble_eq_true rfl) hd) (zk_2 _ e1) rfl rfl (Nat.le_of_ble_eq_true rfl) dX2_removes_118) ?_
  refine j_if_ne (tgt := 127) dX2_removes_121 (by decide) (fun c4 => ?_) (fun c4 => ?_)
  · rw [if_pos c4] at h
    refine j_goto (tgt := 161) dX2_removes_124 (by decide) ?_
    exact J.sub (zall [0, 1, 2, 3, 4] rfl) (wfX2_removes_161 hd t x1 x2 x3 x4  G h hk)
  · rw [if_neg c4] at h
    refine j_aload_n (j := 0) dX2_removes_127 rfl rfl ?_
    replace h := zkE h
    obtain ⟨e5, h⟩ := h
    replace h := zbE h
    obtain ⟨v7, e6, h⟩ := h
    refine j_cont (zrV (As := []) msX2_306 (yX2_unused_ok e6) (Nat.le_trans (Nat.le_of_ble_eq_true rfl) hd) (zk_2 _ e5) rfl rfl (Nat.le_of_ble_eq_true rfl) dX2_removes_128) ?_
    refine j_istore (lv' := [(5, vI v7), (0, vR (some t)), (1, vI x1), (2, vI x2), (3, vI x3), (4, vI x4)]) dX2_removes_131 (Nat.le_of_ble_eq_true rfl) rfl ?_
    refine j_iload (j := 0) dX2_removes_133 rfl ?_
    refine j_iconst (v := (-1)) dX2_removes_135 (by decide) ?_
    refine j_icmp_ne (tgt := 141) dX2_removes_136 (by decide) (fun c8 => ?_) (fun c8 => ?_)
    · rw [if_pos c8] at h
      replace h := zoE h
      obtain ⟨a, h, rfl⟩ := h
      replace hk := hk
      refine j_iconst (v := (-1)) dX2_removes_139 (by decide) ?_
      obtain rfl := Option.some.inj h
      exact j_iret hk.1 hk.2 rfl dX2_removes_140
    · rw [if_neg c8] at h
      refine j_aload_n (j := 1) dX2_removes_141 rfl rfl ?_
      refine j_iload (j := 5) dX2_removes_142 rfl ?_
      refine j_iload (j := 0) dX2_removes_144 rfl ?_
      replace h := zkE h
      obtain ⟨e9, h⟩ := h
      replace h := zbE h
      obtain ⟨G11, e10, h⟩ := h
      refine j_cont (zrV (As := [vI x4, vI v7]) msX2_309 (yX2_turns_ok e10) (Nat.le_trans (Nat.le_of_ble_eq_true rfl) hd) (zk_2 _ e9) rfl rfl (Nat.le_of_ble_eq_true rfl) dX2_removes_146) ?_
      refine j_iinc (j := 4) (v := (x3 + 1)) (lv' := [(3, vI (x3 + 1)), (5, vI v7), (0, vR (some t)), (1, vI x1), (2, vI x2), (4, vI x4)]) dX2_removes_149 rfl rfl (Nat.le_of_ble_eq_true rfl) rfl ?_
      refine j_aload_n (j := 2) dX2_removes_152 rfl rfl ?_
      replace h := zkE h
      obtain ⟨e12, h⟩ := h
      replace h := zbE h
      obtain ⟨v14, e13, h⟩ := h
      refine j_cont (zrV (As := []) msX2_300 (yX2_isTooMuch_ok e13) (Nat.le_trans (Nat.le_of_ble_eq_true rfl) hd) (zk_2 _ e12) rfl rfl (Nat.le_of_ble_eq_true rfl) dX2_removes_153) ?_
      refine j_if_eq (tgt := 161) dX2_removes_156 (by decide) (fun c15 => ?_) (fun c15 => ?_)
      · rw [if_pos c15] at h
        exact J.sub (zall [2, 3, 4, 0, 5] rfl) (wfX2_removes_161 hd t x1 x2 (x3 + 1) x4  G11 h hk)
      · rw [if_neg c15] at h
        replace h := zoE h
        obtain ⟨a, h, rfl⟩ := h
        replace hk := hk
        refine j_iconst (v := (-1)) dX2_removes_159 (by decide) ?_
        obtain rfl := Option.some.inj h
        exact j_iret hk.1 hk.2 rfl dX2_removes_160
def fbX2_removes_71 (t : Nat) (x1 : Int32) (x2 : Int32) (x3 : Int32) (x4 : Int32) (x5 : Int32)  (G : GS) : Option ((Int32 × Int32 × GS) ⊕ ((Int32 × Int32 × Int32 × GS) ⊕ ((Int32) × GS))) :=
  if x5 = (-1) then (zo (fX2_removes_115 t x1 x2 x3 x4 G)) else (if x2 = 100 then (zo (zo (some ((-1), G)))) else (zk [2] G t <| (fX2_replaces_0 t x5 G).bind fun G5 => zk [2] G5 t <| (fX2_isTooMuch_0 t G5).bind fun v8 => if v8 = 0 then (zk [2] G5 t <| (fX2_firstReplaceable_0 t x4 x1 G5).bind fun v12 => some (.inl ((x2 + 1), v12, G5))) else (zo (zo (some ((-1), G5))))))
def flX2_removes_71 (t : Nat) (x1 : Int32) (x2 : Int32) (x3 : Int32) (x4 : Int32) (x5 : Int32) (G : GS) : Option ((Int32 × Int32 × Int32 × GS) ⊕ ((Int32) × GS)) := zloop (fun s : Int32 × Int32 × GS => fbX2_removes_71 t x1 s.1 x3 x4 s.2.1 s.2.2) (x2, x5, G)
theorem wfbX2_removes_71 {F : zF} (hd : 5 ≤ F.2.2.2) (t : Nat) (x1 : Int32) (x2 : Int32) (x3 : Int32) (x4 : Int32) (x5 : Int32) (G : GS) {a : (Int32 × Int32 × GS) ⊕ ((Int32 × Int32 × Int32 × GS) ⊕ ((Int32) × GS))} (h : fbX2_removes_71 t x1 x2 x3 x4 x5 G = some a) (hk : (zcase (fun s : Int32 × Int32 × GS => J mX2_removes F s.2.2 71 [(0, vR (some t)), (1, vI x1), (2, vI s.1), (3, vI x3), (4, vI x4), (5, vI s.2.1)] []) ((zcase (fun s : Int32 × Int32 × Int32 × GS => J mX2_removes F s.2.2.2 40 [(0, vR (some t)), (1, vI x1), (2, vI s.1), (3, vI s.2.1), (4, vI s.2.2.1)] []) (zKI F)))) a) : J mX2_removes F G 71 [(0, vR (some t)), (1, vI x1), (2, vI x2), (3, vI x3), (4, vI x4), (5, vI x5)] [] := by
  unfold fbX2_removes_71 at h
  refine j_iload (j := 5) dX2_removes_71 rfl ?_
  refine j_iconst (v := (-1)) dX2_removes_73 (by decide) ?_
  refine j_icmp_eq (tgt := 115) dX2_removes_74 (by decide) (fun c1 => ?_) (fun c1 => ?_)
  · rw [if_pos c1] at h
    replace h := zoE h
    obtain ⟨a, h, rfl⟩ := h
    replace hk := hk
    exact J.sub (zall [0, 1, 2, 3, 4] rfl) (wfX2_removes_115 hd t x1 x2 x3 x4  G h hk)
  · rw [if_neg c1] at h
    refine j_iload_n (j := 2) dX2_removes_77 rfl rfl ?_
    refine j_bipush (v := 100) dX2_removes_78 (by decide) ?_
    refine j_icmp_ne (tgt := 85) dX2_removes_80 (by decide) (fun c2 => ?_) (fun c2 => ?_)
    · rw [if_pos c2] at h
      replace h := zoE h
      obtain ⟨a, h, rfl⟩ := h
      replace hk := hk
      replace h := zoE h
      obtain ⟨a, h, rfl⟩ := h
      replace hk := hk
      refine j_iconst (v := (-1)) dX2_removes_83 (by decide) ?_
      obtain rfl := Option.some.inj h
      exact j_iret hk.1 hk.2 rfl dX2_removes_84
    · rw [if_neg c2] at h
      refine j_iinc (j := 2) (v := (x2 + 1)) (lv' := [(2, vI (x2 + 1)), (0, vR (some t)), (1, vI x1), (3, vI x3), (4, vI x4), (5, vI x5)]) dX2_removes_85 rfl rfl (Nat.le_of_ble_eq_true rfl) rfl ?_
      refine j_aload_n (j := 1) dX2_removes_88 rfl rfl ?_
      refine j_iload (j := 5) dX2_removes_89 rfl ?_
      replace h := zkE h
      obtain ⟨e3, h⟩ := h
      replace h := zbE h
      obtain ⟨G5, e4, h⟩ := h
      refine j_cont (zrV (As := [vI x5]) msX2_297 (yX2_replaces_ok e4) (Nat.le_trans (Nat.le_of_ble_eq_true rfl) hd) (zk_2 _ e3) rfl rfl (Nat.le_of_ble_eq_true rfl) dX2_removes_91) ?_
      refine j_aload_n (j := 1) dX2_removes_94 rfl rfl ?_
      replace h := zkE h
      obtain ⟨e6, h⟩ := h
      replace h := zbE h
      obtain ⟨v8, e7, h⟩ := h
      refine j_cont (zrV (As := []) msX2_300 (yX2_isTooMuch_ok e7) (Nat.le_trans (Nat.le_of_ble_eq_true rfl) hd) (zk_2 _ e6) rfl rfl (Nat.le_of_ble_eq_true rfl) dX2_removes_95) ?_
      refine j_if_eq (tgt := 103) dX2_removes_98 (by decide) (fun c9 => ?_) (fun c9 => ?_)
      · rw [if_pos c9] at h
        refine j_aload_n (j := 1) dX2_removes_103 rfl rfl ?_
        refine j_iload (j := 4) dX2_removes_104 rfl ?_
        refine j_iload_n (j := 2) dX2_removes_106 rfl rfl ?_
        replace h := zkE h
        obtain ⟨e10, h⟩ := h
        replace h := zbE h
        obtain ⟨v12, e11, h⟩ := h
        refine j_cont (zrV (As := [vI x4, vI x1]) msX2_294 (yX2_firstReplaceable_ok e11) (Nat.le_trans (Nat.le_of_ble_eq_true rfl) hd) (zk_2 _ e10) rfl rfl (Nat.le_of_ble_eq_true rfl) dX2_removes_107) ?_
        refine j_istore (lv' := [(5, vI v12), (2, vI (x2 + 1)), (0, vR (some t)), (1, vI x1), (3, vI x3), (4, vI x4)]) dX2_removes_110 (Nat.le_of_ble_eq_true rfl) rfl ?_
        refine j_goto (tgt := 71) dX2_removes_112 (by decide) ?_
        obtain rfl := Option.some.inj h
        exact J.sub (zall [2, 3, 1, 4, 5, 0] rfl) hk
      · rw [if_neg c9] at h
        replace h := zoE h
        obtain ⟨a, h, rfl⟩ := h
        replace hk := hk
        replace h := zoE h
        obtain ⟨a, h, rfl⟩ := h
        replace hk := hk
        refine j_iconst (v := (-1)) dX2_removes_101 (by decide) ?_
        obtain rfl := Option.some.inj h
        exact j_iret hk.1 hk.2 rfl dX2_removes_102
theorem wflX2_removes_71 {F : zF} (hd : 5 ≤ F.2.2.2) (t : Nat) (x1 : Int32) (x2 : Int32) (x3 : Int32) (x4 : Int32) (x5 : Int32) (G : GS) {a : (Int32 × Int32 × Int32 × GS) ⊕ ((Int32) × GS)} (h : flX2_removes_71 t x1 x2 x3 x4 x5 G = some a) (hk : (zcase (fun s : Int32 × Int32 × Int32 × GS => J mX2_removes F s.2.2.2 40 [(0, vR (some t)), (1, vI x1), (2, vI s.1), (3, vI s.2.1), (4, vI s.2.2.1)] []) (zKI F)) a) : J mX2_removes F G 71 [(0, vR (some t)), (1, vI x1), (2, vI x2), (3, vI x3), (4, vI x4), (5, vI x5)] [] := by
  unfold flX2_removes_71 at h
  exact zloop_walk (P := (fun s : Int32 × Int32 × GS => J mX2_removes F s.2.2 71 [(0, vR (some t)), (1, vI x1), (2, vI s.1), (3, vI x3), (4, vI x4), (5, vI s.2.1)] [])) (fun s b e hk => wfbX2_removes_71 hd t x1 s.1 x3 x4 s.2.1 s.2.2 e hk) (x2, x5, G) _ h hk
def fbX2_removes_40 (t : Nat) (x1 : Int32) (x2 : Int32) (x3 : Int32) (x4 : Int32)  (G : GS) : Option ((Int32 × Int32 × Int32 × GS) ⊕ ((Int32) × GS)) :=
  if 32 ≤ x4 then (zo (some (x3, G))) else ((fX2_has_0 x1 (x4 - 20) G).bind fun v3 => if v3 = 0 then (fX2_removes_161 t x1 x2 x3 x4 G) else (zk [2] G t <| (fX2_firstReplaceable_0 t x4 x1 G).bind fun v7 => flX2_removes_71 t x1 x2 x3 x4 v7 G))
def flX2_removes_40 (t : Nat) (x1 : Int32) (x2 : Int32) (x3 : Int32) (x4 : Int32) (G : GS) : Option ((Int32) × GS) := zloop (fun s : Int32 × Int32 × Int32 × GS => fbX2_removes_40 t x1 s.1 s.2.1 s.2.2.1 s.2.2.2) (x2, x3, x4, G)
theorem wfbX2_removes_40 {F : zF} (hd : 5 ≤ F.2.2.2) (t : Nat) (x1 : Int32) (x2 : Int32) (x3 : Int32) (x4 : Int32) (G : GS) {a : (Int32 × Int32 × Int32 × GS) ⊕ ((Int32) × GS)} (h : fbX2_removes_40 t x1 x2 x3 x4 G = some a) (hk : (zcase (fun s : Int32 × Int32 × Int32 × GS => J mX2_removes F s.2.2.2 40 [(0, vR (some t)), (1, vI x1), (2, vI s.1), (3, vI s.2.1), (4, vI s.2.2.1)] []) (zKI F)) a) : J mX2_removes F G 40 [(0, vR (some t)), (1, vI x1), (2, vI x2), (3, vI x3), (4, vI x4)] [] := by
  unfold fbX2_removes_40 at h
  refine j_iload (j := 4) dX2_removes_40 rfl ?_
  refine j_bipush (v := 32) dX2_removes_42 (by decide) ?_
  refine j_icmp_ge (tgt := 167) dX2_removes_44 (by decide) (fun c1 => ?_) (fun c1 => ?_)
  · rw [if_pos c1] at h
    replace h := zoE h
    obtain ⟨a, h, rfl⟩ := h
    replace hk := hk
    refine j_iload_n (j := 3) dX2_removes_167 rfl rfl ?_
    obtain rfl := Option.some.inj h
    exact j_iret hk.1 hk.2 rfl dX2_removes_168
  · rw [if_neg c1] at h
    refine j_iload_n (j := 1) dX2_removes_47 rfl rfl ?_
    refine j_iload (j := 4) dX2_removes_48 rfl ?_
    refine j_bipush (v := 20) dX2_removes_50 (by decide) ?_
    refine j_isub dX2_removes_52 ?_
    replace h := zbE h
    obtain ⟨v3, e2, h⟩ := h
    refine j_cont (zrS (As := [vI x1, vI (x4 - 20)]) msX2_198 (yX2_has_ok e2) (Nat.le_trans (Nat.le_of_ble_eq_true rfl) hd) rfl rfl (Nat.le_of_ble_eq_true rfl) dX2_removes_53) ?_
    refine j_if_ne (tgt := 62) dX2_removes_56 (by decide) (fun c4 => ?_) (fun c4 => ?_)
    · rw [if_pos c4] at h
      refine j_goto (tgt := 161) dX2_removes_59 (by decide) ?_
      exact J.sub (zall [0, 1, 2, 3, 4] rfl) (wfX2_removes_161 hd t x1 x2 x3 x4  G h hk)
    · rw [if_neg c4] at h
      refine j_aload_n (j := 0) dX2_removes_62 rfl rfl ?_
      refine j_iload (j := 4) dX2_removes_63 rfl ?_
      refine j_iload_n (j := 1) dX2_removes_65 rfl rfl ?_
      replace h := zkE h
      obtain ⟨e5, h⟩ := h
      replace h := zbE h
      obtain ⟨v7, e6, h⟩ := h
      refine j_cont (zrV (As := [vI x4, vI x1]) msX2_294 (yX2_firstReplaceable_ok e6) (Nat.le_trans (Nat.le_of_ble_eq_true rfl) hd) (zk_2 _ e5) rfl rfl (Nat.le_of_ble_eq_true rfl) dX2_removes_66) ?_
      refine j_istore (lv' := [(5, vI v7), (0, vR (some t)), (1, vI x1), (2, vI x2), (3, vI x3), (4, vI x4)]) dX2_removes_69 (Nat.le_of_ble_eq_true rfl) rfl ?_
      exact J.sub (zall [1, 2, 3, 4, 5, 0] rfl) (wflX2_removes_71 hd t x1 x2 x3 x4 v7  G h hk)
theorem wflX2_removes_40 {F : zF} (hd : 5 ≤ F.2.2.2) (t : Nat) (x1 : Int32) (x2 : Int32) (x3 : Int32) (x4 : Int32) (G : GS) {a : (Int32) × GS} (h : flX2_removes_40 t x1 x2 x3 x4 G = some a) (hk : zKI F a) : J mX2_removes F G 40 [(0, vR (some t)), (1, vI x1), (2, vI x2), (3, vI x3), (4, vI x4)] [] := by
  unfold flX2_removes_40 at h
  exact zloop_walk (P := (fun s : Int32 × Int32 × Int32 × GS => J mX2_removes F s.2.2.2 40 [(0, vR (some t)), (1, vI x1), (2, vI s.1), (3, vI s.2.1), (4, vI s.2.2.1)] [])) (fun s b e hk => wfbX2_removes_40 hd t x1 s.1 s.2.1 s.2.2.1 s.2.2.2 e hk) (x2, x3, x4, G) _ h hk
def fX2_removes_32 (t : Nat) (x1 : Int32)  (G : GS) : Option ((Int32) × GS) :=
  flX2_removes_40 t x1 0 0 20 G
theorem wfX2_removes_32 {F : zF} (hd : 5 ≤ F.2.2.2) (t : Nat) (x1 : Int32)  (G : GS) {a : (Int32) × GS} (h : fX2_removes_32 t x1  G = some a) (hk : zKI F a) : J mX2_removes F G 32 [(0, vR (some t)), (1, vI x1)] [] := by
  unfold fX2_removes_32 at h
  refine j_iconst (v := 0) dX2_removes_32 (by decide) ?_
  refine j_istore_n (lv' := [(2, vI 0), (0, vR (some t)), (1, vI x1)]) dX2_removes_33 rfl (Nat.le_of_ble_eq_true rfl) rfl ?_
  refine j_iconst (v := 0) dX2_removes_34 (by decide) ?_
  refine j_istore_n (lv' := [(3, vI 0), (2, vI 0), (0, vR (some t)), (1, vI x1)]) dX2_removes_35 rfl (Nat.le_of_ble_eq_true rfl) rfl ?_
  refine j_bipush (v := 20) dX2_removes_36 (by decide) ?_
  refine j_istore (lv' := [(4, vI 20), (3, vI 0), (2, vI 0), (0, vR (some t)), (1, vI x1)]) dX2_removes_38 (Nat.le_of_ble_eq_true rfl) rfl ?_
  exact J.sub (zall [3, 4, 2, 1, 0] rfl) (wflX2_removes_40 hd t x1 0 0 20  G h hk)
def fbX2_removes_4 (t : Nat) (x1 : Int32) (x2 : Int32)  (G : GS) : Option ((Int32 × Int32) ⊕ ((Int32) × GS)) :=
  (zgI G 2 t 6).bind fun v1 => if v1 ≤ x2 then (zo (fX2_removes_32 t x1 G)) else ((zgR G 2 t 0).bind fun r4 => r4.bind fun a6 => (zaI G 50 a6 x2).bind fun v8 => some (.inl ((x1 ||| ((1 : Int32) <<< ((v8 - 20) &&& 31))), (x2 + 1))))
def flX2_removes_4 (t : Nat) (x1 : Int32) (x2 : Int32) (G : GS) : Option ((Int32) × GS) := zloop (fun s : Int32 × Int32 => fbX2_removes_4 t s.1 s.2 G) (x1, x2)
theorem wfbX2_removes_4 {F : zF} (hd : 5 ≤ F.2.2.2) (t : Nat) (x1 : Int32) (x2 : Int32) (G : GS) {a : (Int32 × Int32) ⊕ ((Int32) × GS)} (h : fbX2_removes_4 t x1 x2 G = some a) (hk : (zcase (fun s : Int32 × Int32 => J mX2_removes F G 4 [(0, vR (some t)), (1, vI s.1), (2, vI s.2)] []) (zKI F)) a) : J mX2_removes F G 4 [(0, vR (some t)), (1, vI x1), (2, vI x2)] [] := by
  unfold fbX2_removes_4 at h
  refine j_iload_n (j := 2) dX2_removes_4 rfl rfl ?_
  refine j_aload_n (j := 0) dX2_removes_5 rfl rfl ?_
  replace h := zbE h
  obtain ⟨v1, e2, h⟩ := h
  refine j_getI fgX2_113 (fun _ _ _ => rfl) dX2_removes_6 e2 ?_
  refine j_icmp_ge (tgt := 32) dX2_removes_9 (by decide) (fun c3 => ?_) (fun c3 => ?_)
  · rw [if_pos c3] at h
    replace h := zoE h
    obtain ⟨a, h, rfl⟩ := h
    replace hk := hk
    exact J.sub (zall [0, 1] rfl) (wfX2_removes_32 hd t x1  G h hk)
  · rw [if_neg c3] at h
    refine j_iload_n (j := 1) dX2_removes_12 rfl rfl ?_
    refine j_iconst (v := 1) dX2_removes_13 (by decide) ?_
    refine j_aload_n (j := 0) dX2_removes_14 rfl rfl ?_
    replace h := zbE h
    obtain ⟨r4, e5, h⟩ := h
    refine j_getR fgX2_7 (fun _ _ _ => rfl) dX2_removes_15 e5 ?_
    refine j_iload_n (j := 2) dX2_removes_18 rfl rfl ?_
    replace h := zbE h
    obtain ⟨a6, e7, h⟩ := h
    subst e7
    replace h := zbE h
    obtain ⟨v8, e9, h⟩ := h
    refine j_iald (Or.inl rfl) e9 dX2_removes_19 ?_
    refine j_bipush (v := 20) dX2_removes_20 (by decide) ?_
    refine j_isub dX2_removes_22 ?_
    refine j_ishl dX2_removes_23 ?_
    refine j_ior dX2_removes_24 ?_
    refine j_istore_n (lv' := [(1, vI (x1 ||| ((1 : Int32) <<< ((v8 - 20) &&& 31)))), (0, vR (some t)), (2, vI x2)]) dX2_removes_25 rfl (Nat.le_of_ble_eq_true rfl) rfl ?_
    refine j_iinc (j := 2) (v := (x2 + 1)) (lv' := [(2, vI (x2 + 1)), (1, vI (x1 ||| ((1 : Int32) <<< ((v8 - 20) &&& 31)))), (0, vR (some t))]) dX2_removes_26 rfl rfl (Nat.le_of_ble_eq_true rfl) rfl ?_
    refine j_goto (tgt := 4) dX2_removes_29 (by decide) ?_
    obtain rfl := Option.some.inj h
    exact J.sub (zall [2, 1, 0] rfl) hk
theorem wflX2_removes_4 {F : zF} (hd : 5 ≤ F.2.2.2) (t : Nat) (x1 : Int32) (x2 : Int32) (G : GS) {a : (Int32) × GS} (h : flX2_removes_4 t x1 x2 G = some a) (hk : zKI F a) : J mX2_removes F G 4 [(0, vR (some t)), (1, vI x1), (2, vI x2)] [] := by
  unfold flX2_removes_4 at h
  exact zloop_walk (P := (fun s : Int32 × Int32 => J mX2_removes F G 4 [(0, vR (some t)), (1, vI s.1), (2, vI s.2)] [])) (fun s b e hk => wfbX2_removes_4 hd t s.1 s.2 G e hk) (x1, x2) _ h hk
def fX2_removes_0 (t : Nat)  (G : GS) : Option ((Int32) × GS) :=
  flX2_removes_4 t 0 0 G
theorem wfX2_removes_0 {F : zF} (hd : 5 ≤ F.2.2.2) (t : Nat)  (G : GS) {a : (Int32) × GS} (h : fX2_removes_0 t  G = some a) (hk : zKI F a) : J mX2_removes F G 0 [(0, vR (some t))] [] := by
  unfold fX2_removes_0 at h
  refine j_iconst (v := 0) dX2_removes_0 (by decide) ?_
  refine j_istore_n (lv' := [(1, vI 0), (0, vR (some t))]) dX2_removes_1 rfl (Nat.le_of_ble_eq_true rfl) rfl ?_
  refine j_iconst (v := 0) dX2_removes_2 (by decide) ?_
  refine j_istore_n (lv' := [(2, vI 0), (1, vI 0), (0, vR (some t))]) dX2_removes_3 rfl (Nat.le_of_ble_eq_true rfl) rfl ?_
  exact J.sub (zall [2, 1, 0] rfl) (wflX2_removes_4 hd t 0 0  G h hk)
theorem yX2_removes_ok {t : Nat} {G : GS} {r : Int32} {G1 : GS} (h : fX2_removes_0 t G = some (r, G1)) : zRuns yX2_removes (ws_ yX2_removes cX2_removes 6 (some Jvm.ClassFile.FieldType.int)) [vR (some t)] (.inl (some (vI r)), G, G1, 5) :=
  zentry (M := mX2_removes) (plainFor_of_name (by decide +kernel)) ⟨rfl, rfl, rfl, rfl⟩ (Nat.le_of_ble_eq_true rfl) (wfX2_removes_0 (Nat.le_refl _) t G h ⟨rfl, rfl⟩)
theorem msX2_315 : zSV RX2 315 RX2 yX2_removes cX2_removes 6 (some Jvm.ClassFile.FieldType.int) 0 := ⟨lw_V q3077 q3079 qs96 q131 q3080, (by decide +kernel), (by decide)⟩
abbrev mX2_removeLeftRecursion : zM := (cX2_removeLeftRecursion, RX2, 2, (some Jvm.ClassFile.FieldType.int), "removeLeftRecursion", [], "()I")
def fX2_removeLeftRecursion_20 (t : Nat) (x1 : Int32) (s0 : Option Nat) (s1 : Int32) (G : GS) : Option ((Int32) × GS) :=
  s0.bind fun a1 => zk [2] G a1 <| zb2 (fX2_goes_0 a1 s1 G) fun v5 G6 => if v5 = 0 then (zk [2] G6 t <| (fX2_putBack_0 t G6).bind fun G10 => some (0, G10)) else (zk [2] G6 t <| (fX2_changes_0 t G6).bind fun G13 => some (x1, G13))
theorem wfX2_removeLeftRecursion_20 {F : zF} (hd : 6 ≤ F.2.2.2) (t : Nat) (x1 : Int32) (s0 : Option Nat) (s1 : Int32) (G : GS) {a : (Int32) × GS} (h : fX2_removeLeftRecursion_20 t x1 s0 s1 G = some a) (hk : zKI F a) : J mX2_removeLeftRecursion F G 20 [(0, vR (some t)), (1, vI x1)] [vI s1, vR s0] := by
  unfold fX2_removeLeftRecursion_20 at h
  replace h := zbE h
  obtain ⟨a1, e2, h⟩ := h
  subst e2
  replace h := zkE h
  obtain ⟨e3, h⟩ := h
  replace h := zb2E h
  obtain ⟨v5, G6, e4, h⟩ := h
  refine j_cont (zrV (As := [vI s1]) msX2_177 (yX2_goes_ok e4) (Nat.le_trans (Nat.le_of_ble_eq_true rfl) hd) (zk_2 _ e3) rfl rfl (Nat.le_of_ble_eq_true rfl) dX2_removeLeftRecursion_20) ?_
  refine j_if_ne (tgt := 32) dX2_removeLeftRecursion_23 (by decide) (fun c7 => ?_) (fun c7 => ?_)
  · rw [if_pos c7] at h
    refine j_aload_n (j := 0) dX2_removeLeftRecursion_26 rfl rfl ?_
    replace h := zkE h
    obtain ⟨e8, h⟩ := h
    replace h := zbE h
    obtain ⟨G10, e9, h⟩ := h
    refine j_cont (zrV (As := []) msX2_318 (yX2_putBack_ok e9) (Nat.le_trans (Nat.le_of_ble_eq_true rfl) hd) (zk_2 _ e8) rfl rfl (Nat.le_of_ble_eq_true rfl) dX2_removeLeftRecursion_27) ?_
    refine j_iconst (v := 0) dX2_removeLeftRecursion_30 (by decide) ?_
    obtain rfl := Option.some.inj h
    exact j_iret hk.1 hk.2 rfl dX2_removeLeftRecursion_31
  · rw [if_neg c7] at h
    refine j_aload_n (j := 0) dX2_removeLeftRecursion_32 rfl rfl ?_
    replace h := zkE h
    obtain ⟨e11, h⟩ := h
    replace h := zbE h
    obtain ⟨G13, e12, h⟩ := h
    refine j_cont (zrV (As := []) msX2_157 (yX2_changes_ok e12) (Nat.le_trans (Nat.le_of_ble_eq_true rfl) hd) (zk_2 _ e11) rfl rfl (Nat.le_of_ble_eq_true rfl) dX2_removeLeftRecursion_33) ?_
    refine j_iload_n (j := 1) dX2_removeLeftRecursion_36 rfl rfl ?_
    obtain rfl := Option.some.inj h
    exact j_iret hk.1 hk.2 rfl dX2_removeLeftRecursion_37
def fX2_removeLeftRecursion_0 (t : Nat)  (G : GS) : Option ((Int32) × GS) :=
  zk [2] G t <| (fX2_holds_0 t G).bind fun G3 => zk [2] G3 t <| zb2 (fX2_removes_0 t G3) fun v6 G7 => if v6 = (-1) then (fX2_removeLeftRecursion_20 t v6 (some t) 0 G7) else (fX2_removeLeftRecursion_20 t v6 (some t) 1 G7)
theorem wfX2_removeLeftRecursion_0 {F : zF} (hd : 6 ≤ F.2.2.2) (t : Nat)  (G : GS) {a : (Int32) × GS} (h : fX2_removeLeftRecursion_0 t  G = some a) (hk : zKI F a) : J mX2_removeLeftRecursion F G 0 [(0, vR (some t))] [] := by
  unfold fX2_removeLeftRecursion_0 at h
  refine j_aload_n (j := 0) dX2_removeLeftRecursion_0 rfl rfl ?_
  replace h := zkE h
  obtain ⟨e1, h⟩ := h
  replace h := zbE h
  obtain ⟨G3, e2, h⟩ := h
  refine j_cont (zrV (As := []) msX2_312 (yX2_holds_ok e2) (Nat.le_trans (Nat.le_of_ble_eq_true rfl) hd) (zk_2 _ e1) rfl rfl (Nat.le_of_ble_eq_true rfl) dX2_removeLeftRecursion_1) ?_
  refine j_aload_n (j := 0) dX2_removeLeftRecursion_4 rfl rfl ?_
  replace h := zkE h
  obtain ⟨e4, h⟩ := h
  replace h := zb2E h
  obtain ⟨v6, G7, e5, h⟩ := h
  refine j_cont (zrV (As := []) msX2_315 (yX2_removes_ok e5) (Nat.le_trans (Nat.le_of_ble_eq_true rfl) hd) (zk_2 _ e4) rfl rfl (Nat.le_of_ble_eq_true rfl) dX2_removeLeftRecursion_5) ?_
  refine j_istore_n (lv' := [(1, vI v6), (0, vR (some t))]) dX2_removeLeftRecursion_8 rfl (Nat.le_of_ble_eq_true rfl) rfl ?_
  refine j_aload_n (j := 1) dX2_removeLeftRecursion_9 rfl rfl ?_
  refine j_iload_n (j := 0) dX2_removeLeftRecursion_10 rfl rfl ?_
  refine j_iconst (v := (-1)) dX2_removeLeftRecursion_11 (by decide) ?_
  refine j_icmp_eq (tgt := 19) dX2_removeLeftRecursion_12 (by decide) (fun c8 => ?_) (fun c8 => ?_)
  · rw [if_pos c8] at h
    refine j_iconst (v := 0) dX2_removeLeftRecursion_19 (by decide) ?_
    exact J.sub (zall [1, 0] rfl) (wfX2_removeLeftRecursion_20 hd t v6 (some t) 0 G7 h hk)
  · rw [if_neg c8] at h
    refine j_iconst (v := 1) dX2_removeLeftRecursion_15 (by decide) ?_
    refine j_goto (tgt := 20) dX2_removeLeftRecursion_16 (by decide) ?_
    exact J.sub (zall [1, 0] rfl) (wfX2_removeLeftRecursion_20 hd t v6 (some t) 1 G7 h hk)
theorem yX2_removeLeftRecursion_ok {t : Nat} {G : GS} {r : Int32} {G1 : GS} (h : fX2_removeLeftRecursion_0 t G = some (r, G1)) : zRuns yX2_removeLeftRecursion (ws_ yX2_removeLeftRecursion cX2_removeLeftRecursion 2 (some Jvm.ClassFile.FieldType.int)) [vR (some t)] (.inl (some (vI r)), G, G1, 6) :=
  zentry (M := mX2_removeLeftRecursion) (plainFor_of_name (by decide +kernel)) ⟨rfl, rfl, rfl, rfl⟩ (Nat.le_of_ble_eq_true rfl) (wfX2_removeLeftRecursion_0 (Nat.le_refl _) t G h ⟨rfl, rfl⟩)
abbrev mX2_removeRule : zM := (cX2_removeRule, RX2, 2, (some Jvm.ClassFile.FieldType.int), "removeRule", [], "(I)I")
def fX2_removeRule_0 (t : Nat) (x1 : Int32)  (G : GS) : Option ((Int32) × GS) :=
  zk [2] G t <| (fX2_isRule_0 t x1 G).bind fun v3 => zk [2] G t <| zb2 (fX2_goes_0 t v3 G) fun v6 G7 => if v6 = 0 then (some (0, G7)) else (zk [2] G7 t <| (fX2_changes_0 t G7).bind fun G11 => zk [2] G11 t <| (fX2_closes_0 t x1 G11).bind fun G14 => (zgI G14 2 t 6).bind fun v15 => some (v15, G14))
theorem wfX2_removeRule_0 {F : zF} (hd : 3 ≤ F.2.2.2) (t : Nat) (x1 : Int32)  (G : GS) {a : (Int32) × GS} (h : fX2_removeRule_0 t x1  G = some a) (hk : zKI F a) : J mX2_removeRule F G 0 [(0, vR (some t)), (1, vI x1)] [] := by
  unfold fX2_removeRule_0 at h
  refine j_aload_n (j := 0) dX2_removeRule_0 rfl rfl ?_
  refine j_aload_n (j := 0) dX2_removeRule_1 rfl rfl ?_
  refine j_iload_n (j := 1) dX2_removeRule_2 rfl rfl ?_
  replace h := zkE h
  obtain ⟨e1, h⟩ := h
  replace h := zbE h
  obtain ⟨v3, e2, h⟩ := h
  refine j_cont (zrV (As := [vI x1]) msX2_164 (yX2_isRule_ok e2) (Nat.le_trans (Nat.le_of_ble_eq_true rfl) hd) (zk_2 _ e1) rfl rfl (Nat.le_of_ble_eq_true rfl) dX2_removeRule_3) ?_
  replace h := zkE h
  obtain ⟨e4, h⟩ := h
  replace h := zb2E h
  obtain ⟨v6, G7, e5, h⟩ := h
  refine j_cont (zrV (As := [vI v3]) msX2_177 (yX2_goes_ok e5) (Nat.le_trans (Nat.le_of_ble_eq_true rfl) hd) (zk_2 _ e4) rfl rfl (Nat.le_of_ble_eq_true rfl) dX2_removeRule_6) ?_
  refine j_if_ne (tgt := 14) dX2_removeRule_9 (by decide) (fun c8 => ?_) (fun c8 => ?_)
  · rw [if_pos c8] at h
    refine j_iconst (v := 0) dX2_removeRule_12 (by decide) ?_
    obtain rfl := Option.some.inj h
    exact j_iret hk.1 hk.2 rfl dX2_removeRule_13
  · rw [if_neg c8] at h
    refine j_aload_n (j := 0) dX2_removeRule_14 rfl rfl ?_
    replace h := zkE h
    obtain ⟨e9, h⟩ := h
    replace h := zbE h
    obtain ⟨G11, e10, h⟩ := h
    refine j_cont (zrV (As := []) msX2_157 (yX2_changes_ok e10) (Nat.le_trans (Nat.le_of_ble_eq_true rfl) hd) (zk_2 _ e9) rfl rfl (Nat.le_of_ble_eq_true rfl) dX2_removeRule_15) ?_
    refine j_aload_n (j := 0) dX2_removeRule_18 rfl rfl ?_
    refine j_iload_n (j := 1) dX2_removeRule_19 rfl rfl ?_
    replace h := zkE h
    obtain ⟨e12, h⟩ := h
    replace h := zbE h
    obtain ⟨G14, e13, h⟩ := h
    refine j_cont (zrV (As := [vI x1]) msX2_181 (yX2_closes_ok e13) (Nat.le_trans (Nat.le_of_ble_eq_true rfl) hd) (zk_2 _ e12) rfl rfl (Nat.le_of_ble_eq_true rfl) dX2_removeRule_20) ?_
    refine j_aload_n (j := 0) dX2_removeRule_23 rfl rfl ?_
    replace h := zbE h
    obtain ⟨v15, e16, h⟩ := h
    refine j_getI fgX2_113 (fun _ _ _ => rfl) dX2_removeRule_24 e16 ?_
    obtain rfl := Option.some.inj h
    exact j_iret hk.1 hk.2 rfl dX2_removeRule_27
theorem yX2_removeRule_ok {t : Nat} {x1 : Int32} {G : GS} {r : Int32} {G1 : GS} (h : fX2_removeRule_0 t x1 G = some (r, G1)) : zRuns yX2_removeRule (ws_ yX2_removeRule cX2_removeRule 2 (some Jvm.ClassFile.FieldType.int)) [vR (some t), vI x1] (.inl (some (vI r)), G, G1, 3) :=
  zentry (M := mX2_removeRule) (plainFor_of_name (by decide +kernel)) ⟨rfl, rfl, rfl, rfl⟩ (Nat.le_of_ble_eq_true rfl) (wfX2_removeRule_0 (Nat.le_refl _) t x1 G h ⟨rfl, rfl⟩)
abbrev mX2_ruleCount : zM := (cX2_ruleCount, RX2, 1, (some Jvm.ClassFile.FieldType.int), "ruleCount", [], "()I")
def fX2_ruleCount_0 (t : Nat)  (G : GS) : Option ((Int32) × GS) :=
  (zgI G 2 t 6).bind fun v1 => zk [2] G t <| zb2 (fX2_tellsOf_0 t v1 G) fun v5 G6 => some (v5, G6)
theorem wfX2_ruleCount_0 {F : zF} (hd : 2 ≤ F.2.2.2) (t : Nat)  (G : GS) {a : (Int32) × GS} (h : fX2_ruleCount_0 t  G = some a) (hk : zKI F a) : J mX2_ruleCount F G 0 [(0, vR (some t))] [] := by
  unfold fX2_ruleCount_0 at h
  refine j_aload_n (j := 0) dX2_ruleCount_0 rfl rfl ?_
  refine j_aload_n (j := 0) dX2_ruleCount_1 rfl rfl ?_
  replace h := zbE h
  obtain ⟨v1, e2, h⟩ := h
  refine j_getI fgX2_113 (fun _ _ _ => rfl) dX2_ruleCount_2 e2 ?_
  replace h := zkE h
  obtain ⟨e3, h⟩ := h
  replace h := zb2E h
  obtain ⟨v5, G6, e4, h⟩ := h
  refine j_cont (zrV (As := [vI v1]) msX2_184 (yX2_tellsOf_ok e4) (Nat.le_trans (Nat.le_of_ble_eq_true rfl) hd) (zk_2 _ e3) rfl rfl (Nat.le_of_ble_eq_true rfl) dX2_ruleCount_5) ?_
  obtain rfl := Option.some.inj h
  exact j_iret hk.1 hk.2 rfl dX2_ruleCount_8
theorem yX2_ruleCount_ok {t : Nat} {G : GS} {r : Int32} {G1 : GS} (h : fX2_ruleCount_0 t G = some (r, G1)) : zRuns yX2_ruleCount (ws_ yX2_ruleCount cX2_ruleCount 1 (some Jvm.ClassFile.FieldType.int)) [vR (some t)] (.inl (some (vI r)), G, G1, 2) :=
  zentry (M := mX2_ruleCount) (plainFor_of_name (by decide +kernel)) ⟨rfl, rfl, rfl, rfl⟩ (Nat.le_of_ble_eq_true rfl) (wfX2_ruleCount_0 (Nat.le_refl _) t G h ⟨rfl, rfl⟩)
theorem fgX2_34 : zFG RX2 34 1 14 (.array (.int)) := ⟨(RX2, TX2, 42, tyX2), rfl, by decide, in_X2, rfl, "SelahGeneratorModel", Or.inl rfl, Or.inl q2686⟩
abbrev mX2_shortestBy : zM := (cX2_shortestBy, RX2, 5, (some Jvm.ClassFile.FieldType.int), "shortestBy", [], "(I)I")
def fX2_shortestBy_72 (t : Nat) (x1 : Int32) (x3 : Int32) (s0 : Int32) (G : GS) : Option ((Int32 × Int32) ⊕ (Int32)) :=
  some (.inl (s0, (x3 + 1)))
theorem wfX2_shortestBy_72 {F : zF} (hd : 3 ≤ F.2.2.2) (t : Nat) (x1 : Int32) (x3 : Int32) (s0 : Int32) (G : GS) {a : (Int32 × Int32) ⊕ (Int32)} (h : fX2_shortestBy_72 t x1 x3 s0 G = some a) (hk : (zcase (fun s : Int32 × Int32 => J mX2_shortestBy F G 4 [(0, vR (some t)), (1, vI x1), (2, vI s.1), (3, vI s.2)] []) (zKPI F G)) a) : J mX2_shortestBy F G 72 [(0, vR (some t)), (1, vI x1), (3, vI x3)] [vI s0] := by
  unfold fX2_shortestBy_72 at h
  refine j_istore_n (lv' := [(2, vI s0), (0, vR (some t)), (1, vI x1), (3, vI x3)]) dX2_shortestBy_72 rfl (Nat.le_of_ble_eq_true rfl) rfl ?_
  refine j_iinc (j := 3) (v := (x3 + 1)) (lv' := [(3, vI (x3 + 1)), (2, vI s0), (0, vR (some t)), (1, vI x1)]) dX2_shortestBy_73 rfl rfl (Nat.le_of_ble_eq_true rfl) rfl ?_
  refine j_goto (tgt := 4) dX2_shortestBy_76 (by decide) ?_
  obtain rfl := Option.some.inj h
  exact J.sub (zall [2, 3, 1, 0] rfl) hk
def fX2_shortestBy_44 (t : Nat) (x1 : Int32) (x2 : Int32) (x3 : Int32) (s0 : Int32) (G : GS) : Option ((Int32 × Int32) ⊕ (Int32)) :=
  if s0 = (-1) then (zo (some (-1))) else (if (x2 + s0) ≤ 1000000 then (fX2_shortestBy_72 t x1 x3 (x2 + s0) G) else (fX2_shortestBy_72 t x1 x3 1000000 G))
theorem wfX2_shortestBy_44 {F : zF} (hd : 3 ≤ F.2.2.2) (t : Nat) (x1 : Int32) (x2 : Int32) (x3 : Int32) (s0 : Int32) (G : GS) {a : (Int32 × Int32) ⊕ (Int32)} (h : fX2_shortestBy_44 t x1 x2 x3 s0 G = some a) (hk : (zcase (fun s : Int32 × Int32 => J mX2_shortestBy F G 4 [(0, vR (some t)), (1, vI x1), (2, vI s.1), (3, vI s.2)] []) (zKPI F G)) a) : J mX2_shortestBy F G 44 [(0, vR (some t)), (1, vI x1), (2, vI x2), (3, vI x3)] [vI s0] := by
  unfold fX2_shortestBy_44 at h
  refine j_istore (lv' := [(4, vI s0), (0, vR (some t)), (1, vI x1), (2, vI x2), (3, vI x3)]) dX2_shortestBy_44 (Nat.le_of_ble_eq_true rfl) rfl ?_
  refine j_iload (j := 0) dX2_shortestBy_46 rfl ?_
  refine j_iconst (v := (-1)) dX2_shortestBy_48 (by decide) ?_
  refine j_icmp_ne (tgt := 54) dX2_shortestBy_49 (by decide) (fun c1 => ?_) (fun c1 => ?_)
  · rw [if_pos c1] at h
    replace h := zoE h
    obtain ⟨a, h, rfl⟩ := h
    replace hk := hk
    refine j_iconst (v := (-1)) dX2_shortestBy_52 (by decide) ?_
    obtain rfl := Option.some.inj h
    exact j_iret hk.1 hk.2 rfl dX2_shortestBy_53
  · rw [if_neg c1] at h
    refine j_iload_n (j := 3) dX2_shortestBy_54 rfl rfl ?_
    refine j_iload (j := 0) dX2_shortestBy_55 rfl ?_
    refine j_iadd dX2_shortestBy_57 ?_
    refine j_ldc (v := 1000000) q2962 dX2_shortestBy_58 ?_
    refine j_icmp_le (tgt := 68) dX2_shortestBy_60 (by decide) (fun c2 => ?_) (fun c2 => ?_)
    · rw [if_pos c2] at h
      refine j_iload_n (j := 3) dX2_shortestBy_68 rfl rfl ?_
      refine j_iload (j := 0) dX2_shortestBy_69 rfl ?_
      refine j_iadd dX2_shortestBy_71 ?_
      exact J.sub (zall [1, 2, 4] rfl) (wfX2_shortestBy_72 hd t x1 x3 (x2 + s0) G h hk)
    · rw [if_neg c2] at h
      refine j_ldc (v := 1000000) q2962 dX2_shortestBy_63 ?_
      refine j_goto (tgt := 72) dX2_shortestBy_65 (by decide) ?_
      exact J.sub (zall [1, 2, 4] rfl) (wfX2_shortestBy_72 hd t x1 x3 1000000 G h hk)
def fbX2_shortestBy_4 (t : Nat) (x1 : Int32) (x2 : Int32) (x3 : Int32)  (G : GS) : Option ((Int32 × Int32) ⊕ (Int32)) :=
  (zgR G 2 t 1).bind fun r1 => r1.bind fun a3 => (zaI G 50 a3 x1).bind fun v5 => if v5 ≤ x3 then (zo (some x2)) else (zk [2] G t <| (fX2_at_0 t x1 x3 G).bind fun v10 => (fX2_isTerminal_0 v10 G).bind fun v12 => if v12 = 0 then ((zgR G 2 t 14).bind fun r14 => zk [2] G t <| (fX2_at_0 t x1 x3 G).bind fun v18 => r14.bind fun a19 => (zaI G 50 a19 (v18 - 20)).bind fun v21 => fX2_shortestBy_44 t x1 x2 x3 v21 G) else (fX2_shortestBy_44 t x1 x2 x3 1 G))
def flX2_shortestBy_4 (t : Nat) (x1 : Int32) (x2 : Int32) (x3 : Int32) (G : GS) : Option (Int32) := zloop (fun s : Int32 × Int32 => fbX2_shortestBy_4 t x1 s.1 s.2 G) (x2, x3)
theorem wfbX2_shortestBy_4 {F : zF} (hd : 3 ≤ F.2.2.2) (t : Nat) (x1 : Int32) (x2 : Int32) (x3 : Int32) (G : GS) {a : (Int32 × Int32) ⊕ (Int32)} (h : fbX2_shortestBy_4 t x1 x2 x3 G = some a) (hk : (zcase (fun s : Int32 × Int32 => J mX2_shortestBy F G 4 [(0, vR (some t)), (1, vI x1), (2, vI s.1), (3, vI s.2)] []) (zKPI F G)) a) : J mX2_shortestBy F G 4 [(0, vR (some t)), (1, vI x1), (2, vI x2), (3, vI x3)] [] := by
  unfold fbX2_shortestBy_4 at h
  refine j_iload_n (j := 3) dX2_shortestBy_4 rfl rfl ?_
  refine j_aload_n (j := 0) dX2_shortestBy_5 rfl rfl ?_
  replace h := zbE h
  obtain ⟨r1, e2, h⟩ := h
  refine j_getR fgX2_13 (fun _ _ _ => rfl) dX2_shortestBy_6 e2 ?_
  refine j_iload_n (j := 1) dX2_shortestBy_9 rfl rfl ?_
  replace h := zbE h
  obtain ⟨a3, e4, h⟩ := h
  subst e4
  replace h := zbE h
  obtain ⟨v5, e6, h⟩ := h
  refine j_iald (Or.inl rfl) e6 dX2_shortestBy_10 ?_
  refine j_icmp_ge (tgt := 79) dX2_shortestBy_11 (by decide) (fun c7 => ?_) (fun c7 => ?_)
  · rw [if_pos c7] at h
    replace h := zoE h
    obtain ⟨a, h, rfl⟩ := h
    replace hk := hk
    refine j_iload_n (j := 2) dX2_shortestBy_79 rfl rfl ?_
    obtain rfl := Option.some.inj h
    exact j_iret hk.1 hk.2 rfl dX2_shortestBy_80
  · rw [if_neg c7] at h
    refine j_aload_n (j := 0) dX2_shortestBy_14 rfl rfl ?_
    refine j_iload_n (j := 1) dX2_shortestBy_15 rfl rfl ?_
    refine j_iload_n (j := 3) dX2_shortestBy_16 rfl rfl ?_
    replace h := zkE h
    obtain ⟨e8, h⟩ := h
    replace h := zbE h
    obtain ⟨v10, e9, h⟩ := h
    refine j_cont (zrV (As := [vI x1, vI x3]) msX2_187 (yX2_at_ok e9) (Nat.le_trans (Nat.le_of_ble_eq_true rfl) hd) (zk_2 _ e8) rfl rfl (Nat.le_of_ble_eq_true rfl) dX2_shortestBy_17) ?_
    replace h := zbE h
    obtain ⟨v12, e11, h⟩ := h
    refine j_cont (zrS (As := [vI v10]) msX2_167 (yX2_isTerminal_ok e11) (Nat.le_trans (Nat.le_of_ble_eq_true rfl) hd) rfl rfl (Nat.le_of_ble_eq_true rfl) dX2_shortestBy_20) ?_
    refine j_if_eq (tgt := 30) dX2_shortestBy_23 (by decide) (fun c13 => ?_) (fun c13 => ?_)
    · rw [if_pos c13] at h
      refine j_aload_n (j := 0) dX2_shortestBy_30 rfl rfl ?_
      replace h := zbE h
      obtain ⟨r14, e15, h⟩ := h
      refine j_getR fgX2_34 (fun _ _ _ => rfl) dX2_shortestBy_31 e15 ?_
      refine j_aload_n (j := 0) dX2_shortestBy_34 rfl rfl ?_
      refine j_iload_n (j := 1) dX2_shortestBy_35 rfl rfl ?_
      refine j_iload_n (j := 3) dX2_shortestBy_36 rfl rfl ?_
      replace h := zkE h
      obtain ⟨e16, h⟩ := h
      replace h := zbE h
      obtain ⟨v18, e17, h⟩ := h
      refine j_cont (zrV (As := [vI x1, vI x3]) msX2_187 (yX2_at_ok e17) (Nat.le_trans (Nat.le_of_ble_eq_true rfl) hd) (zk_2 _ e16) rfl rfl (Nat.le_of_ble_eq_true rfl) dX2_shortestBy_37) ?_
      refine j_bipush (v := 20) dX2_shortestBy_40 (by decide) ?_
      refine j_isub dX2_shortestBy_42 ?_
      replace h := zbE h
      obtain ⟨a19, e20, h⟩ := h
      subst e20
      replace h := zbE h
      obtain ⟨v21, e22, h⟩ := h
      refine j_iald (Or.inl rfl) e22 dX2_shortestBy_43 ?_
      exact J.sub (zall [0, 1, 2, 3] rfl) (wfX2_shortestBy_44 hd t x1 x2 x3 v21 G h hk)
    · rw [if_neg c13] at h
      refine j_iconst (v := 1) dX2_shortestBy_26 (by decide) ?_
      refine j_goto (tgt := 44) dX2_shortestBy_27 (by decide) ?_
      exact J.sub (zall [0, 1, 2, 3] rfl) (wfX2_shortestBy_44 hd t x1 x2 x3 1 G h hk)
theorem wflX2_shortestBy_4 {F : zF} (hd : 3 ≤ F.2.2.2) (t : Nat) (x1 : Int32) (x2 : Int32) (x3 : Int32) (G : GS) {a : Int32} (h : flX2_shortestBy_4 t x1 x2 x3 G = some a) (hk : zKPI F G a) : J mX2_shortestBy F G 4 [(0, vR (some t)), (1, vI x1), (2, vI x2), (3, vI x3)] [] := by
  unfold flX2_shortestBy_4 at h
  exact zloop_walk (P := (fun s : Int32 × Int32 => J mX2_shortestBy F G 4 [(0, vR (some t)), (1, vI x1), (2, vI s.1), (3, vI s.2)] [])) (fun s b e hk => wfbX2_shortestBy_4 hd t x1 s.1 s.2 G e hk) (x2, x3) _ h hk
def fX2_shortestBy_0 (t : Nat) (x1 : Int32)  (G : GS) : Option (Int32) :=
  flX2_shortestBy_4 t x1 0 0 G
theorem wfX2_shortestBy_0 {F : zF} (hd : 3 ≤ F.2.2.2) (t : Nat) (x1 : Int32)  (G : GS) {a : Int32} (h : fX2_shortestBy_0 t x1  G = some a) (hk : zKPI F G a) : J mX2_shortestBy F G 0 [(0, vR (some t)), (1, vI x1)] [] := by
  unfold fX2_shortestBy_0 at h
  refine j_iconst (v := 0) dX2_shortestBy_0 (by decide) ?_
  refine j_istore_n (lv' := [(2, vI 0), (0, vR (some t)), (1, vI x1)]) dX2_shortestBy_1 rfl (Nat.le_of_ble_eq_true rfl) rfl ?_
  refine j_iconst (v := 0) dX2_shortestBy_2 (by decide) ?_
  refine j_istore_n (lv' := [(3, vI 0), (2, vI 0), (0, vR (some t)), (1, vI x1)]) dX2_shortestBy_3 rfl (Nat.le_of_ble_eq_true rfl) rfl ?_
  exact J.sub (zall [2, 3, 1, 0] rfl) (wflX2_shortestBy_4 hd t x1 0 0  G h hk)
theorem yX2_shortestBy_ok {t : Nat} {x1 : Int32} {G : GS} {r : Int32} (h : fX2_shortestBy_0 t x1 G = some r) : zRuns yX2_shortestBy (ws_ yX2_shortestBy cX2_shortestBy 5 (some Jvm.ClassFile.FieldType.int)) [vR (some t), vI x1] (.inl (some (vI r)), G, G, 3) :=
  zentry (M := mX2_shortestBy) (plainFor_of_name (by decide +kernel)) ⟨rfl, rfl, rfl, rfl⟩ (Nat.le_of_ble_eq_true rfl) (wfX2_shortestBy_0 (Nat.le_refl _) t x1 G h ⟨rfl, rfl⟩)
end
