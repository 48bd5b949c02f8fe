/-! printed: functions and walks -/
set_option maxRecDepth 100000
noncomputable section
theorem fgX5_27 : zFG RX5 27 4 6 (.object "java/util/Map") := ⟨(RX5, TX5, 10, tyX5), rfl, by decide, in_X5, rfl, "SelahGenerator$Sets", Or.inl rfl, Or.inl q1157⟩
theorem fgX5_49 : zFG RX5 49 4 5 (.array (.int)) := ⟨(RX5, TX5, 10, tyX5), rfl, by decide, in_X5, rfl, "SelahGenerator$Sets", Or.inl rfl, Or.inl q1154⟩
theorem msX5_175_J2 : zSF RX5 175 RJ2 ⟨"java/util/List", "get", "(I)Ljava/lang/Object;"⟩ yJ2_get cJ2_get 2 (some (Jvm.ClassFile.FieldType.object "java/lang/Object")) 1 := ⟨lw_F q1016 q1019 q1021 q126 q1023, zfw 8 rfl, ⟨11, _, rfl, rfl⟩, (by decide +kernel), (by decide)⟩
theorem msX5_179 : zSS RX5 179 yJ26_valueOf cJ26_valueOf 1 (some (Jvm.ClassFile.FieldType.object "java/lang/Integer")) 1 := ⟨lw_S q1034 q1035 q156 q1036, (by decide +kernel), (by decide)⟩
theorem msX5_185_J22 : zSF RX5 185 RJ22 ⟨"java/util/Map", "put", "(Ljava/lang/Object;Ljava/lang/Object;)Ljava/lang/Object;"⟩ yJ22_put cJ22_put 3 (some (Jvm.ClassFile.FieldType.object "java/lang/Object")) 2 := ⟨lw_F q1054 q1058 q1060 q150 q1062, zfw 19 rfl, ⟨15, _, rfl, rfl⟩, (by decide +kernel), (by decide)⟩
abbrev mX5_predict : zM := (cX5_predict, RX5, 6, none, "predict", [], "()V")
def fX5_predict_168 (t : Nat) (x1 : Int32)  (G : GS) : Option ((Int32 × GS) ⊕ (GS)) :=
  some (.inl ((x1 + 1), G))
theorem wfX5_predict_168 {F : zF} (hd : 8 ≤ F.2.2.2) (t : Nat) (x1 : Int32)  (G : GS) {a : (Int32 × GS) ⊕ (GS)} (h : fX5_predict_168 t x1  G = some a) (hk : (zcase (fun s : Int32 × GS => J mX5_predict F s.2 2 [(0, vR (some t)), (1, vI s.1)] []) (zKV F)) a) : J mX5_predict F G 168 [(0, vR (some t)), (1, vI x1)] [] := by
  unfold fX5_predict_168 at h
  refine j_iinc (j := 1) (v := (x1 + 1)) (lv' := [(1, vI (x1 + 1)), (0, vR (some t))]) dX5_predict_168 rfl rfl (Nat.le_of_ble_eq_true rfl) rfl ?_
  refine j_goto (tgt := 2) dX5_predict_171 (by decide) ?_
  obtain rfl := Option.some.inj h
  exact J.sub (zall [1, 0] rfl) hk
def fX5_predict_162 (t : Nat) (x1 : Int32) (x2 : Option Nat) (x3 : Int32)  (G : GS) : Option ((Int32 × GS) ⊕ ((Int32 × GS) ⊕ (GS))) :=
  some (.inl ((x3 + 1), G))
theorem wfX5_predict_162 {F : zF} (hd : 8 ≤ F.2.2.2) (t : Nat) (x1 : Int32) (x2 : Option Nat) (x3 : Int32)  (G : GS) {a : (Int32 × GS) ⊕ ((Int32 × GS) ⊕ (GS))} (h : fX5_predict_162 t x1 x2 x3  G = some a) (hk : (zcase (fun s : Int32 × GS => J mX5_predict F s.2 77 [(0, vR (some t)), (1, vI x1), (2, vR x2), (3, vI s.1)] []) ((zcase (fun s : Int32 × GS => J mX5_predict F s.2 2 [(0, vR (some t)), (1, vI s.1)] []) (zKV F)))) a) : J mX5_predict F G 162 [(0, vR (some t)), (1, vI x1), (2, vR x2), (3, vI x3)] [] := by
  unfold fX5_predict_162 at h
  refine j_iinc (j := 3) (v := (x3 + 1)) (lv' := [(3, vI (x3 + 1)), (0, vR (some t)), (1, vI x1), (2, vR x2)]) dX5_predict_162 rfl rfl (Nat.le_of_ble_eq_true rfl) rfl ?_
  refine j_goto (tgt := 77) dX5_predict_165 (by decide) ?_
  obtain rfl := Option.some.inj h
  exact J.sub (zall [1, 2, 3, 0] rfl) hk
def fbX5_predict_77 (t : Nat) (x1 : Int32) (x2 : Option Nat) (x3 : Int32)  (G : GS) : Option ((Int32 × GS) ⊕ ((Int32 × GS) ⊕ (GS))) :=
  if 13 ≤ x3 then (zo (fX5_predict_168 t x1 G)) else ((zgR G 5 t 5).bind fun r2 => r2.bind fun a4 => (zaI G 50 a4 x1).bind fun v6 => if ((v6 >>> (x3 &&& 31)) &&& 1) = 0 then (fX5_predict_162 t x1 x2 x3 G) else (x2.bind fun a9 => (zgI G 3 a9 0).bind fun v11 => (zgR G 5 t 6).bind fun r13 => zb2 (fJ26_valueOf_0 ((13 * v11) + x3) G) fun r16 G17 => zb2 (fJ26_valueOf_0 x1 G17) fun r19 G20 => r13.bind fun a21 => zk [16] G20 a21 <| zb2 (fJ22_put_0 a21 r16 r19 G20) fun r25 G26 => zkq [21, 61] G26 r25 (zopt r25 (fX5_predict_162 t x1 (some a9) x3 G26) (fun a28 => (zgR G26 5 t 6).bind fun r29 => zb2 (fJ26_valueOf_0 ((13 * v11) + x3) G26) fun r32 G33 => zb2 (fJ26_valueOf_0 (-2) G33) fun r35 G36 => r29.bind fun a37 => zk [16] G36 a37 <| zb2 (fJ22_put_0 a37 r32 r35 G36) fun r41 G42 => zkq [21, 61] G42 r41 (fX5_predict_162 t x1 (some a9) x3 G42)))))
def flX5_predict_77 (t : Nat) (x1 : Int32) (x2 : Option Nat) (x3 : Int32) (G : GS) : Option ((Int32 × GS) ⊕ (GS)) := zloop (fun s : Int32 × GS => fbX5_predict_77 t x1 x2 s.1 s.2) (x3, G)
theorem wfbX5_predict_77 {F : zF} (hd : 8 ≤ F.2.2.2) (t : Nat) (x1 : Int32) (x2 : Option Nat) (x3 : Int32) (G : GS) {a : (Int32 × GS) ⊕ ((Int32 × GS) ⊕ (GS))} (h : fbX5_predict_77 t x1 x2 x3 G = some a) (hk : (zcase (fun s : Int32 × GS => J mX5_predict F s.2 77 [(0, vR (some t)), (1, vI x1), (2, vR x2), (3, vI s.1)] []) ((zcase (fun s : Int32 × GS => J mX5_predict F s.2 2 [(0, vR (some t)), (1, vI s.1)] []) (zKV F)))) a) : J mX5_predict F G 77 [(0, vR (some t)), (1, vI x1), (2, vR x2), (3, vI x3)] [] := by
  unfold fbX5_predict_77 at h
  refine j_iload_n (j := 3) dX5_predict_77 rfl rfl ?_
  refine j_bipush (v := 13) dX5_predict_78 (by decide) ?_
  refine j_icmp_ge (tgt := 168) dX5_predict_80 (by decide) (fun c1 => ?_) (fun c1 => ?_)
  · rw [if_pos c1] at h
    replace h := zoE h
    obtain ⟨a, h, rfl⟩ := h
    replace hk := hk
    exact J.sub (zall [0, 1] rfl) (wfX5_predict_168 hd t x1  G h hk)
  · rw [if_neg c1] at h
    refine j_aload_n (j := 0) dX5_predict_83 rfl rfl ?_
    replace h := zbE h
    obtain ⟨r2, e3, h⟩ := h
    refine j_getR fgX5_49 (fun _ _ _ => rfl) dX5_predict_84 e3 ?_
    refine j_iload_n (j := 1) dX5_predict_87 rfl rfl ?_
    replace h := zbE h
    obtain ⟨a4, e5, h⟩ := h
    subst e5
    replace h := zbE h
    obtain ⟨v6, e7, h⟩ := h
    refine j_iald (Or.inl rfl) e7 dX5_predict_88 ?_
    refine j_iload_n (j := 3) dX5_predict_89 rfl rfl ?_
    refine j_ishr dX5_predict_90 ?_
    refine j_iconst (v := 1) dX5_predict_91 (by decide) ?_
    refine j_iand dX5_predict_92 ?_
    refine j_if_ne (tgt := 99) dX5_predict_93 (by decide) (fun c8 => ?_) (fun c8 => ?_)
    · rw [if_pos c8] at h
      refine j_goto (tgt := 162) dX5_predict_96 (by decide) ?_
      exact J.sub (zall [0, 1, 2, 3] rfl) (wfX5_predict_162 hd t x1 x2 x3  G h hk)
    · rw [if_neg c8] at h
      refine j_bipush (v := 13) dX5_predict_99 (by decide) ?_
      refine j_aload_n (j := 2) dX5_predict_101 rfl rfl ?_
      replace h := zbE h
      obtain ⟨a9, e10, h⟩ := h
      subst e10
      replace h := zbE h
      obtain ⟨v11, e12, h⟩ := h
      refine j_getI fgX5_101 (fun _ _ _ => rfl) dX5_predict_102 e12 ?_
      refine j_imul dX5_predict_105 ?_
      refine j_iload_n (j := 3) dX5_predict_106 rfl rfl ?_
      refine j_iadd dX5_predict_107 ?_
      refine j_istore (lv' := [(4, vI ((13 * v11) + x3)), (0, vR (some t)), (1, vI x1), (2, vR (some a9)), (3, vI x3)]) dX5_predict_108 (Nat.le_of_ble_eq_true rfl) rfl ?_
      refine j_aload_n (j := 1) dX5_predict_110 rfl rfl ?_
      replace h := zbE h
      obtain ⟨r13, e14, h⟩ := h
      refine j_getR fgX5_27 (fun _ _ _ => rfl) dX5_predict_111 e14 ?_
      refine j_iload (j := 0) dX5_predict_114 rfl ?_
      replace h := zb2E h
      obtain ⟨r16, G17, e15, h⟩ := h
      refine j_cont (zrS (As := [vI ((13 * v11) + x3)]) msX5_179 (yJ26_valueOf_ok e15) (Nat.le_trans (Nat.le_of_ble_eq_true rfl) hd) rfl rfl (Nat.le_of_ble_eq_true rfl) dX5_predict_116) ?_
      refine j_iload_n (j := 2) dX5_predict_119 rfl rfl ?_
      replace h := zb2E h
      obtain ⟨r19, G20, e18, h⟩ := h
      refine j_cont (zrS (As := [vI x1]) msX5_179 (yJ26_valueOf_ok e18) (Nat.le_trans (Nat.le_of_ble_eq_true rfl) hd) rfl rfl (Nat.le_of_ble_eq_true rfl) dX5_predict_120) ?_
      replace h := zbE h
      obtain ⟨a21, e22, h⟩ := h
      subst e22
      replace h := zkE h
      obtain ⟨e23, h⟩ := h
      replace h := zb2E h
      obtain ⟨r25, G26, e24, h⟩ := h
      refine j_cont (zrF (As := [vR r16, vR r19]) msX5_185_J22 (yJ22_put_ok e24) (Nat.le_trans (Nat.le_of_ble_eq_true rfl) hd) (zk_16 _ e23) rfl rfl (Nat.le_of_ble_eq_true rfl) dX5_predict_123) ?_
      replace h := zkqE h
      obtain ⟨e27, h⟩ := h
      refine j_castq (fun k => j_castN dX5_predict_128 k) (fun b q45 k => j_castS (zk_21_61 _ (e27 b q45)) ⟨20, _, rfl, rfl⟩ q1144 dX5_predict_128 k) ?_
      refine j_astore (lv' := [(5, vR r25), (4, vI ((13 * v11) + x3)), (0, vR (some t)), (1, vI x1), (2, vR (some a9)), (3, vI x3)]) dX5_predict_131 (Nat.le_of_ble_eq_true rfl) rfl ?_
      refine j_aload (j := 0) dX5_predict_133 rfl ?_
      rcases r25 with _ | a28
      · replace h := zopt_n h
        refine j_ifnull0 (tgt := 162) dX5_predict_135 (by decide) ?_
        exact J.sub (zall [2, 3, 4, 5] rfl) (wfX5_predict_162 hd t x1 (some a9) x3  G26 h hk)
      · replace h := zopt_s h
        refine j_ifnull1 dX5_predict_135 ?_
        refine j_aload_n (j := 2) dX5_predict_138 rfl rfl ?_
        replace h := zbE h
        obtain ⟨r29, e30, h⟩ := h
        refine j_getR fgX5_27 (fun _ _ _ => rfl) dX5_predict_139 e30 ?_
        refine j_iload (j := 1) dX5_predict_142 rfl ?_
        replace h := zb2E h
        obtain ⟨r32, G33, e31, h⟩ := h
        refine j_cont (zrS (As := [vI ((13 * v11) + x3)]) msX5_179 (yJ26_valueOf_ok e31) (Nat.le_trans (Nat.le_of_ble_eq_true rfl) hd) rfl rfl (Nat.le_of_ble_eq_true rfl) dX5_predict_144) ?_
        refine j_bipush (v := (-2)) dX5_predict_147 (by decide) ?_
        replace h := zb2E h
        obtain ⟨r35, G36, e34, h⟩ := h
        refine j_cont (zrS (As := [vI (-2)]) msX5_179 (yJ26_valueOf_ok e34) (Nat.le_trans (Nat.le_of_ble_eq_true rfl) hd) rfl rfl (Nat.le_of_ble_eq_true rfl) dX5_predict_149) ?_
        replace h := zbE h
        obtain ⟨a37, e38, h⟩ := h
        subst e38
        replace h := zkE h
        obtain ⟨e39, h⟩ := h
        replace h := zb2E h
        obtain ⟨r41, G42, e40, h⟩ := h
        refine j_cont (zrF (As := [vR r32, vR r35]) msX5_185_J22 (yJ22_put_ok e40) (Nat.le_trans (Nat.le_of_ble_eq_true rfl) hd) (zk_16 _ e39) rfl rfl (Nat.le_of_ble_eq_true rfl) dX5_predict_152) ?_
        replace h := zkqE h
        obtain ⟨e43, h⟩ := h
        refine j_castq (fun k => j_castN dX5_predict_157 k) (fun b q44 k => j_castS (zk_21_61 _ (e43 b q44)) ⟨20, _, rfl, rfl⟩ q1144 dX5_predict_157 k) ?_
        refine j_astore (lv' := [(5, vR r41), (4, vI ((13 * v11) + x3)), (0, vR (some t)), (1, vI x1), (2, vR (some a9)), (3, vI x3)]) dX5_predict_160 (Nat.le_of_ble_eq_true rfl) rfl ?_
        exact J.sub (zall [2, 3, 4, 5] rfl) (wfX5_predict_162 hd t x1 (some a9) x3  G42 h hk)
theorem wflX5_predict_77 {F : zF} (hd : 8 ≤ F.2.2.2) (t : Nat) (x1 : Int32) (x2 : Option Nat) (x3 : Int32) (G : GS) {a : (Int32 × GS) ⊕ (GS)} (h : flX5_predict_77 t x1 x2 x3 G = some a) (hk : (zcase (fun s : Int32 × GS => J mX5_predict F s.2 2 [(0, vR (some t)), (1, vI s.1)] []) (zKV F)) a) : J mX5_predict F G 77 [(0, vR (some t)), (1, vI x1), (2, vR x2), (3, vI x3)] [] := by
  unfold flX5_predict_77 at h
  exact zloop_walk (P := (fun s : Int32 × GS => J mX5_predict F s.2 77 [(0, vR (some t)), (1, vI x1), (2, vR x2), (3, vI s.1)] [])) (fun s b e hk => wfbX5_predict_77 hd t x1 x2 s.1 s.2 e hk) (x3, G) _ h hk
def fX5_predict_75 (t : Nat) (x1 : Int32) (x2 : Option Nat)  (G : GS) : Option ((Int32 × GS) ⊕ (GS)) :=
  flX5_predict_77 t x1 x2 0 G
theorem wfX5_predict_75 {F : zF} (hd : 8 ≤ F.2.2.2) (t : Nat) (x1 : Int32) (x2 : Option Nat)  (G : GS) {a : (Int32 × GS) ⊕ (GS)} (h : fX5_predict_75 t x1 x2  G = some a) (hk : (zcase (fun s : Int32 × GS => J mX5_predict F s.2 2 [(0, vR (some t)), (1, vI s.1)] []) (zKV F)) a) : J mX5_predict F G 75 [(0, vR (some t)), (1, vI x1), (2, vR x2)] [] := by
  unfold fX5_predict_75 at h
  refine j_iconst (v := 0) dX5_predict_75 (by decide) ?_
  refine j_istore_n (lv' := [(3, vI 0), (0, vR (some t)), (1, vI x1), (2, vR x2)]) dX5_predict_76 rfl (Nat.le_of_ble_eq_true rfl) rfl ?_
  exact J.sub (zall [1, 2, 3, 0] rfl) (wflX5_predict_77 hd t x1 x2 0  G h hk)
def fbX5_predict_2 (t : Nat) (x1 : Int32)  (G : GS) : Option ((Int32 × GS) ⊕ (GS)) :=
  (zgR G 5 t 5).bind fun r1 => r1.bind fun a3 => (zln G a3).bind fun v5 => if v5 ≤ x1 then (zo (some G)) else ((zgR G 5 t 0).bind fun r8 => r8.bind fun a10 => zk [12] G a10 <| (fJ2_get_0 a10 x1 G).bind fun r14 => zkq [3] G r14 ((zgR G 5 t 5).bind fun r16 => zk [5] G t <| (fX5_firstFrom_0 t r14 0 G).bind fun v20 => r16.bind fun a21 => (zsI G 50 a21 x1 v20).bind fun G23 => r14.bind fun a25 => (zgR G23 3 a25 1).bind fun r27 => r27.bind fun a29 => (zln G23 a29).bind fun v31 => (zgR G23 5 t 7).bind fun r33 => zk [3] G23 a25 <| (fX3_all_0 a25 0 v31 r33 G23).bind fun v37 => if v37 = 0 then (fX5_predict_75 t x1 (some a25) G23) else ((zgR G23 5 t 5).bind fun r39 => r39.bind fun a41 => (zaI G23 50 a41 x1).bind fun v43 => (zgR G23 5 t 2).bind fun r45 => (zgI G23 3 a25 0).bind fun v47 => r45.bind fun a49 => (zaI G23 50 a49 (v47 - 20)).bind fun v51 => (zsI G23 50 a41 x1 (v43 ||| v51)).bind fun G53 => fX5_predict_75 t x1 (some a25) G53)))
def flX5_predict_2 (t : Nat) (x1 : Int32) (G : GS) : Option (GS) := zloop (fun s : Int32 × GS => fbX5_predict_2 t s.1 s.2) (x1, G)
theorem wfbX5_predict_2 {F : zF} (hd : 8 ≤ F.2.2.2) (t : Nat) (x1 : Int32) (G : GS) {a : (Int32 × GS) ⊕ (GS)} (h : fbX5_predict_2 t x1 G = some a) (hk : (zcase (fun s : Int32 × GS => J mX5_predict F s.2 2 [(0, vR (some t)), (1, vI s.1)] []) (zKV F)) a) : J mX5_predict F G 2 [(0, vR (some t)), (1, vI x1)] [] := by
  unfold fbX5_predict_2 at h
  refine j_iload_n (j := 1) dX5_predict_2 rfl rfl ?_
  refine j_aload_n (j := 0) dX5_predict_3 rfl rfl ?_
  replace h := zbE h
  obtain ⟨r1, e2, h⟩ := h
  refine j_getR fgX5_49 (fun _ _ _ => rfl) dX5_predict_4 e2 ?_
  replace h := zbE h
  obtain ⟨a3, e4, h⟩ := h
  subst e4
  replace h := zbE h
  obtain ⟨v5, e6, h⟩ := h
  refine j_alen e6 dX5_predict_7 ?_
  refine j_icmp_ge (tgt := 174) dX5_predict_8 (by decide) (fun c7 => ?_) (fun c7 => ?_)
  · rw [if_pos c7] at h
    replace h := zoE h
    obtain ⟨a, h, rfl⟩ := h
    replace hk := hk
    obtain rfl := Option.some.inj h
    exact j_vret hk.1 hk.2 rfl dX5_predict_174
  · rw [if_neg c7] at h
    refine j_aload_n (j := 0) dX5_predict_11 rfl rfl ?_
    replace h := zbE h
    obtain ⟨r8, e9, h⟩ := h
    refine j_getR fgX5_39 (fun _ _ _ => rfl) dX5_predict_12 e9 ?_
    refine j_iload_n (j := 1) dX5_predict_15 rfl rfl ?_
    replace h := zbE h
    obtain ⟨a10, e11, h⟩ := h
    subst e11
    replace h := zkE h
    obtain ⟨e12, h⟩ := h
    replace h := zbE h
    obtain ⟨r14, e13, h⟩ := h
    refine j_cont (zrF (As := [vI x1]) msX5_175_J2 (yJ2_get_ok e13) (Nat.le_trans (Nat.le_of_ble_eq_true rfl) hd) (zk_12 _ e12) rfl rfl (Nat.le_of_ble_eq_true rfl) dX5_predict_16) ?_
    replace h := zkqE h
    obtain ⟨e15, h⟩ := h
    refine j_castq (fun k => j_castN dX5_predict_21 k) (fun b q55 k => j_castS (zk_3 _ (e15 b q55)) ⟨2, _, rfl, rfl⟩ q476 dX5_predict_21 k) ?_
    refine j_astore_n (lv' := [(2, vR r14), (0, vR (some t)), (1, vI x1)]) dX5_predict_24 rfl (Nat.le_of_ble_eq_true rfl) rfl ?_
    refine j_aload_n (j := 1) dX5_predict_25 rfl rfl ?_
    replace h := zbE h
    obtain ⟨r16, e17, h⟩ := h
    refine j_getR fgX5_49 (fun _ _ _ => rfl) dX5_predict_26 e17 ?_
    refine j_iload_n (j := 2) dX5_predict_29 rfl rfl ?_
    refine j_aload_n (j := 1) dX5_predict_30 rfl rfl ?_
    refine j_aload_n (j := 0) dX5_predict_31 rfl rfl ?_
    refine j_iconst (v := 0) dX5_predict_32 (by decide) ?_
    replace h := zkE h
    obtain ⟨e18, h⟩ := h
    replace h := zbE h
    obtain ⟨v20, e19, h⟩ := h
    refine j_cont (zrV (As := [vR r14, vI 0]) msX5_114 (yX5_firstFrom_ok e19) (Nat.le_trans (Nat.le_of_ble_eq_true rfl) hd) (zk_5 _ e18) rfl rfl (Nat.le_of_ble_eq_true rfl) dX5_predict_33) ?_
    replace h := zbE h
    obtain ⟨a21, e22, h⟩ := h
    subst e22
    replace h := zbE h
    obtain ⟨G23, e24, h⟩ := h
    refine j_iast e24 dX5_predict_36 ?_
    refine j_aload_n (j := 0) dX5_predict_37 rfl rfl ?_
    refine j_iconst (v := 0) dX5_predict_38 (by decide) ?_
    refine j_aload_n (j := 0) dX5_predict_39 rfl rfl ?_
    replace h := zbE h
    obtain ⟨a25, e26, h⟩ := h
    subst e26
    replace h := zbE h
    obtain ⟨r27, e28, h⟩ := h
    refine j_getR fgX5_94 (fun _ _ _ => rfl) dX5_predict_40 e28 ?_
    replace h := zbE h
    obtain ⟨a29, e30, h⟩ := h
    subst e30
    replace h := zbE h
    obtain ⟨v31, e32, h⟩ := h
    refine j_alen e32 dX5_predict_43 ?_
    refine j_aload_n (j := 1) dX5_predict_44 rfl rfl ?_
    replace h := zbE h
    obtain ⟨r33, e34, h⟩ := h
    refine j_getR fgX5_35 (fun _ _ _ => rfl) dX5_predict_45 e34 ?_
    replace h := zkE h
    obtain ⟨e35, h⟩ := h
    replace h := zbE h
    obtain ⟨v37, e36, h⟩ := h
    refine j_cont (zrV (As := [vI 0, vI v31, vR r33]) msX5_97 (yX3_all_ok e36) (Nat.le_trans (Nat.le_of_ble_eq_true rfl) hd) (zk_3 _ e35) rfl rfl (Nat.le_of_ble_eq_true rfl) dX5_predict_48) ?_
    refine j_if_eq (tgt := 75) dX5_predict_51 (by decide) (fun c38 => ?_) (fun c38 => ?_)
    · rw [if_pos c38] at h
      exact J.sub (zall [1, 2, 0] rfl) (wfX5_predict_75 hd t x1 (some a25)  G23 h hk)
    · rw [if_neg c38] at h
      refine j_aload_n (j := 1) dX5_predict_54 rfl rfl ?_
      replace h := zbE h
      obtain ⟨r39, e40, h⟩ := h
      refine j_getR fgX5_49 (fun _ _ _ => rfl) dX5_predict_55 e40 ?_
      refine j_iload_n (j := 2) dX5_predict_58 rfl rfl ?_
      refine j_dup2_11 dX5_predict_59 rfl rfl ?_
      replace h := zbE h
      obtain ⟨a41, e42, h⟩ := h
      subst e42
      replace h := zbE h
      obtain ⟨v43, e44, h⟩ := h
      refine j_iald (Or.inl rfl) e44 dX5_predict_60 ?_
      refine j_aload_n (j := 1) dX5_predict_61 rfl rfl ?_
      replace h := zbE h
      obtain ⟨r45, e46, h⟩ := h
      refine j_getR fgX5_15 (fun _ _ _ => rfl) dX5_predict_62 e46 ?_
      refine j_aload_n (j := 0) dX5_predict_65 rfl rfl ?_
      replace h := zbE h
      obtain ⟨v47, e48, h⟩ := h
      refine j_getI fgX5_101 (fun _ _ _ => rfl) dX5_predict_66 e48 ?_
      refine j_bipush (v := 20) dX5_predict_69 (by decide) ?_
      refine j_isub dX5_predict_71 ?_
      replace h := zbE h
      obtain ⟨a49, e50, h⟩ := h
      subst e50
      replace h := zbE h
      obtain ⟨v51, e52, h⟩ := h
      refine j_iald (Or.inl rfl) e52 dX5_predict_72 ?_
      refine j_ior dX5_predict_73 ?_
      replace h := zbE h
      obtain ⟨G53, e54, h⟩ := h
      refine j_iast e54 dX5_predict_74 ?_
      exact J.sub (zall [1, 2, 0] rfl) (wfX5_predict_75 hd t x1 (some a25)  G53 h hk)
theorem wflX5_predict_2 {F : zF} (hd : 8 ≤ F.2.2.2) (t : Nat) (x1 : Int32) (G : GS) {a : GS} (h : flX5_predict_2 t x1 G = some a) (hk : zKV F a) : J mX5_predict F G 2 [(0, vR (some t)), (1, vI x1)] [] := by
  unfold flX5_predict_2 at h
  exact zloop_walk (P := (fun s : Int32 × GS => J mX5_predict F s.2 2 [(0, vR (some t)), (1, vI s.1)] [])) (fun s b e hk => wfbX5_predict_2 hd t s.1 s.2 e hk) (x1, G) _ h hk
def fX5_predict_0 (t : Nat)  (G : GS) : Option (GS) :=
  flX5_predict_2 t 0 G
theorem wfX5_predict_0 {F : zF} (hd : 8 ≤ F.2.2.2) (t : Nat)  (G : GS) {a : GS} (h : fX5_predict_0 t  G = some a) (hk : zKV F a) : J mX5_predict F G 0 [(0, vR (some t))] [] := by
  unfold fX5_predict_0 at h
  refine j_iconst (v := 0) dX5_predict_0 (by decide) ?_
  refine j_istore_n (lv' := [(1, vI 0), (0, vR (some t))]) dX5_predict_1 rfl (Nat.le_of_ble_eq_true rfl) rfl ?_
  exact J.sub (zall [1, 0] rfl) (wflX5_predict_2 hd t 0  G h hk)
theorem yX5_predict_ok {t : Nat} {G : GS} {G1 : GS} (h : fX5_predict_0 t G = some G1) : zRuns yX5_predict (ws_ yX5_predict cX5_predict 6 none) [vR (some t)] (.inl none, G, G1, 8) :=
  zentry (M := mX5_predict) (plainFor_of_name (by decide +kernel)) ⟨rfl, rfl, rfl, rfl⟩ (Nat.le_of_ble_eq_true rfl) (wfX5_predict_0 (Nat.le_refl _) t G h ⟨rfl, rfl⟩)
theorem fpX5_15_X5 : zFP RX5 15 4 2 (.array (.int)) true := ⟨(RX5, TX5, 10, tyX5), rfl, by decide, in_X5, tyX5_ok, nmX5, rfl, rfl, (by intro _; rfl), "SelahGenerator$Sets", Or.inl rfl, q1148⟩
theorem fpX5_18_X5 : zFP RX5 18 4 3 (.array (.int)) true := ⟨(RX5, TX5, 10, tyX5), rfl, by decide, in_X5, tyX5_ok, nmX5, rfl, rfl, (by intro _; rfl), "SelahGenerator$Sets", Or.inl rfl, q1151⟩
theorem fpX5_21_X5 : zFP RX5 21 4 4 (.array (.int)) true := ⟨(RX5, TX5, 10, tyX5), rfl, by decide, in_X5, tyX5_ok, nmX5, rfl, rfl, (by intro _; rfl), "SelahGenerator$Sets", Or.inl rfl, q1153⟩
theorem fpX5_27_X5 : zFP RX5 27 4 6 (.object "java/util/Map") true := ⟨(RX5, TX5, 10, tyX5), rfl, by decide, in_X5, tyX5_ok, nmX5, rfl, rfl, (by intro _; rfl), "SelahGenerator$Sets", Or.inl rfl, q1157⟩
theorem fpX5_35_X5 : zFP RX5 35 4 7 (.object "SelahGenerator$Test") true := ⟨(RX5, TX5, 10, tyX5), rfl, by decide, in_X5, tyX5_ok, nmX5, rfl, rfl, (by intro _; rfl), "SelahGenerator$Sets", Or.inl rfl, q1159⟩
theorem fpX5_39_X5 : zFP RX5 39 4 0 (.object "java/util/List") true := ⟨(RX5, TX5, 10, tyX5), rfl, by decide, in_X5, tyX5_ok, nmX5, rfl, rfl, (by intro _; rfl), "SelahGenerator$Sets", Or.inl rfl, q1145⟩
theorem fpX5_49_X5 : zFP RX5 49 4 5 (.array (.int)) true := ⟨(RX5, TX5, 10, tyX5), rfl, by decide, in_X5, tyX5_ok, nmX5, rfl, rfl, (by intro _; rfl), "SelahGenerator$Sets", Or.inl rfl, q1154⟩
theorem fpX5_9_X5 : zFP RX5 9 4 1 (.array (.int)) true := ⟨(RX5, TX5, 10, tyX5), rfl, by decide, in_X5, tyX5_ok, nmX5, rfl, rfl, (by intro _; rfl), "SelahGenerator$Sets", Or.inl rfl, q1146⟩
theorem msX5_26 : zSI RX5 26 yJ22_init cJ22_init 1 0 := ⟨q424, q150, q422, q423, rfl, (by decide +kernel), (by decide)⟩
theorem msX5_43_J2 : zSF RX5 43 RJ2 ⟨"java/util/List", "size", "()I"⟩ yJ2_size cJ2_size 1 (some Jvm.ClassFile.FieldType.int) 0 := ⟨lw_F q465 q272 q274 q126 q276, zfw 15 rfl, ⟨11, _, rfl, rfl⟩, (by decide +kernel), (by decide)⟩
theorem msX5_52 : zSV RX5 52 RX5 yX5_findNullable cX5_findNullable 4 none 0 := ⟨lw_V q466 q468 qs2 q151 q469, (by decide +kernel), (by decide)⟩
theorem msX5_55 : zSV RX5 55 RX5 yX5_findFirst cX5_findFirst 6 none 0 := ⟨lw_V q485 q487 qs3 q151 q488, (by decide +kernel), (by decide)⟩
theorem msX5_58 : zSV RX5 58 RX5 yX5_findFollow cX5_findFollow 6 none 0 := ⟨lw_V q497 q499 qs4 q151 q500, (by decide +kernel), (by decide)⟩
theorem msX5_61 : zSV RX5 61 RX5 yX5_findShortest cX5_findShortest 3 none 0 := ⟨lw_V q617 q619 qs6 q151 q620, (by decide +kernel), (by decide)⟩
theorem msX5_64 : zSV RX5 64 RX5 yX5_findBegins cX5_findBegins 4 none 0 := ⟨lw_V q1007 q1009 qs12 q151 q1010, (by decide +kernel), (by decide)⟩
theorem msX5_67 : zSV RX5 67 RX5 yX5_predict cX5_predict 6 none 0 := ⟨lw_V q1011 q1013 qs13 q151 q1014, (by decide +kernel), (by decide)⟩
abbrev mX5_init : zM := (cX5_init, RX5, 2, none, "<init>", [], "(Ljava/util/List;)V")
def fX5_init_0 (t : Nat) (x1 : Option Nat)  (G : GS) : Option (GS) :=
  (zna G 50 (12 : Int32)).bind fun G1 => (zpR G1 5 t 1 (some (gz G))).bind fun G3 => (zna G3 50 (12 : Int32)).bind fun G5 => (zpR G5 5 t 2 (some (gz G3))).bind fun G7 => (zna G7 50 (12 : Int32)).bind fun G9 => (zpR G9 5 t 3 (some (gz G7))).bind fun G11 => (zna G11 50 (12 : Int32)).bind fun G13 => (zpR G13 5 t 4 (some (gz G11))).bind fun G15 => zl (al G15 16 0 9) fun G17 => (fJ22_init_0 (gz G15) G17).bind fun G20 => (zpR G20 5 t 6 (some (gz G15))).bind fun G21 => zk [5] G21 t <| zl (sR (al G21 64 0 1) (gz G21) 0 (some t)) fun G23 => (zpR G23 5 t 7 (some (gz G21))).bind fun G26 => (zpR G26 5 t 0 x1).bind fun G28 => x1.bind fun a30 => zk [12] G28 a30 <| (fJ2_size_0 a30 G28).bind fun v34 => (zna G28 50 v34).bind fun G35 => (zpR G35 5 t 5 (some (gz G28))).bind fun G37 => zk [5] G37 t <| (fX5_findNullable_0 t G37).bind fun G41 => zk [5] G41 t <| (fX5_findFirst_0 t G41).bind fun G44 => zk [5] G44 t <| (fX5_findFollow_0 t G44).bind fun G47 => zk [5] G47 t <| (fX5_findShortest_0 t G47).bind fun G50 => zk [5] G50 t <| (fX5_findBegins_0 t G50).bind fun G53 => zk [5] G53 t <| (fX5_predict_0 t G53).bind fun G56 => some G56
theorem wfX5_init_0 {F : zF} (hd : 50 ≤ F.2.2.2) (t : Nat) (x1 : Option Nat)  (G : GS) {a : GS} (h : fX5_init_0 t x1  G = some a) (hk : zKV F a) : J mX5_init F G 0 [(0, vR (some t)), (1, vR x1)] [] := by
  unfold fX5_init_0 at h
  refine j_aload_n (j := 0) dX5_init_0 rfl rfl ?_
  refine j_objinit q419 q181 q182 (Nat.le_trans (Nat.le_of_ble_eq_true rfl) hd) (Nat.le_of_ble_eq_true rfl) dX5_init_1 ?_
  refine j_aload_n (j := 0) dX5_init_4 rfl rfl ?_
  refine j_bipush (v := 12) dX5_init_5 (by decide) ?_
  replace h := zbE h
  obtain ⟨G1, e2, h⟩ := h
  refine j_newa (t := 0) (ty := .int) rfl rfl q455 (fun _ _ _ e1 e2 e3 => by simp only [zfv, e1, e2, e3] <;> rfl) (by decide) (fun _ _ h => h) e2 dX5_init_7 ?_
  replace h := zbE h
  obtain ⟨G3, e4, h⟩ := h
  refine j_putR fpX5_9_X5 (Or.inr rfl) (Or.inr ⟨_, rfl⟩) dX5_init_9 e4 ?_
  refine j_aload_n (j := 0) dX5_init_12 rfl rfl ?_
  refine j_bipush (v := 12) dX5_init_13 (by decide) ?_
  replace h := zbE h
  obtain ⟨G5, e6, h⟩ := h
  refine j_newa (t := 0) (ty := .int) rfl rfl q455 (fun _ _ _ e1 e2 e3 => by simp only [zfv, e1, e2, e3] <;> rfl) (by decide) (fun _ _ h => h) e6 dX5_init_15 ?_
  replace h := zbE h
  obtain ⟨G7, e8, h⟩ := h
  refine j_putR fpX5_15_X5 (Or.inr rfl) (Or.inr ⟨_, rfl⟩) dX5_init_17 e8 ?_
  refine j_aload_n (j := 0) dX5_init_20 rfl rfl ?_
  refine j_bipush (v := 12) dX5_init_21 (by decide) ?_
  replace h := zbE h
  obtain ⟨G9, e10, h⟩ := h
  refine j_newa (t := 0) (ty := .int) rfl rfl q455 (fun _ _ _ e1 e2 e3 => by simp only [zfv, e1, e2, e3] <;> rfl) (by decide) (fun _ _ h => h) e10 dX5_init_23 ?_
  replace h := zbE h
  obtain ⟨G11, e12, h⟩ := h
  refine j_putR fpX5_18_X5 (Or.inr rfl) (Or.inr ⟨_, rfl⟩) dX5_init_25 e12 ?_
  refine j_aload_n (j := 0) dX5_init_28 rfl rfl ?_
  refine j_bipush (v := 12) dX5_init_29 (by decide) ?_
  replace h := zbE h
  obtain ⟨G13, e14, h⟩ := h
  refine j_newa (t := 0) (ty := .int) rfl rfl q455 (fun _ _ _ e1 e2 e3 => by simp only [zfv, e1, e2, e3] <;> rfl) (by decide) (fun _ _ h => h) e14 dX5_init_31 ?_
  replace h := zbE h
  obtain ⟨G15, e16, h⟩ := h
  refine j_putR fpX5_21_X5 (Or.inr rfl) (Or.inr ⟨_, rfl⟩) dX5_init_33 e16 ?_
  refine j_aload_n (j := 0) dX5_init_36 rfl rfl ?_
  replace h := zlE h
  obtain ⟨G17, e18, h⟩ := h
  refine j_new (c := 15) (n := 9) (r := (RJ22, TJ22, 9, tyJ22)) rfl rfl in_J22 tyJ22_ok nwJ22 q420 q421 q150 dX5_init_37 ?_
  rw [show al G15 (15 + 1) 0 9 = G17 from e18.symm]
  refine j_dup dX5_init_40 rfl ?_
  replace h := zbE h
  obtain ⟨G20, e19, h⟩ := h
  refine j_cont (zrI (As := []) msX5_26 (yJ22_init_ok e19) (Nat.le_trans (Nat.le_of_ble_eq_true rfl) hd) rfl rfl (Nat.le_of_ble_eq_true rfl) dX5_init_41) ?_
  replace h := zbE h
  obtain ⟨G21, e22, h⟩ := h
  refine j_putR fpX5_27_X5 (Or.inr rfl) (Or.inl ⟨_, rfl⟩) dX5_init_44 e22 ?_
  refine j_aload_n (j := 0) dX5_init_47 rfl rfl ?_
  refine j_aload_n (j := 0) dX5_init_48 rfl rfl ?_
  replace h := zkE h
  obtain ⟨e25, h⟩ := h
  replace h := zlE h
  obtain ⟨G23, e24, h⟩ := h
  refine j_lam ⟨rfl, rfl, rfl⟩ (zKc_one e25) (Nat.le_trans (Nat.le_of_ble_eq_true rfl) hd) (Nat.le_of_ble_eq_true rfl) dX5_init_49 ?_
  rw [show sR (al G21 64 0 1) (gz G21) 0 (some t) = G23 from e24.symm]
  replace h := zbE h
  obtain ⟨G26, e27, h⟩ := h
  refine j_putR fpX5_35_X5 (Or.inr rfl) (Or.inl ⟨_, rfl⟩) dX5_init_54 e27 ?_
  refine j_aload_n (j := 0) dX5_init_57 rfl rfl ?_
  refine j_aload_n (j := 1) dX5_init_58 rfl rfl ?_
  replace h := zbE h
  obtain ⟨G28, e29, h⟩ := h
  refine j_putR fpX5_39_X5 (Or.inr rfl) (Or.inl ⟨_, rfl⟩) dX5_init_59 e29 ?_
  refine j_aload_n (j := 0) dX5_init_62 rfl rfl ?_
  refine j_aload_n (j := 1) dX5_init_63 rfl rfl ?_
  replace h := zbE h
  obtain ⟨a30, e31, h⟩ := h
  subst e31
  replace h := zkE h
  obtain ⟨e32, h⟩ := h
  replace h := zbE h
  obtain ⟨v34, e33, h⟩ := h
  refine j_cont (zrF (As := []) msX5_43_J2 (yJ2_size_ok e33) (Nat.le_trans (Nat.le_of_ble_eq_true rfl) hd) (zk_12 _ e32) rfl rfl (Nat.le_of_ble_eq_true rfl) dX5_init_64) ?_
  replace h := zbE h
  obtain ⟨G35, e36, h⟩ := h
  refine j_newa (t := 0) (ty := .int) rfl rfl q455 (fun _ _ _ e1 e2 e3 => by simp only [zfv, e1, e2, e3] <;> rfl) (by decide) (fun _ _ h => h) e36 dX5_init_69 ?_
  replace h := zbE h
  obtain ⟨G37, e38, h⟩ := h
  refine j_putR fpX5_49_X5 (Or.inr rfl) (Or.inr ⟨_, rfl⟩) dX5_init_71 e38 ?_
  refine j_aload_n (j := 0) dX5_init_74 rfl rfl ?_
  replace h := zkE h
  obtain ⟨e39, h⟩ := h
  replace h := zbE h
  obtain ⟨G41, e40, h⟩ := h
  refine j_cont (zrV (As := []) msX5_52 (yX5_findNullable_ok e40) (Nat.le_trans (Nat.le_of_ble_eq_true rfl) hd) (zk_5 _ e39) rfl rfl (Nat.le_of_ble_eq_true rfl) dX5_init_75) ?_
  refine j_aload_n (j := 0) dX5_init_78 rfl rfl ?_
  replace h := zkE h
  obtain ⟨e42, h⟩ := h
  replace h := zbE h
  obtain ⟨G44, e43, h⟩ := h
  refine j_cont (zrV (As := []) msX5_55 (yX5_findFirst_ok e43) (Nat.le_trans (Nat.le_of_ble_eq_true rfl) hd) (zk_5 _ e42) rfl rfl (Nat.le_of_ble_eq_true rfl) dX5_init_79) ?_
  refine j_aload_n (j := 0) dX5_init_82 rfl rfl ?_
  replace h := zkE h
  obtain ⟨e45, h⟩ := h
  replace h := zbE h
  obtain ⟨G47, e46, h⟩ := h
  refine j_cont (zrV (As := []) msX5_58 (yX5_findFollow_ok e46) (Nat.le_trans (Nat.le_of_ble_eq_true rfl) hd) (zk_5 _ e45) rfl rfl (Nat.le_of_ble_eq_true rfl) dX5_init_83) ?_
  refine j_aload_n (j := 0) dX5_init_86 rfl rfl ?_
  replace h := zkE h
  obtain ⟨e48, h⟩ := h
  replace h := zbE h
  obtain ⟨G50, e49, h⟩ := h
  refine j_cont (zrV (As := []) msX5_61 (yX5_findShortest_ok e49) (Nat.le_trans (Nat.le_of_ble_eq_true rfl) hd) (zk_5 _ e48) rfl rfl (Nat.le_of_ble_eq_true rfl) dX5_init_87) ?_
  refine j_aload_n (j := 0) dX5_init_90 rfl rfl ?_
  replace h := zkE h
  obtain ⟨e51, h⟩ := h
  replace h := zbE h
  obtain ⟨G53, e52, h⟩ := h
  refine j_cont (zrV (As := []) msX5_64 (yX5_findBegins_ok e52) (Nat.le_trans (Nat.le_of_ble_eq_true rfl) hd) (zk_5 _ e51) rfl rfl (Nat.le_of_ble_eq_true rfl) dX5_init_91) ?_
  refine j_aload_n (j := 0) dX5_init_94 rfl rfl ?_
  replace h := zkE h
  obtain ⟨e54, h⟩ := h
  replace h := zbE h
  obtain ⟨G56, e55, h⟩ := h
  refine j_cont (zrV (As := []) msX5_67 (yX5_predict_ok e55) (Nat.le_trans (Nat.le_of_ble_eq_true rfl) hd) (zk_5 _ e54) rfl rfl (Nat.le_of_ble_eq_true rfl) dX5_init_95) ?_
  obtain rfl := Option.some.inj h
  exact j_vret hk.1 hk.2 rfl dX5_init_98
theorem yX5_init_ok {t : Nat} {x1 : Option Nat} {G : GS} {G1 : GS} (h : fX5_init_0 t x1 G = some G1) : zRuns yX5_init (ws_ yX5_init cX5_init 2 none) [vR (some t), vR x1] (.inl none, G, G1, 50) :=
  zentry (M := mX5_init) (plainFor_of_name (by decide +kernel)) ⟨rfl, rfl, rfl, rfl⟩ (Nat.le_of_ble_eq_true rfl) (wfX5_init_0 (Nat.le_refl _) t x1 G h ⟨rfl, rfl⟩)
theorem fgX1_27 : zFG RX1 27 0 1 (.object "SelahGenerator$Sets") := ⟨(RX1, TX1, 5, tyX1), rfl, by decide, in_X1, rfl, "SelahGenerator", Or.inl rfl, Or.inl q248⟩
theorem msX1_33 : zSI RX1 33 yX5_init cX5_init 2 1 := ⟨q418, q151, q416, q417, rfl, (by decide +kernel), (by decide)⟩
abbrev mX1_sets : zM := (cX1_sets, RX1, 1, (some (Jvm.ClassFile.FieldType.object "SelahGenerator$Sets")), "sets", [], "()LSelahGenerator$Sets;")
def fX1_sets_0 (t : Nat)  (G : GS) : Option ((Option Nat) × GS) :=
  (zgR G 1 t 1).bind fun r1 => zopt r1 (zl (al G 5 0 10) fun G4 => (zgR G4 1 t 0).bind fun r6 => (fX5_init_0 (gz G) r6 G4).bind fun G9 => (zpR G9 1 t 1 (some (gz G))).bind fun G10 => (zgR G10 1 t 1).bind fun r12 => some (r12, G10)) (fun a3 => (zgR G 1 t 1).bind fun r14 => some (r14, G))
theorem wfX1_sets_0 {F : zF} (hd : 51 ≤ F.2.2.2) (t : Nat)  (G : GS) {a : (Option Nat) × GS} (h : fX1_sets_0 t  G = some a) (hk : zKR F a) : J mX1_sets F G 0 [(0, vR (some t))] [] := by
  unfold fX1_sets_0 at h
  refine j_aload_n (j := 0) dX1_sets_0 rfl rfl ?_
  replace h := zbE h
  obtain ⟨r1, e2, h⟩ := h
  refine j_getR fgX1_27 (fun _ _ _ => rfl) dX1_sets_1 e2 ?_
  rcases r1 with _ | a3
  · replace h := zopt_n h
    refine j_ifnonnull0 dX1_sets_4 ?_
    refine j_aload_n (j := 0) dX1_sets_7 rfl rfl ?_
    replace h := zlE h
    obtain ⟨G4, e5, h⟩ := h
    refine j_new (c := 4) (n := 10) (r := (RX5, TX5, 10, tyX5)) rfl rfl in_X5 tyX5_ok nwX5 q414 q415 q151 dX1_sets_8 ?_
    rw [show al G (4 + 1) 0 10 = G4 from e5.symm]
    refine j_dup dX1_sets_11 rfl ?_
    refine j_aload_n (j := 0) dX1_sets_12 rfl rfl ?_
    replace h := zbE h
    obtain ⟨r6, e7, h⟩ := h
    refine j_getR fgX1_16 (fun _ _ _ => rfl) dX1_sets_13 e7 ?_
    replace h := zbE h
    obtain ⟨G9, e8, h⟩ := h
    refine j_cont (zrI (As := [vR r6]) msX1_33 (yX5_init_ok e8) (Nat.le_trans (Nat.le_of_ble_eq_true rfl) hd) rfl rfl (Nat.le_of_ble_eq_true rfl) dX1_sets_16) ?_
    replace h := zbE h
    obtain ⟨G10, e11, h⟩ := h
    refine j_putR fpX1_27_X1 (Or.inl rfl) (Or.inl ⟨_, rfl⟩) dX1_sets_19 e11 ?_
    refine j_aload_n (j := 0) dX1_sets_22 rfl rfl ?_
    replace h := zbE h
    obtain ⟨r12, e13, h⟩ := h
    refine j_getR fgX1_27 (fun _ _ _ => rfl) dX1_sets_23 e13 ?_
    obtain rfl := Option.some.inj h
    exact j_aret hk.1 hk.2 rfl (Or.inl ⟨_, rfl⟩) dX1_sets_26
  · replace h := zopt_s h
    refine j_ifnonnull1 (tgt := 22) dX1_sets_4 (by decide) ?_
    refine j_aload_n (j := 0) dX1_sets_22 rfl rfl ?_
    replace h := zbE h
    obtain ⟨r14, e15, h⟩ := h
    refine j_getR fgX1_27 (fun _ _ _ => rfl) dX1_sets_23 e15 ?_
    obtain rfl := Option.some.inj h
    exact j_aret hk.1 hk.2 rfl (Or.inl ⟨_, rfl⟩) dX1_sets_26
theorem yX1_sets_ok {t : Nat} {G : GS} {r : Option Nat} {G1 : GS} (h : fX1_sets_0 t G = some (r, G1)) : zRuns yX1_sets (ws_ yX1_sets cX1_sets 1 (some (Jvm.ClassFile.FieldType.object "SelahGenerator$Sets"))) [vR (some t)] (.inl (some (vR r)), G, G1, 51) :=
  zentry (M := mX1_sets) (plainFor_of_name (by decide +kernel)) ⟨rfl, rfl, rfl, rfl⟩ (Nat.le_of_ble_eq_true rfl) (wfX1_sets_0 (Nat.le_refl _) t G h ⟨rfl, rfl⟩)
abbrev mX5_isLeftRecursive : zM := (cX5_isLeftRecursive, RX5, 2, (some Jvm.ClassFile.FieldType.boolean), "isLeftRecursive", [], "(I)Z")
def fX5_isLeftRecursive_0 (t : Nat) (x1 : Int32)  (G : GS) : Option (Int32) :=
  (zgR G 5 t 4).bind fun r1 => r1.bind fun a3 => (zaI G 50 a3 x1).bind fun v5 => if ((v5 >>> (x1 &&& 31)) &&& 1) = 1 then (zcond (zbb 1) (some 1)) else (zcond (zbb 0) (some 0))
theorem wfX5_isLeftRecursive_0 {F : zF} (hd : 1 ≤ F.2.2.2) (t : Nat) (x1 : Int32)  (G : GS) {a : Int32} (h : fX5_isLeftRecursive_0 t x1  G = some a) (hk : zKPI F G a) : J mX5_isLeftRecursive F G 0 [(0, vR (some t)), (1, vI x1)] [] := by
  unfold fX5_isLeftRecursive_0 at h
  refine j_aload_n (j := 0) dX5_isLeftRecursive_0 rfl rfl ?_
  replace h := zbE h
  obtain ⟨r1, e2, h⟩ := h
  refine j_getR fgX5_21 (fun _ _ _ => rfl) dX5_isLeftRecursive_1 e2 ?_
  refine j_iload_n (j := 1) dX5_isLeftRecursive_4 rfl rfl ?_
  replace h := zbE h
  obtain ⟨a3, e4, h⟩ := h
  subst e4
  replace h := zbE h
  obtain ⟨v5, e6, h⟩ := h
  refine j_iald (Or.inl rfl) e6 dX5_isLeftRecursive_5 ?_
  refine j_iload_n (j := 1) dX5_isLeftRecursive_6 rfl rfl ?_
  refine j_ishr dX5_isLeftRecursive_7 ?_
  refine j_iconst (v := 1) dX5_isLeftRecursive_8 (by decide) ?_
  refine j_iand dX5_isLeftRecursive_9 ?_
  refine j_iconst (v := 1) dX5_isLeftRecursive_10 (by decide) ?_
  refine j_icmp_ne (tgt := 18) dX5_isLeftRecursive_11 (by decide) (fun c7 => ?_) (fun c7 => ?_)
  · rw [if_pos c7] at h
    refine j_iconst (v := 1) dX5_isLeftRecursive_14 (by decide) ?_
    refine j_goto (tgt := 19) dX5_isLeftRecursive_15 (by decide) ?_
    replace h := zcondE h
    obtain ⟨e8, h⟩ := h
    obtain rfl := Option.some.inj h
    exact j_zret hk.1 hk.2 rfl (zbb_n e8) dX5_isLeftRecursive_19
  · rw [if_neg c7] at h
    refine j_iconst (v := 0) dX5_isLeftRecursive_18 (by decide) ?_
    replace h := zcondE h
    obtain ⟨e9, h⟩ := h
    obtain rfl := Option.some.inj h
    exact j_zret hk.1 hk.2 rfl (zbb_n e9) dX5_isLeftRecursive_19
theorem yX5_isLeftRecursive_ok {t : Nat} {x1 : Int32} {G : GS} {r : Int32} (h : fX5_isLeftRecursive_0 t x1 G = some r) : zRuns yX5_isLeftRecursive (ws_ yX5_isLeftRecursive cX5_isLeftRecursive 2 (some Jvm.ClassFile.FieldType.boolean)) [vR (some t), vI x1] (.inl (some (vI r)), G, G, 1) :=
  zentry (M := mX5_isLeftRecursive) (plainFor_of_name (by decide +kernel)) ⟨rfl, rfl, rfl, rfl⟩ (Nat.le_of_ble_eq_true rfl) (wfX5_isLeftRecursive_0 (Nat.le_refl _) t x1 G h ⟨rfl, rfl⟩)
theorem fgX1_210 : zFG RX1 210 8 2 (.object "java/util/List") := ⟨(RX10, TX10, 8, tyX10), rfl, by decide, in_X10, rfl, "SelahGenerator$Parse", Or.inl rfl, Or.inr ⟨_, zxw 68 rfl⟩⟩
theorem msX1_128 : zSV RX1 128 RX1 yX1_sets cX1_sets 1 (some (Jvm.ClassFile.FieldType.object "SelahGenerator$Sets")) 0 := ⟨lw_V q410 q412 qs0 q123 q413, (by decide +kernel), (by decide)⟩
theorem msX1_172 : zSV RX1 172 RX5 yX5_isLeftRecursive cX5_isLeftRecursive 2 (some Jvm.ClassFile.FieldType.boolean) 1 := ⟨lw_V q1525 q1526 q1527 q151 q1528, (by decide +kernel), (by decide)⟩
abbrev mX1_canCount : zM := (cX1_canCount, RX1, 2, (some Jvm.ClassFile.FieldType.boolean), "canCount", [], "()Z")
def fbX1_canCount_28 (t : Nat) (x1 : Int32)  (G : GS) : Option ((Int32 × GS) ⊕ ((Int32) × GS)) :=
  if 12 ≤ x1 then (zo (zcond (zbb 1) (some (1, G)))) else (zk [1] G t <| zb2 (fX1_sets_0 t G) fun r5 G6 => r5.bind fun a7 => zk [5] G6 a7 <| (fX5_isLeftRecursive_0 a7 x1 G6).bind fun v11 => if v11 = 0 then (some (.inl ((x1 + 1), G6))) else (zo (zcond (zbb 0) (some (0, G6)))))
def flX1_canCount_28 (t : Nat) (x1 : Int32) (G : GS) : Option ((Int32) × GS) := zloop (fun s : Int32 × GS => fbX1_canCount_28 t s.1 s.2) (x1, G)
theorem wfbX1_canCount_28 {F : zF} (hd : 52 ≤ F.2.2.2) (t : Nat) (x1 : Int32) (G : GS) {a : (Int32 × GS) ⊕ ((Int32) × GS)} (h : fbX1_canCount_28 t x1 G = some a) (hk : (zcase (fun s : Int32 × GS => J mX1_canCount F s.2 28 [(0, vR (some t)), (1, vI s.1)] []) (zKI F)) a) : J mX1_canCount F G 28 [(0, vR (some t)), (1, vI x1)] [] := by
  unfold fbX1_canCount_28 at h
  refine j_iload_n (j := 1) dX1_canCount_28 rfl rfl ?_
  refine j_bipush (v := 12) dX1_canCount_29 (by decide) ?_
  refine j_icmp_ge (tgt := 53) dX1_canCount_31 (by decide) (fun c1 => ?_) (fun c1 => ?_)
  · rw [if_pos c1] at h
    replace h := zoE h
    obtain ⟨a, h, rfl⟩ := h
    replace hk := hk
    refine j_iconst (v := 1) dX1_canCount_53 (by decide) ?_
    replace h := zcondE h
    obtain ⟨e2, h⟩ := h
    obtain rfl := Option.some.inj h
    exact j_zret hk.1 hk.2 rfl (zbb_n e2) dX1_canCount_54
  · rw [if_neg c1] at h
    refine j_aload_n (j := 0) dX1_canCount_34 rfl rfl ?_
    replace h := zkE h
    obtain ⟨e3, h⟩ := h
    replace h := zb2E h
    obtain ⟨r5, G6, e4, h⟩ := h
    refine j_cont (zrV (As := []) msX1_128 (yX1_sets_ok e4) (Nat.le_trans (Nat.le_of_ble_eq_true rfl) hd) (zk_1 _ e3) rfl rfl (Nat.le_of_ble_eq_true rfl) dX1_canCount_35) ?_
    refine j_iload_n (j := 1) dX1_canCount_38 rfl rfl ?_
    replace h := zbE h
    obtain ⟨a7, e8, h⟩ := h
    subst e8
    replace h := zkE h
    obtain ⟨e9, h⟩ := h
    replace h := zbE h
    obtain ⟨v11, e10, h⟩ := h
    refine j_cont (zrV (As := [vI x1]) msX1_172 (yX5_isLeftRecursive_ok e10) (Nat.le_trans (Nat.le_of_ble_eq_true rfl) hd) (zk_5 _ e9) rfl rfl (Nat.le_of_ble_eq_true rfl) dX1_canCount_39) ?_
    refine j_if_eq (tgt := 47) dX1_canCount_42 (by decide) (fun c12 => ?_) (fun c12 => ?_)
    · rw [if_pos c12] at h
      refine j_iinc (j := 1) (v := (x1 + 1)) (lv' := [(1, vI (x1 + 1)), (0, vR (some t))]) dX1_canCount_47 rfl rfl (Nat.le_of_ble_eq_true rfl) rfl ?_
      refine j_goto (tgt := 28) dX1_canCount_50 (by decide) ?_
      obtain rfl := Option.some.inj h
      exact J.sub (zall [1, 0] rfl) hk
    · rw [if_neg c12] at h
      replace h := zoE h
      obtain ⟨a, h, rfl⟩ := h
      replace hk := hk
      refine j_iconst (v := 0) dX1_canCount_45 (by decide) ?_
      replace h := zcondE h
      obtain ⟨e13, h⟩ := h
      obtain rfl := Option.some.inj h
      exact j_zret hk.1 hk.2 rfl (zbb_n e13) dX1_canCount_46
theorem wflX1_canCount_28 {F : zF} (hd : 52 ≤ F.2.2.2) (t : Nat) (x1 : Int32) (G : GS) {a : (Int32) × GS} (h : flX1_canCount_28 t x1 G = some a) (hk : zKI F a) : J mX1_canCount F G 28 [(0, vR (some t)), (1, vI x1)] [] := by
  unfold flX1_canCount_28 at h
  exact zloop_walk (P := (fun s : Int32 × GS => J mX1_canCount F s.2 28 [(0, vR (some t)), (1, vI s.1)] [])) (fun s b e hk => wfbX1_canCount_28 hd t s.1 s.2 e hk) (x1, G) _ h hk
def fX1_canCount_0 (t : Nat)  (G : GS) : Option ((Int32) × GS) :=
  (zgR G 1 t 3).bind fun r1 => zopt r1 (zcond (zbb 0) (some (0, G))) (fun a3 => (zgR G 1 t 3).bind fun r5 => r5.bind fun a7 => (zgR G 9 a7 2).bind fun r9 => r9.bind fun a11 => zk [12] G a11 <| (fJ2_size_0 a11 G).bind fun v15 => if v15 ≤ 16 then (flX1_canCount_28 t 0 G) else (zcond (zbb 0) (some (0, G))))
theorem wfX1_canCount_0 {F : zF} (hd : 52 ≤ F.2.2.2) (t : Nat)  (G : GS) {a : (Int32) × GS} (h : fX1_canCount_0 t  G = some a) (hk : zKI F a) : J mX1_canCount F G 0 [(0, vR (some t))] [] := by
  unfold fX1_canCount_0 at h
  refine j_aload_n (j := 0) dX1_canCount_0 rfl rfl ?_
  replace h := zbE h
  obtain ⟨r1, e2, h⟩ := h
  refine j_getR fgX1_43 (fun _ _ _ => rfl) dX1_canCount_1 e2 ?_
  rcases r1 with _ | a3
  · replace h := zopt_n h
    refine j_ifnull0 (tgt := 24) dX1_canCount_4 (by decide) ?_
    refine j_iconst (v := 0) dX1_canCount_24 (by decide) ?_
    replace h := zcondE h
    obtain ⟨e4, h⟩ := h
    obtain rfl := Option.some.inj h
    exact j_zret hk.1 hk.2 rfl (zbb_n e4) dX1_canCount_25
  · replace h := zopt_s h
    refine j_ifnull1 dX1_canCount_4 ?_
    refine j_aload_n (j := 0) dX1_canCount_7 rfl rfl ?_
    replace h := zbE h
    obtain ⟨r5, e6, h⟩ := h
    refine j_getR fgX1_43 (fun _ _ _ => rfl) dX1_canCount_8 e6 ?_
    replace h := zbE h
    obtain ⟨a7, e8, h⟩ := h
    subst e8
    replace h := zbE h
    obtain ⟨r9, e10, h⟩ := h
    refine j_getR fgX1_210 (fun _ _ _ => rfl) dX1_canCount_11 e10 ?_
    replace h := zbE h
    obtain ⟨a11, e12, h⟩ := h
    subst e12
    replace h := zkE h
    obtain ⟨e13, h⟩ := h
    replace h := zbE h
    obtain ⟨v15, e14, h⟩ := h
    refine j_cont (zrF (As := []) msX1_54_J2 (yJ2_size_ok e14) (Nat.le_trans (Nat.le_of_ble_eq_true rfl) hd) (zk_12 _ e13) rfl rfl (Nat.le_of_ble_eq_true rfl) dX1_canCount_14) ?_
    refine j_bipush (v := 16) dX1_canCount_19 (by decide) ?_
    refine j_icmp_le (tgt := 26) dX1_canCount_21 (by decide) (fun c16 => ?_) (fun c16 => ?_)
    · rw [if_pos c16] at h
      refine j_iconst (v := 0) dX1_canCount_26 (by decide) ?_
      refine j_istore_n (lv' := [(1, vI 0), (0, vR (some t))]) dX1_canCount_27 rfl (Nat.le_of_ble_eq_true rfl) rfl ?_
      exact J.sub (zall [1, 0] rfl) (wflX1_canCount_28 hd t 0  G h hk)
    · rw [if_neg c16] at h
      refine j_iconst (v := 0) dX1_canCount_24 (by decide) ?_
      replace h := zcondE h
      obtain ⟨e17, h⟩ := h
      obtain rfl := Option.some.inj h
      exact j_zret hk.1 hk.2 rfl (zbb_n e17) dX1_canCount_25
theorem yX1_canCount_ok {t : Nat} {G : GS} {r : Int32} {G1 : GS} (h : fX1_canCount_0 t G = some (r, G1)) : zRuns yX1_canCount (ws_ yX1_canCount cX1_canCount 2 (some Jvm.ClassFile.FieldType.boolean)) [vR (some t)] (.inl (some (vI r)), G, G1, 52) :=
  zentry (M := mX1_canCount) (plainFor_of_name (by decide +kernel)) ⟨rfl, rfl, rfl, rfl⟩ (Nat.le_of_ble_eq_true rfl) (wfX1_canCount_0 (Nat.le_refl _) t G h ⟨rfl, rfl⟩)
theorem fpJ31_1_J31 : zFP RJ31 1 17 0 (.object "java/util/TreeMap") true := ⟨(RJ31, TJ31, 1, tyJ31), rfl, by decide, in_J31, tyJ31_ok, nmJ31, rfl, rfl, (by intro _; rfl), "java/util/TreeMap$Values", Or.inl rfl, q1207⟩
theorem msJ31_7 : zSI RJ31 7 yJ0_init cJ0_init 1 0 := ⟨q193, q124, q1206, q192, rfl, (by decide +kernel), (by decide)⟩
abbrev mJ31_init : zM := (cJ31_init, RJ31, 2, none, "<init>", [], "(Ljava/util/TreeMap;)V")
def fJ31_init_0 (t : Nat) (x1 : Option Nat)  (G : GS) : Option (GS) :=
  (zpR G 18 t 0 x1).bind fun G1 => (fJ0_init_0 t G1).bind fun G4 => some G4
theorem wfJ31_init_0 {F : zF} (hd : 3 ≤ F.2.2.2) (t : Nat) (x1 : Option Nat)  (G : GS) {a : GS} (h : fJ31_init_0 t x1  G = some a) (hk : zKV F a) : J mJ31_init F G 0 [(0, vR (some t)), (1, vR x1)] [] := by
  unfold fJ31_init_0 at h
  refine j_aload_n (j := 0) dJ31_init_0 rfl rfl ?_
  refine j_aload_n (j := 1) dJ31_init_1 rfl rfl ?_
  replace h := zbE h
  obtain ⟨G1, e2, h⟩ := h
  refine j_putR fpJ31_1_J31 (Or.inr rfl) (Or.inl ⟨_, rfl⟩) dJ31_init_2 e2 ?_
  refine j_aload_n (j := 0) dJ31_init_5 rfl rfl ?_
  replace h := zbE h
  obtain ⟨G4, e3, h⟩ := h
  refine j_cont (zrI (As := []) msJ31_7 (yJ0_init_ok e3) (Nat.le_trans (Nat.le_of_ble_eq_true rfl) hd) rfl rfl (Nat.le_of_ble_eq_true rfl) dJ31_init_6) ?_
  obtain rfl := Option.some.inj h
  exact j_vret hk.1 hk.2 rfl dJ31_init_9
theorem yJ31_init_ok {t : Nat} {x1 : Option Nat} {G : GS} {G1 : GS} (h : fJ31_init_0 t x1 G = some G1) : zRuns yJ31_init (ws_ yJ31_init cJ31_init 2 none) [vR (some t), vR x1] (.inl none, G, G1, 3) :=
  zentry (M := mJ31_init) (plainFor_of_name (by decide +kernel)) ⟨rfl, rfl, rfl, rfl⟩ (Nat.le_of_ble_eq_true rfl) (wfJ31_init_0 (Nat.le_refl _) t x1 G h ⟨rfl, rfl⟩)
theorem fgJ22_233 : zFG RJ22 233 15 1 (.object "java/util/Collection") := ⟨(RJ22, TJ22, 9, tyJ22), rfl, by decide, in_J22, rfl, "java/util/TreeMap", Or.inr q435, Or.inl q434⟩
theorem fpJ22_233_J22 : zFP RJ22 233 15 1 (.object "java/util/Collection") false := ⟨(RJ22, TJ22, 9, tyJ22), rfl, by decide, in_J22, tyJ22_ok, nmJ22, rfl, rfl, (by decide), "java/util/TreeMap", Or.inr q435, q434⟩
theorem msJ22_239 : zSI RJ22 239 yJ31_init cJ31_init 2 1 := ⟨q1205, q163, q1203, q1204, rfl, (by decide +kernel), (by decide)⟩
abbrev mJ22_values : zM := (cJ22_values, RJ22, 2, (some (Jvm.ClassFile.FieldType.object "java/util/Collection")), "values", [], "()Ljava/util/Collection;")
def fJ22_values_0 (t : Nat)  (G : GS) : Option ((Option Nat) × GS) :=
  (zgR G 16 t 1).bind fun r1 => zopt r1 (zl (al G 18 0 1) fun G4 => (fJ31_init_0 (gz G) (some t) G4).bind fun G7 => (zpR G7 16 t 1 (some (gz G))).bind fun G8 => some ((some (gz G)), G8)) (fun a3 => some ((some a3), G))
theorem wfJ22_values_0 {F : zF} (hd : 4 ≤ F.2.2.2) (t : Nat)  (G : GS) {a : (Option Nat) × GS} (h : fJ22_values_0 t  G = some a) (hk : zKR F a) : J mJ22_values F G 0 [(0, vR (some t))] [] := by
  unfold fJ22_values_0 at h
  refine j_aload_n (j := 0) dJ22_values_0 rfl rfl ?_
  replace h := zbE h
  obtain ⟨r1, e2, h⟩ := h
  refine j_getR fgJ22_233 (fun _ _ _ => rfl) dJ22_values_1 e2 ?_
  refine j_astore_n (lv' := [(1, vR r1), (0, vR (some t))]) dJ22_values_4 rfl (Nat.le_of_ble_eq_true rfl) rfl ?_
  refine j_aload_n (j := 0) dJ22_values_5 rfl rfl ?_
  rcases r1 with _ | a3
  · replace h := zopt_n h
    refine j_ifnonnull0 dJ22_values_6 ?_
    replace h := zlE h
    obtain ⟨G4, e5, h⟩ := h
    refine j_new (c := 17) (n := 1) (r := (RJ31, TJ31, 1, tyJ31)) rfl rfl in_J31 tyJ31_ok nwJ31 q1201 q1202 q163 dJ22_values_9 ?_
    rw [show al G (17 + 1) 0 1 = G4 from e5.symm]
    refine j_dup dJ22_values_12 rfl ?_
    refine j_aload_n (j := 1) dJ22_values_13 rfl rfl ?_
    replace h := zbE h
    obtain ⟨G7, e6, h⟩ := h
    refine j_cont (zrI (As := [vR (some t)]) msJ22_239 (yJ31_init_ok e6) (Nat.le_trans (Nat.le_of_ble_eq_true rfl) hd) rfl rfl (Nat.le_of_ble_eq_true rfl) dJ22_values_14) ?_
    refine j_astore_n (lv' := [(1, vR (some (gz G))), (0, vR (some t))]) dJ22_values_17 rfl (Nat.le_of_ble_eq_true rfl) rfl ?_
    refine j_aload_n (j := 1) dJ22_values_18 rfl rfl ?_
    refine j_aload_n (j := 0) dJ22_values_19 rfl rfl ?_
    replace h := zbE h
    obtain ⟨G8, e9, h⟩ := h
    refine j_putR fpJ22_233_J22 (Or.inl rfl) (Or.inl ⟨_, rfl⟩) dJ22_values_20 e9 ?_
    refine j_aload_n (j := 0) dJ22_values_23 rfl rfl ?_
    obtain rfl := Option.some.inj h
    exact j_aret hk.1 hk.2 rfl (Or.inl ⟨_, rfl⟩) dJ22_values_24
  · replace h := zopt_s h
    refine j_ifnonnull1 (tgt := 23) dJ22_values_6 (by decide) ?_
    refine j_aload_n (j := 0) dJ22_values_23 rfl rfl ?_
    obtain rfl := Option.some.inj h
    exact j_aret hk.1 hk.2 rfl (Or.inl ⟨_, rfl⟩) dJ22_values_24
theorem yJ22_values_ok {t : Nat} {G : GS} {r : Option Nat} {G1 : GS} (h : fJ22_values_0 t G = some (r, G1)) : zRuns yJ22_values (ws_ yJ22_values cJ22_values 2 (some (Jvm.ClassFile.FieldType.object "java/util/Collection"))) [vR (some t)] (.inl (some (vR r)), G, G1, 4) :=
  zentry (M := mJ22_values) (plainFor_of_name (by decide +kernel)) ⟨rfl, rfl, rfl, rfl⟩ (Nat.le_of_ble_eq_true rfl) (wfJ22_values_0 (Nat.le_refl _) t G h ⟨rfl, rfl⟩)
abbrev mJ22_getFirstEntry : zM := (cJ22_getFirstEntry, RJ22, 2, (some (Jvm.ClassFile.FieldType.object "java/util/TreeMap$Entry")), "getFirstEntry", [], "()Ljava/util/TreeMap$Entry;")
def fbJ22_getFirstEntry_9 (x1 : Option Nat)  (G : GS) : Option (((Option Nat)) ⊕ (Option Nat)) :=
  x1.bind fun a1 => (zgR G 17 a1 2).bind fun r3 => zopt r3 (zo (some (some a1))) (fun a5 => (zgR G 17 a1 2).bind fun r6 => some (.inl (r6)))
def flJ22_getFirstEntry_9 (x1 : Option Nat) (G : GS) : Option (Option Nat) := zloop (fun s : (Option Nat) => fbJ22_getFirstEntry_9 s G) (x1)
theorem wfbJ22_getFirstEntry_9 {F : zF} (hd : 1 ≤ F.2.2.2) (x1 : Option Nat) (G : GS) {a : ((Option Nat)) ⊕ (Option Nat)} (h : fbJ22_getFirstEntry_9 x1 G = some a) (hk : (zcase (fun s : (Option Nat) => J mJ22_getFirstEntry F G 9 [(1, vR s)] []) (zKPR F G)) a) : J mJ22_getFirstEntry F G 9 [(1, vR x1)] [] := by
  unfold fbJ22_getFirstEntry_9 at h
  refine j_aload_n (j := 0) dJ22_getFirstEntry_9 rfl rfl ?_
  replace h := zbE h
  obtain ⟨a1, e2, h⟩ := h
  subst e2
  replace h := zbE h
  obtain ⟨r3, e4, h⟩ := h
  refine j_getR fgJ22_111 (fun _ _ _ => rfl) dJ22_getFirstEntry_10 e4 ?_
  rcases r3 with _ | a5
  · replace h := zopt_n h
    refine j_ifnull0 (tgt := 24) dJ22_getFirstEntry_13 (by decide) ?_
    replace h := zoE h
    obtain ⟨a, h, rfl⟩ := h
    replace hk := hk
    refine j_aload_n (j := 0) dJ22_getFirstEntry_24 rfl rfl ?_
    obtain rfl := Option.some.inj h
    exact j_aret hk.1 hk.2 rfl (Or.inl ⟨_, rfl⟩) dJ22_getFirstEntry_25
  · replace h := zopt_s h
    refine j_ifnull1 dJ22_getFirstEntry_13 ?_
    refine j_aload_n (j := 0) dJ22_getFirstEntry_16 rfl rfl ?_
    replace h := zbE h
    obtain ⟨r6, e7, h⟩ := h
    refine j_getR fgJ22_111 (fun _ _ _ => rfl) dJ22_getFirstEntry_17 e7 ?_
    refine j_astore_n (lv' := [(1, vR r6)]) dJ22_getFirstEntry_20 rfl (Nat.le_of_ble_eq_true rfl) rfl ?_
    refine j_goto (tgt := 9) dJ22_getFirstEntry_21 (by decide) ?_
    obtain rfl := Option.some.inj h
    exact J.sub (zall [0] rfl) hk
theorem wflJ22_getFirstEntry_9 {F : zF} (hd : 1 ≤ F.2.2.2) (x1 : Option Nat) (G : GS) {a : Option Nat} (h : flJ22_getFirstEntry_9 x1 G = some a) (hk : zKPR F G a) : J mJ22_getFirstEntry F G 9 [(1, vR x1)] [] := by
  unfold flJ22_getFirstEntry_9 at h
  exact zloop_walk (P := (fun s : (Option Nat) => J mJ22_getFirstEntry F G 9 [(1, vR s)] [])) (fun s b e hk => wfbJ22_getFirstEntry_9 hd s G e hk) (x1) _ h hk
def fJ22_getFirstEntry_0 (t : Nat)  (G : GS) : Option (Option Nat) :=
  (zgR G 16 t 3).bind fun r1 => zopt r1 (some none) (fun a3 => flJ22_getFirstEntry_9 (some a3) G)
theorem wfJ22_getFirstEntry_0 {F : zF} (hd : 1 ≤ F.2.2.2) (t : Nat)  (G : GS) {a : Option Nat} (h : fJ22_getFirstEntry_0 t  G = some a) (hk : zKPR F G a) : J mJ22_getFirstEntry F G 0 [(0, vR (some t))] [] := by
  unfold fJ22_getFirstEntry_0 at h
  refine j_aload_n (j := 0) dJ22_getFirstEntry_0 rfl rfl ?_
  replace h := zbE h
  obtain ⟨r1, e2, h⟩ := h
  refine j_getR fgJ22_101 (fun _ _ _ => rfl) dJ22_getFirstEntry_1 e2 ?_
  refine j_astore_n (lv' := [(1, vR r1), (0, vR (some t))]) dJ22_getFirstEntry_4 rfl (Nat.le_of_ble_eq_true rfl) rfl ?_
  refine j_aload_n (j := 0) dJ22_getFirstEntry_5 rfl rfl ?_
  rcases r1 with _ | a3
  · replace h := zopt_n h
    refine j_ifnull0 (tgt := 24) dJ22_getFirstEntry_6 (by decide) ?_
    refine j_aload_n (j := 0) dJ22_getFirstEntry_24 rfl rfl ?_
    obtain rfl := Option.some.inj h
    exact j_aret hk.1 hk.2 rfl (Or.inl ⟨_, rfl⟩) dJ22_getFirstEntry_25
  · replace h := zopt_s h
    refine j_ifnull1 dJ22_getFirstEntry_6 ?_
    exact J.sub (zall [0] rfl) (wflJ22_getFirstEntry_9 hd (some a3)  G h hk)
theorem yJ22_getFirstEntry_ok {t : Nat} {G : GS} {r : Option Nat} (h : fJ22_getFirstEntry_0 t G = some r) : zRuns yJ22_getFirstEntry (ws_ yJ22_getFirstEntry cJ22_getFirstEntry 2 (some (Jvm.ClassFile.FieldType.object "java/util/TreeMap$Entry"))) [vR (some t)] (.inl (some (vR r)), G, G, 1) :=
  zentry (M := mJ22_getFirstEntry) (plainFor_of_name (by decide +kernel)) ⟨rfl, rfl, rfl, rfl⟩ (Nat.le_of_ble_eq_true rfl) (wfJ22_getFirstEntry_0 (Nat.le_refl _) t G h ⟨rfl, rfl⟩)
theorem fgJ34_13 : zFG RJ34 13 15 5 (.int) := ⟨(RJ22, TJ22, 9, tyJ22), rfl, by decide, in_J22, rfl, "java/util/TreeMap", Or.inl rfl, Or.inr ⟨_, zxw 37 rfl⟩⟩
theorem fpJ34_19_J35 : zFP RJ34 19 18 2 (.int) false := ⟨(RJ35, TJ35, 4, tyJ35), rfl, by decide, in_J35, tyJ35_ok, nmJ35, rfl, rfl, (by decide), "java/util/TreeMap$PrivateEntryIterator", Or.inl rfl, q1295⟩
theorem fpJ34_1_J35 : zFP RJ34 1 18 3 (.object "java/util/TreeMap") true := ⟨(RJ35, TJ35, 4, tyJ35), rfl, by decide, in_J35, tyJ35_ok, nmJ35, rfl, rfl, (by intro _; rfl), "java/util/TreeMap$PrivateEntryIterator", Or.inl rfl, q1296⟩
theorem fpJ34_22_J35 : zFP RJ34 22 18 1 (.object "java/util/TreeMap$Entry") false := ⟨(RJ35, TJ35, 4, tyJ35), rfl, by decide, in_J35, tyJ35_ok, nmJ35, rfl, rfl, (by decide), "java/util/TreeMap$PrivateEntryIterator", Or.inl rfl, q1294⟩
theorem fpJ34_26_J35 : zFP RJ34 26 18 0 (.object "java/util/TreeMap$Entry") false := ⟨(RJ35, TJ35, 4, tyJ35), rfl, by decide, in_J35, tyJ35_ok, nmJ35, rfl, rfl, (by decide), "java/util/TreeMap$PrivateEntryIterator", Or.inl rfl, q1293⟩
abbrev mJ34_init : zM := (cJ34_init, RJ34, 3, none, "<init>", [], "(Ljava/util/TreeMap;Ljava/util/TreeMap$Entry;)V")
def fJ34_init_0 (t : Nat) (x1 : Option Nat) (x2 : Option Nat)  (G : GS) : Option (GS) :=
  (zpR G 19 t 3 x1).bind fun G1 => x1.bind fun a3 => (zgI G1 16 a3 5).bind fun v5 => (zpI G1 19 t 2 v5).bind fun G7 => (zpR G7 19 t 1 none).bind fun G9 => (zpR G9 19 t 0 x2).bind fun G11 => some G11
theorem wfJ34_init_0 {F : zF} (hd : 2 ≤ F.2.2.2) (t : Nat) (x1 : Option Nat) (x2 : Option Nat)  (G : GS) {a : GS} (h : fJ34_init_0 t x1 x2  G = some a) (hk : zKV F a) : J mJ34_init F G 0 [(0, vR (some t)), (1, vR x1), (2, vR x2)] [] := by
  unfold fJ34_init_0 at h
  refine j_aload_n (j := 0) dJ34_init_0 rfl rfl ?_
  refine j_aload_n (j := 1) dJ34_init_1 rfl rfl ?_
  replace h := zbE h
  obtain ⟨G1, e2, h⟩ := h
  refine j_putR fpJ34_1_J35 (Or.inr rfl) (Or.inl ⟨_, rfl⟩) dJ34_init_2 e2 ?_
  refine j_aload_n (j := 0) dJ34_init_5 rfl rfl ?_
  refine j_objinit q1292 q181 q182 (Nat.le_trans (Nat.le_of_ble_eq_true rfl) hd) (Nat.le_of_ble_eq_true rfl) dJ34_init_6 ?_
  refine j_aload_n (j := 0) dJ34_init_9 rfl rfl ?_
  refine j_aload_n (j := 1) dJ34_init_10 rfl rfl ?_
  replace h := zbE h
  obtain ⟨a3, e4, h⟩ := h
  subst e4
  replace h := zbE h
  obtain ⟨v5, e6, h⟩ := h
  refine j_getI fgJ34_13 (fun _ _ _ => rfl) dJ34_init_11 e6 ?_
  replace h := zbE h
  obtain ⟨G7, e8, h⟩ := h
  refine j_putI fpJ34_19_J35 (Or.inl rfl) rfl dJ34_init_14 e8 ?_
  refine j_aload_n (j := 0) dJ34_init_17 rfl rfl ?_
  refine j_null dJ34_init_18 ?_
  replace h := zbE h
  obtain ⟨G9, e10, h⟩ := h
  refine j_putR fpJ34_22_J35 (Or.inl rfl) (Or.inl ⟨_, rfl⟩) dJ34_init_19 e10 ?_
  refine j_aload_n (j := 0) dJ34_init_22 rfl rfl ?_
  refine j_aload_n (j := 2) dJ34_init_23 rfl rfl ?_
  replace h := zbE h
  obtain ⟨G11, e12, h⟩ := h
  refine j_putR fpJ34_26_J35 (Or.inl rfl) (Or.inl ⟨_, rfl⟩) dJ34_init_24 e12 ?_
  obtain rfl := Option.some.inj h
  exact j_vret hk.1 hk.2 rfl dJ34_init_27
theorem yJ34_init_ok {t : Nat} {x1 : Option Nat} {x2 : Option Nat} {G : GS} {G1 : GS} (h : fJ34_init_0 t x1 x2 G = some G1) : zRuns yJ34_init (ws_ yJ34_init cJ34_init 3 none) [vR (some t), vR x1, vR x2] (.inl none, G, G1, 2) :=
  zentry (M := mJ34_init) (plainFor_of_name (by decide +kernel)) ⟨rfl, rfl, rfl, rfl⟩ (Nat.le_of_ble_eq_true rfl) (wfJ34_init_0 (Nat.le_refl _) t x1 x2 G h ⟨rfl, rfl⟩)
theorem msJ35_1 : zSI RJ35 1 yJ34_init cJ34_init 3 2 := ⟨q1291, q166, q1289, q1290, rfl, (by decide +kernel), (by decide)⟩
abbrev mJ35_init : zM := (cJ35_init, RJ35, 3, none, "<init>", [], "(Ljava/util/TreeMap;Ljava/util/TreeMap$Entry;)V")
def fJ35_init_0 (t : Nat) (x1 : Option Nat) (x2 : Option Nat)  (G : GS) : Option (GS) :=
  (fJ34_init_0 t x1 x2 G).bind fun G2 => some G2
theorem wfJ35_init_0 {F : zF} (hd : 3 ≤ F.2.2.2) (t : Nat) (x1 : Option Nat) (x2 : Option Nat)  (G : GS) {a : GS} (h : fJ35_init_0 t x1 x2  G = some a) (hk : zKV F a) : J mJ35_init F G 0 [(0, vR (some t)), (1, vR x1), (2, vR x2)] [] := by
  unfold fJ35_init_0 at h
  refine j_aload_n (j := 0) dJ35_init_0 rfl rfl ?_
  refine j_aload_n (j := 1) dJ35_init_1 rfl rfl ?_
  refine j_aload_n (j := 2) dJ35_init_2 rfl rfl ?_
  replace h := zbE h
  obtain ⟨G2, e1, h⟩ := h
  refine j_cont (zrI (As := [vR x1, vR x2]) msJ35_1 (yJ34_init_ok e1) (Nat.le_trans (Nat.le_of_ble_eq_true rfl) hd) rfl rfl (Nat.le_of_ble_eq_true rfl) dJ35_init_3) ?_
  obtain rfl := Option.some.inj h
  exact j_vret hk.1 hk.2 rfl dJ35_init_6
theorem yJ35_init_ok {t : Nat} {x1 : Option Nat} {x2 : Option Nat} {G : GS} {G1 : GS} (h : fJ35_init_0 t x1 x2 G = some G1) : zRuns yJ35_init (ws_ yJ35_init cJ35_init 3 none) [vR (some t), vR x1, vR x2] (.inl none, G, G1, 3) :=
  zentry (M := mJ35_init) (plainFor_of_name (by decide +kernel)) ⟨rfl, rfl, rfl, rfl⟩ (Nat.le_of_ble_eq_true rfl) (wfJ35_init_0 (Nat.le_refl _) t x1 x2 G h ⟨rfl, rfl⟩)
theorem fgJ31_1 : zFG RJ31 1 17 0 (.object "java/util/TreeMap") := ⟨(RJ31, TJ31, 1, tyJ31), rfl, by decide, in_J31, rfl, "java/util/TreeMap$Values", Or.inl rfl, Or.inl q1207⟩
theorem msJ31_15 : zSV RJ31 15 RJ22 yJ22_getFirstEntry cJ22_getFirstEntry 2 (some (Jvm.ClassFile.FieldType.object "java/util/TreeMap$Entry")) 0 := ⟨lw_V q1282 q1283 q1284 q150 q1285, (by decide +kernel), (by decide)⟩
theorem msJ31_21 : zSI RJ31 21 yJ35_init cJ35_init 3 2 := ⟨q1288, q167, q1286, q1287, rfl, (by decide +kernel), (by decide)⟩
abbrev mJ31_iterator : zM := (cJ31_iterator, RJ31, 1, (some (Jvm.ClassFile.FieldType.object "java/util/Iterator")), "iterator", [], "()Ljava/util/Iterator;")
def fJ31_iterator_0 (t : Nat)  (G : GS) : Option ((Option Nat) × GS) :=
  zl (al G 19 0 4) fun G1 => (zgR G1 18 t 0).bind fun r3 => (zgR G1 18 t 0).bind fun r5 => r5.bind fun a7 => zk [16] G1 a7 <| (fJ22_getFirstEntry_0 a7 G1).bind fun r11 => (fJ35_init_0 (gz G) r3 r11 G1).bind fun G13 => some ((some (gz G)), G13)
theorem wfJ31_iterator_0 {F : zF} (hd : 4 ≤ F.2.2.2) (t : Nat)  (G : GS) {a : (Option Nat) × GS} (h : fJ31_iterator_0 t  G = some a) (hk : zKR F a) : J mJ31_iterator F G 0 [(0, vR (some t))] [] := by
  unfold fJ31_iterator_0 at h
  replace h := zlE h
  obtain ⟨G1, e2, h⟩ := h
  refine j_new (c := 18) (n := 4) (r := (RJ35, TJ35, 4, tyJ35)) rfl rfl in_J35 tyJ35_ok nwJ35 q1280 q1281 q167 dJ31_iterator_0 ?_
  rw [show al G (18 + 1) 0 4 = G1 from e2.symm]
  refine j_dup dJ31_iterator_3 rfl ?_
  refine j_aload_n (j := 0) dJ31_iterator_4 rfl rfl ?_
  replace h := zbE h
  obtain ⟨r3, e4, h⟩ := h
  refine j_getR fgJ31_1 (fun _ _ _ => rfl) dJ31_iterator_5 e4 ?_
  refine j_aload_n (j := 0) dJ31_iterator_8 rfl rfl ?_
  replace h := zbE h
  obtain ⟨r5, e6, h⟩ := h
  refine j_getR fgJ31_1 (fun _ _ _ => rfl) dJ31_iterator_9 e6 ?_
  replace h := zbE h
  obtain ⟨a7, e8, h⟩ := h
  subst e8
  replace h := zkE h
  obtain ⟨e9, h⟩ := h
  replace h := zbE h
  obtain ⟨r11, e10, h⟩ := h
  refine j_cont (zrV (As := []) msJ31_15 (yJ22_getFirstEntry_ok e10) (Nat.le_trans (Nat.le_of_ble_eq_true rfl) hd) (zk_16 _ e9) rfl rfl (Nat.le_of_ble_eq_true rfl) dJ31_iterator_12) ?_
  replace h := zbE h
  obtain ⟨G13, e12, h⟩ := h
  refine j_cont (zrI (As := [vR r3, vR r11]) msJ31_21 (yJ35_init_ok e12) (Nat.le_trans (Nat.le_of_ble_eq_true rfl) hd) rfl rfl (Nat.le_of_ble_eq_true rfl) dJ31_iterator_15) ?_
  obtain rfl := Option.some.inj h
  exact j_aret hk.1 hk.2 rfl (Or.inl ⟨_, rfl⟩) dJ31_iterator_18
theorem yJ31_iterator_ok {t : Nat} {G : GS} {r : Option Nat} {G1 : GS} (h : fJ31_iterator_0 t G = some (r, G1)) : zRuns yJ31_iterator (ws_ yJ31_iterator cJ31_iterator 1 (some (Jvm.ClassFile.FieldType.object "java/util/Iterator"))) [vR (some t)] (.inl (some (vR r)), G, G1, 4) :=
  zentry (M := mJ31_iterator) (plainFor_of_name (by decide +kernel)) ⟨rfl, rfl, rfl, rfl⟩ (Nat.le_of_ble_eq_true rfl) (wfJ31_iterator_0 (Nat.le_refl _) t G h ⟨rfl, rfl⟩)
theorem fgJ34_26 : zFG RJ34 26 18 0 (.object "java/util/TreeMap$Entry") := ⟨(RJ35, TJ35, 4, tyJ35), rfl, by decide, in_J35, rfl, "java/util/TreeMap$PrivateEntryIterator", Or.inl rfl, Or.inl q1293⟩
abbrev mJ34_hasNext : zM := (cJ34_hasNext, RJ34, 1, (some Jvm.ClassFile.FieldType.boolean), "hasNext", [], "()Z")
def fJ34_hasNext_0 (t : Nat)  (G : GS) : Option (Int32) :=
  (zgR G 19 t 0).bind fun r1 => zopt r1 (zcond (zbb 0) (some 0)) (fun a3 => zcond (zbb 1) (some 1))
theorem wfJ34_hasNext_0 {F : zF} (hd : 1 ≤ F.2.2.2) (t : Nat)  (G : GS) {a : Int32} (h : fJ34_hasNext_0 t  G = some a) (hk : zKPI F G a) : J mJ34_hasNext F G 0 [(0, vR (some t))] [] := by
  unfold fJ34_hasNext_0 at h
  refine j_aload_n (j := 0) dJ34_hasNext_0 rfl rfl ?_
  replace h := zbE h
  obtain ⟨r1, e2, h⟩ := h
  refine j_getR fgJ34_26 (fun _ _ _ => rfl) dJ34_hasNext_1 e2 ?_
  rcases r1 with _ | a3
  · replace h := zopt_n h
    refine j_ifnull0 (tgt := 11) dJ34_hasNext_4 (by decide) ?_
    refine j_iconst (v := 0) dJ34_hasNext_11 (by decide) ?_
    replace h := zcondE h
    obtain ⟨e4, h⟩ := h
    obtain rfl := Option.some.inj h
    exact j_zret hk.1 hk.2 rfl (zbb_n e4) dJ34_hasNext_12
  · replace h := zopt_s h
    refine j_ifnull1 dJ34_hasNext_4 ?_
    refine j_iconst (v := 1) dJ34_hasNext_7 (by decide) ?_
    refine j_goto (tgt := 12) dJ34_hasNext_8 (by decide) ?_
    replace h := zcondE h
    obtain ⟨e5, h⟩ := h
    obtain rfl := Option.some.inj h
    exact j_zret hk.1 hk.2 rfl (zbb_n e5) dJ34_hasNext_12
theorem yJ34_hasNext_ok {t : Nat} {G : GS} {r : Int32} (h : fJ34_hasNext_0 t G = some r) : zRuns yJ34_hasNext (ws_ yJ34_hasNext cJ34_hasNext 1 (some Jvm.ClassFile.FieldType.boolean)) [vR (some t)] (.inl (some (vI r)), G, G, 1) :=
  zentry (M := mJ34_hasNext) (plainFor_of_name (by decide +kernel)) ⟨rfl, rfl, rfl, rfl⟩ (Nat.le_of_ble_eq_true rfl) (wfJ34_hasNext_0 (Nat.le_refl _) t G h ⟨rfl, rfl⟩)
abbrev mJ22_successor : zM := (cJ22_successor, RJ22, 3, (some (Jvm.ClassFile.FieldType.object "java/util/TreeMap$Entry")), "successor", [], "(Ljava/util/TreeMap$Entry;)Ljava/util/TreeMap$Entry;")
def fbJ22_successor_42 (x1 : Option Nat) (x2 : Option Nat)  (G : GS) : Option (((Option Nat) × (Option Nat)) ⊕ (Option Nat)) :=
  zopt x1 (zo (some none)) (fun a1 => (zgR G 17 a1 3).bind fun r2 => if x2 = r2 then ((zgR G 17 a1 4).bind fun r5 => some (.inl (r5, (some a1)))) else (zo (some (some a1))))
def flJ22_successor_42 (x1 : Option Nat) (x2 : Option Nat) (G : GS) : Option (Option Nat) := zloop (fun s : (Option Nat) × (Option Nat) => fbJ22_successor_42 s.1 s.2 G) (x1, x2)
theorem wfbJ22_successor_42 {F : zF} (hd : 1 ≤ F.2.2.2) (x1 : Option Nat) (x2 : Option Nat) (G : GS) {a : ((Option Nat) × (Option Nat)) ⊕ (Option Nat)} (h : fbJ22_successor_42 x1 x2 G = some a) (hk : (zcase (fun s : (Option Nat) × (Option Nat) => J mJ22_successor F G 42 [(1, vR s.1), (2, vR s.2)] []) (zKPR F G)) a) : J mJ22_successor F G 42 [(1, vR x1), (2, vR x2)] [] := by
  unfold fbJ22_successor_42 at h
  refine j_aload_n (j := 0) dJ22_successor_42 rfl rfl ?_
  rcases x1 with _ | a1
  · replace h := zopt_n h
    refine j_ifnull0 (tgt := 64) dJ22_successor_43 (by decide) ?_
    replace h := zoE h
    obtain ⟨a, h, rfl⟩ := h
    replace hk := hk
    refine j_aload_n (j := 0) dJ22_successor_64 rfl rfl ?_
    obtain rfl := Option.some.inj h
    exact j_aret hk.1 hk.2 rfl (Or.inl ⟨_, rfl⟩) dJ22_successor_65
  · replace h := zopt_s h
    refine j_ifnull1 dJ22_successor_43 ?_
    refine j_aload_n (j := 1) dJ22_successor_46 rfl rfl ?_
    refine j_aload_n (j := 0) dJ22_successor_47 rfl rfl ?_
    replace h := zbE h
    obtain ⟨r2, e3, h⟩ := h
    refine j_getR fgJ22_114 (fun _ _ _ => rfl) dJ22_successor_48 e3 ?_
    refine j_acmp_ne (tgt := 64) dJ22_successor_51 (by decide) (fun c4 => ?_) (fun c4 => ?_)
    · rw [if_pos c4] at h
      refine j_aload_n (j := 0) dJ22_successor_54 rfl rfl ?_
      refine j_astore_n (lv' := [(2, vR (some a1)), (1, vR (some a1))]) dJ22_successor_55 rfl (Nat.le_of_ble_eq_true rfl) rfl ?_
      refine j_aload_n (j := 1) dJ22_successor_56 rfl rfl ?_
      replace h := zbE h
      obtain ⟨r5, e6, h⟩ := h
      refine j_getR fgJ22_124 (fun _ _ _ => rfl) dJ22_successor_57 e6 ?_
      refine j_astore_n (lv' := [(1, vR r5), (2, vR (some a1))]) dJ22_successor_60 rfl (Nat.le_of_ble_eq_true rfl) rfl ?_
      refine j_goto (tgt := 42) dJ22_successor_61 (by decide) ?_
      obtain rfl := Option.some.inj h
      exact J.sub (zall [0, 1] rfl) hk
    · rw [if_neg c4] at h
      replace h := zoE h
      obtain ⟨a, h, rfl⟩ := h
      replace hk := hk
      refine j_aload_n (j := 0) dJ22_successor_64 rfl rfl ?_
      obtain rfl := Option.some.inj h
      exact j_aret hk.1 hk.2 rfl (Or.inl ⟨_, rfl⟩) dJ22_successor_65
theorem wflJ22_successor_42 {F : zF} (hd : 1 ≤ F.2.2.2) (x1 : Option Nat) (x2 : Option Nat) (G : GS) {a : Option Nat} (h : flJ22_successor_42 x1 x2 G = some a) (hk : zKPR F G a) : J mJ22_successor F G 42 [(1, vR x1), (2, vR x2)] [] := by
  unfold flJ22_successor_42 at h
  exact zloop_walk (P := (fun s : (Option Nat) × (Option Nat) => J mJ22_successor F G 42 [(1, vR s.1), (2, vR s.2)] [])) (fun s b e hk => wfbJ22_successor_42 hd s.1 s.2 G e hk) (x1, x2) _ h hk
def fbJ22_successor_18 (x1 : Option Nat)  (G : GS) : Option (((Option Nat)) ⊕ (Option Nat)) :=
  x1.bind fun a1 => (zgR G 17 a1 2).bind fun r3 => zopt r3 (zo (some (some a1))) (fun a5 => (zgR G 17 a1 2).bind fun r6 => some (.inl (r6)))
def flJ22_successor_18 (x1 : Option Nat) (G : GS) : Option (Option Nat) := zloop (fun s : (Option Nat) => fbJ22_successor_18 s G) (x1)
theorem wfbJ22_successor_18 {F : zF} (hd : 1 ≤ F.2.2.2) (x1 : Option Nat) (G : GS) {a : ((Option Nat)) ⊕ (Option Nat)} (h : fbJ22_successor_18 x1 G = some a) (hk : (zcase (fun s : (Option Nat) => J mJ22_successor F G 18 [(1, vR s)] []) (zKPR F G)) a) : J mJ22_successor F G 18 [(1, vR x1)] [] := by
  unfold fbJ22_successor_18 at h
  refine j_aload_n (j := 0) dJ22_successor_18 rfl rfl ?_
  replace h := zbE h
  obtain ⟨a1, e2, h⟩ := h
  subst e2
  replace h := zbE h
  obtain ⟨r3, e4, h⟩ := h
  refine j_getR fgJ22_111 (fun _ _ _ => rfl) dJ22_successor_19 e4 ?_
  rcases r3 with _ | a5
  · replace h := zopt_n h
    refine j_ifnull0 (tgt := 33) dJ22_successor_22 (by decide) ?_
    replace h := zoE h
    obtain ⟨a, h, rfl⟩ := h
    replace hk := hk
    refine j_aload_n (j := 0) dJ22_successor_33 rfl rfl ?_
    obtain rfl := Option.some.inj h
    exact j_aret hk.1 hk.2 rfl (Or.inl ⟨_, rfl⟩) dJ22_successor_34
  · replace h := zopt_s h
    refine j_ifnull1 dJ22_successor_22 ?_
    refine j_aload_n (j := 0) dJ22_successor_25 rfl rfl ?_
    replace h := zbE h
    obtain ⟨r6, e7, h⟩ := h
    refine j_getR fgJ22_111 (fun _ _ _ => rfl) dJ22_successor_26 e7 ?_
    refine j_astore_n (lv' := [(1, vR r6)]) dJ22_successor_29 rfl (Nat.le_of_ble_eq_true rfl) rfl ?_
    refine j_goto (tgt := 18) dJ22_successor_30 (by decide) ?_
    obtain rfl := Option.some.inj h
    exact J.sub (zall [0] rfl) hk
theorem wflJ22_successor_18 {F : zF} (hd : 1 ≤ F.2.2.2) (x1 : Option Nat) (G : GS) {a : Option Nat} (h : flJ22_successor_18 x1 G = some a) (hk : zKPR F G a) : J mJ22_successor F G 18 [(1, vR x1)] [] := by
  unfold flJ22_successor_18 at h
  exact zloop_walk (P := (fun s : (Option Nat) => J mJ22_successor F G 18 [(1, vR s)] [])) (fun s b e hk => wfbJ22_successor_18 hd s G e hk) (x1) _ h hk
def fJ22_successor_0 (x0 : Option Nat)  (G : GS) : Option (Option Nat) :=
  zopt x0 (some none) (fun a1 => (zgR G 17 a1 3).bind fun r2 => zopt r2 ((zgR G 17 a1 4).bind fun r5 => flJ22_successor_42 r5 (some a1) G) (fun a4 => (zgR G 17 a1 3).bind fun r7 => flJ22_successor_18 r7 G))
theorem wfJ22_successor_0 {F : zF} (hd : 1 ≤ F.2.2.2) (x0 : Option Nat)  (G : GS) {a : Option Nat} (h : fJ22_successor_0 x0  G = some a) (hk : zKPR F G a) : J mJ22_successor F G 0 [(0, vR x0)] [] := by
  unfold fJ22_successor_0 at h
  refine j_aload_n (j := 0) dJ22_successor_0 rfl rfl ?_
  rcases x0 with _ | a1
  · replace h := zopt_n h
    refine j_ifnonnull0 dJ22_successor_1 ?_
    refine j_null dJ22_successor_4 ?_
    obtain rfl := Option.some.inj h
    exact j_aret hk.1 hk.2 rfl (Or.inl ⟨_, rfl⟩) dJ22_successor_5
  · replace h := zopt_s h
    refine j_ifnonnull1 (tgt := 6) dJ22_successor_1 (by decide) ?_
    refine j_aload_n (j := 0) dJ22_successor_6 rfl rfl ?_
    replace h := zbE h
    obtain ⟨r2, e3, h⟩ := h
    refine j_getR fgJ22_114 (fun _ _ _ => rfl) dJ22_successor_7 e3 ?_
    rcases r2 with _ | a4
    · replace h := zopt_n h
      refine j_ifnull0 (tgt := 35) dJ22_successor_10 (by decide) ?_
      refine j_aload_n (j := 0) dJ22_successor_35 rfl rfl ?_
      replace h := zbE h
      obtain ⟨r5, e6, h⟩ := h
      refine j_getR fgJ22_124 (fun _ _ _ => rfl) dJ22_successor_36 e6 ?_
      refine j_astore_n (lv' := [(1, vR r5), (0, vR (some a1))]) dJ22_successor_39 rfl (Nat.le_of_ble_eq_true rfl) rfl ?_
      refine j_aload_n (j := 1) dJ22_successor_40 rfl rfl ?_
      refine j_astore_n (lv' := [(2, vR (some a1)), (1, vR r5), (0, vR (some a1))]) dJ22_successor_41 rfl (Nat.le_of_ble_eq_true rfl) rfl ?_
      exact J.sub (zall [1, 0] rfl) (wflJ22_successor_42 hd r5 (some a1)  G h hk)
    · replace h := zopt_s h
      refine j_ifnull1 dJ22_successor_10 ?_
      refine j_aload_n (j := 0) dJ22_successor_13 rfl rfl ?_
      replace h := zbE h
      obtain ⟨r7, e8, h⟩ := h
      refine j_getR fgJ22_114 (fun _ _ _ => rfl) dJ22_successor_14 e8 ?_
      refine j_astore_n (lv' := [(1, vR r7), (0, vR (some a1))]) dJ22_successor_17 rfl (Nat.le_of_ble_eq_true rfl) rfl ?_
      exact J.sub (zall [0] rfl) (wflJ22_successor_18 hd r7  G h hk)
theorem yJ22_successor_ok {x0 : Option Nat} {G : GS} {r : Option Nat} (h : fJ22_successor_0 x0 G = some r) : zRuns yJ22_successor (ws_ yJ22_successor cJ22_successor 3 (some (Jvm.ClassFile.FieldType.object "java/util/TreeMap$Entry"))) [vR x0] (.inl (some (vR r)), G, G, 1) :=
  zentry (M := mJ22_successor) (plainFor_of_name (by decide +kernel)) ⟨rfl, rfl, rfl, rfl⟩ (Nat.le_of_ble_eq_true rfl) (wfJ22_successor_0 (Nat.le_refl _) x0 G h ⟨rfl, rfl⟩)
theorem fgJ34_1 : zFG RJ34 1 18 3 (.object "java/util/TreeMap") := ⟨(RJ35, TJ35, 4, tyJ35), rfl, by decide, in_J35, rfl, "java/util/TreeMap$PrivateEntryIterator", Or.inl rfl, Or.inl q1296⟩
theorem fgJ34_19 : zFG RJ34 19 18 2 (.int) := ⟨(RJ35, TJ35, 4, tyJ35), rfl, by decide, in_J35, rfl, "java/util/TreeMap$PrivateEntryIterator", Or.inl rfl, Or.inl q1295⟩
theorem msJ34_35 : zSS RJ34 35 yJ22_successor cJ22_successor 3 (some (Jvm.ClassFile.FieldType.object "java/util/TreeMap$Entry")) 1 := ⟨lw_S q396 q397 q150 q398, (by decide +kernel), (by decide)⟩
abbrev mJ34_nextEntry : zM := (cJ34_nextEntry, RJ34, 2, (some (Jvm.ClassFile.FieldType.object "java/util/TreeMap$Entry")), "nextEntry", [], "()Ljava/util/TreeMap$Entry;")
def fJ34_nextEntry_0 (t : Nat)  (G : GS) : Option ((Option Nat) × GS) :=
  (zgR G 19 t 0).bind fun r1 => zopt r1 none (fun a3 => (zgR G 19 t 3).bind fun r4 => r4.bind fun a6 => (zgI G 16 a6 5).bind fun v8 => (zgI G 19 t 2).bind fun v10 => if v8 = v10 then ((fJ22_successor_0 (some a3) G).bind fun r14 => (zpR G 19 t 0 r14).bind fun G15 => (zpR G15 19 t 1 (some a3)).bind fun G17 => some ((some a3), G17)) else none)
theorem wfJ34_nextEntry_0 {F : zF} (hd : 2 ≤ F.2.2.2) (t : Nat)  (G : GS) {a : (Option Nat) × GS} (h : fJ34_nextEntry_0 t  G = some a) (hk : zKR F a) : J mJ34_nextEntry F G 0 [(0, vR (some t))] [] := by
  unfold fJ34_nextEntry_0 at h
  refine j_aload_n (j := 0) dJ34_nextEntry_0 rfl rfl ?_
  replace h := zbE h
  obtain ⟨r1, e2, h⟩ := h
  refine j_getR fgJ34_26 (fun _ _ _ => rfl) dJ34_nextEntry_1 e2 ?_
  refine j_astore_n (lv' := [(1, vR r1), (0, vR (some t))]) dJ34_nextEntry_4 rfl (Nat.le_of_ble_eq_true rfl) rfl ?_
  refine j_aload_n (j := 0) dJ34_nextEntry_5 rfl rfl ?_
  rcases r1 with _ | a3
  · replace h := zopt_n h
    refine j_ifnonnull0 dJ34_nextEntry_6 ?_
    cases h
  · replace h := zopt_s h
    refine j_ifnonnull1 (tgt := 17) dJ34_nextEntry_6 (by decide) ?_
    refine j_aload_n (j := 1) dJ34_nextEntry_17 rfl rfl ?_
    replace h := zbE h
    obtain ⟨r4, e5, h⟩ := h
    refine j_getR fgJ34_1 (fun _ _ _ => rfl) dJ34_nextEntry_18 e5 ?_
    replace h := zbE h
    obtain ⟨a6, e7, h⟩ := h
    subst e7
    replace h := zbE h
    obtain ⟨v8, e9, h⟩ := h
    refine j_getI fgJ34_13 (fun _ _ _ => rfl) dJ34_nextEntry_21 e9 ?_
    refine j_aload_n (j := 1) dJ34_nextEntry_24 rfl rfl ?_
    replace h := zbE h
    obtain ⟨v10, e11, h⟩ := h
    refine j_getI fgJ34_19 (fun _ _ _ => rfl) dJ34_nextEntry_25 e11 ?_
    refine j_icmp_eq (tgt := 39) dJ34_nextEntry_28 (by decide) (fun c12 => ?_) (fun c12 => ?_)
    · rw [if_pos c12] at h
      refine j_aload_n (j := 1) dJ34_nextEntry_39 rfl rfl ?_
      refine j_aload_n (j := 0) dJ34_nextEntry_40 rfl rfl ?_
      replace h := zbE h
      obtain ⟨r14, e13, h⟩ := h
      refine j_cont (zrS (As := [vR (some a3)]) msJ34_35 (yJ22_successor_ok e13) (Nat.le_trans (Nat.le_of_ble_eq_true rfl) hd) rfl rfl (Nat.le_of_ble_eq_true rfl) dJ34_nextEntry_41) ?_
      replace h := zbE h
      obtain ⟨G15, e16, h⟩ := h
      refine j_putR fpJ34_26_J35 (Or.inl rfl) (Or.inl ⟨_, rfl⟩) dJ34_nextEntry_44 e16 ?_
      refine j_aload_n (j := 1) dJ34_nextEntry_47 rfl rfl ?_
      refine j_aload_n (j := 0) dJ34_nextEntry_48 rfl rfl ?_
      replace h := zbE h
      obtain ⟨G17, e18, h⟩ := h
      refine j_putR fpJ34_22_J35 (Or.inl rfl) (Or.inl ⟨_, rfl⟩) dJ34_nextEntry_49 e18 ?_
      refine j_aload_n (j := 0) dJ34_nextEntry_52 rfl rfl ?_
      obtain rfl := Option.some.inj h
      exact j_aret hk.1 hk.2 rfl (Or.inl ⟨_, rfl⟩) dJ34_nextEntry_53
    · rw [if_neg c12] at h
      cases h
theorem yJ34_nextEntry_ok {t : Nat} {G : GS} {r : Option Nat} {G1 : GS} (h : fJ34_nextEntry_0 t G = some (r, G1)) : zRuns yJ34_nextEntry (ws_ yJ34_nextEntry cJ34_nextEntry 2 (some (Jvm.ClassFile.FieldType.object "java/util/TreeMap$Entry"))) [vR (some t)] (.inl (some (vR r)), G, G1, 2) :=
  zentry (M := mJ34_nextEntry) (plainFor_of_name (by decide +kernel)) ⟨rfl, rfl, rfl, rfl⟩ (Nat.le_of_ble_eq_true rfl) (wfJ34_nextEntry_0 (Nat.le_refl _) t G h ⟨rfl, rfl⟩)
theorem zk_19 : ∀ k, [19].contains k = true → zKc k = some "java/util/TreeMap$ValueIterator" := fun k h => by rw [zKc_one h]; rfl
theorem fgJ35_13 : zFG RJ35 13 16 1 (.object "java/lang/Object") := ⟨(RJ30, TJ30, 6, tyJ30), rfl, by decide, in_J30, rfl, "java/util/TreeMap$Entry", Or.inl rfl, Or.inl q1089⟩
theorem msJ35_7 : zSU RJ35 7 "java/util/TreeMap$ValueIterator" "java/util/TreeMap$PrivateEntryIterator" ⟨"java/util/TreeMap$ValueIterator", "nextEntry", "()Ljava/util/TreeMap$Entry;"⟩ yJ34_nextEntry cJ34_nextEntry 2 (some (Jvm.ClassFile.FieldType.object "java/util/TreeMap$Entry")) 0 := ⟨lw_U q390 q391 q393 q394 q166 q395, rfl, (by decide +kernel), (by decide)⟩
abbrev mJ35_next : zM := (cJ35_next, RJ35, 1, (some (Jvm.ClassFile.FieldType.object "java/lang/Object")), "next", [], "()Ljava/lang/Object;")
def fJ35_next_0 (t : Nat)  (G : GS) : Option ((Option Nat) × GS) :=
  zk [19] G t <| zb2 (fJ34_nextEntry_0 t G) fun r3 G4 => r3.bind fun a5 => (zgR G4 17 a5 1).bind fun r7 => some (r7, G4)
theorem wfJ35_next_0 {F : zF} (hd : 3 ≤ F.2.2.2) (t : Nat)  (G : GS) {a : (Option Nat) × GS} (h : fJ35_next_0 t  G = some a) (hk : zKR F a) : J mJ35_next F G 0 [(0, vR (some t))] [] := by
  unfold fJ35_next_0 at h
  refine j_aload_n (j := 0) dJ35_next_0 rfl rfl ?_
  replace h := zkE h
  obtain ⟨e1, h⟩ := h
  replace h := zb2E h
  obtain ⟨r3, G4, e2, h⟩ := h
  refine j_cont (zrU (As := []) msJ35_7 (yJ34_nextEntry_ok e2) (Nat.le_trans (Nat.le_of_ble_eq_true rfl) hd) (zk_19 _ e1) rfl rfl (Nat.le_of_ble_eq_true rfl) dJ35_next_1) ?_
  replace h := zbE h
  obtain ⟨a5, e6, h⟩ := h
  subst e6
  replace h := zbE h
  obtain ⟨r7, e8, h⟩ := h
  refine j_getR fgJ35_13 (fun _ _ _ => rfl) dJ35_next_4 e8 ?_
  obtain rfl := Option.some.inj h
  exact j_aret hk.1 hk.2 rfl (Or.inl ⟨_, rfl⟩) dJ35_next_7
theorem yJ35_next_ok {t : Nat} {G : GS} {r : Option Nat} {G1 : GS} (h : fJ35_next_0 t G = some (r, G1)) : zRuns yJ35_next (ws_ yJ35_next cJ35_next 1 (some (Jvm.ClassFile.FieldType.object "java/lang/Object"))) [vR (some t)] (.inl (some (vR r)), G, G1, 3) :=
  zentry (M := mJ35_next) (plainFor_of_name (by decide +kernel)) ⟨rfl, rfl, rfl, rfl⟩ (Nat.le_of_ble_eq_true rfl) (wfJ35_next_0 (Nat.le_refl _) t G h ⟨rfl, rfl⟩)
theorem zk_18 : ∀ k, [18].contains k = true → zKc k = some "java/util/TreeMap$Values" := fun k h => by rw [zKc_one h]; rfl
theorem msX5_194 : zSV RX5 194 RJ26 yJ26_intValue cJ26_intValue 1 (some Jvm.ClassFile.FieldType.int) 0 := ⟨lw_V q1306 q1307 q1308 q156 q1309, (by decide +kernel), (by decide)⟩
theorem msX5_197_J22 : zSF RX5 197 RJ22 ⟨"java/util/Map", "values", "()Ljava/util/Collection;"⟩ yJ22_values cJ22_values 2 (some (Jvm.ClassFile.FieldType.object "java/util/Collection")) 0 := ⟨lw_F q1193 q1196 q1198 q150 q1200, zfw 21 rfl, ⟨15, _, rfl, rfl⟩, (by decide +kernel), (by decide)⟩
theorem msX5_201_J31 : zSF RX5 201 RJ31 ⟨"java/util/Collection", "iterator", "()Ljava/util/Iterator;"⟩ yJ31_iterator cJ31_iterator 1 (some (Jvm.ClassFile.FieldType.object "java/util/Iterator")) 0 := ⟨lw_F q1212 q1275 q1277 q163 q1279, zfw 24 rfl, ⟨17, _, rfl, rfl⟩, (by decide +kernel), (by decide)⟩
theorem msX5_82_J35 : zSF RX5 82 RJ35 ⟨"java/util/Iterator", "hasNext", "()Z"⟩ yJ34_hasNext cJ34_hasNext 1 (some Jvm.ClassFile.FieldType.boolean) 0 := ⟨lw_F q473 q339 q341 q166 q343, zfw 22 rfl, ⟨18, _, rfl, rfl⟩, (by decide +kernel), (by decide)⟩
theorem msX5_88_J35 : zSF RX5 88 RJ35 ⟨"java/util/Iterator", "next", "()Ljava/lang/Object;"⟩ yJ35_next cJ35_next 1 (some (Jvm.ClassFile.FieldType.object "java/lang/Object")) 0 := ⟨lw_F q475 q385 q387 q167 q389, zfw 23 rfl, ⟨18, _, rfl, rfl⟩, (by decide +kernel), (by decide)⟩
abbrev mX5_conflicts : zM := (cX5_conflicts, RX5, 3, (some Jvm.ClassFile.FieldType.int), "conflicts", [], "()I")
def fbX5_conflicts_17 (x1 : Int32) (x2 : Option Nat)  (G : GS) : Option ((Int32 × GS) ⊕ ((Int32) × GS)) :=
  x2.bind fun a1 => zk [19] G a1 <| (fJ34_hasNext_0 a1 G).bind fun v5 => if v5 = 0 then (zo (some (x1, G))) else (zk [19] G a1 <| zb2 (fJ35_next_0 a1 G) fun r9 G10 => zkq [21, 61] G10 r9 (r9.bind fun a12 => zk [21, 61] G10 a12 <| (fJ26_intValue_0 a12 G10).bind fun v16 => if v16 = (-2) then (some (.inl ((x1 + 1), G10))) else (some (.inl (x1, G10)))))
def flX5_conflicts_17 (x1 : Int32) (x2 : Option Nat) (G : GS) : Option ((Int32) × GS) := zloop (fun s : Int32 × GS => fbX5_conflicts_17 s.1 x2 s.2) (x1, G)
theorem wfbX5_conflicts_17 {F : zF} (hd : 5 ≤ F.2.2.2) (x1 : Int32) (x2 : Option Nat) (G : GS) {a : (Int32 × GS) ⊕ ((Int32) × GS)} (h : fbX5_conflicts_17 x1 x2 G = some a) (hk : (zcase (fun s : Int32 × GS => J mX5_conflicts F s.2 17 [(1, vI s.1), (2, vR x2)] []) (zKI F)) a) : J mX5_conflicts F G 17 [(1, vI x1), (2, vR x2)] [] := by
  unfold fbX5_conflicts_17 at h
  refine j_aload_n (j := 1) dX5_conflicts_17 rfl rfl ?_
  replace h := zbE h
  obtain ⟨a1, e2, h⟩ := h
  subst e2
  replace h := zkE h
  obtain ⟨e3, h⟩ := h
  replace h := zbE h
  obtain ⟨v5, e4, h⟩ := h
  refine j_cont (zrF (As := []) msX5_82_J35 (yJ34_hasNext_ok e4) (Nat.le_trans (Nat.le_of_ble_eq_true rfl) hd) (zk_19 _ e3) rfl rfl (Nat.le_of_ble_eq_true rfl) dX5_conflicts_18) ?_
  refine j_if_eq (tgt := 49) dX5_conflicts_23 (by decide) (fun c6 => ?_) (fun c6 => ?_)
  · rw [if_pos c6] at h
    replace h := zoE h
    obtain ⟨a, h, rfl⟩ := h
    replace hk := hk
    refine j_iload_n (j := 0) dX5_conflicts_49 rfl rfl ?_
    obtain rfl := Option.some.inj h
    exact j_iret hk.1 hk.2 rfl dX5_conflicts_50
  · rw [if_neg c6] at h
    refine j_aload_n (j := 1) dX5_conflicts_26 rfl rfl ?_
    replace h := zkE h
    obtain ⟨e7, h⟩ := h
    replace h := zb2E h
    obtain ⟨r9, G10, e8, h⟩ := h
    refine j_cont (zrF (As := []) msX5_88_J35 (yJ35_next_ok e8) (Nat.le_trans (Nat.le_of_ble_eq_true rfl) hd) (zk_19 _ e7) rfl rfl (Nat.le_of_ble_eq_true rfl) dX5_conflicts_27) ?_
    replace h := zkqE h
    obtain ⟨e11, h⟩ := h
    refine j_castq (fun k => j_castN dX5_conflicts_32 k) (fun b q18 k => j_castS (zk_21_61 _ (e11 b q18)) ⟨20, _, rfl, rfl⟩ q1144 dX5_conflicts_32 k) ?_
    replace h := zbE h
    obtain ⟨a12, e13, h⟩ := h
    subst e13
    replace h := zkE h
    obtain ⟨e14, h⟩ := h
    replace h := zbE h
    obtain ⟨v16, e15, h⟩ := h
    refine j_cont (zrV (As := []) msX5_194 (yJ26_intValue_ok e15) (Nat.le_trans (Nat.le_of_ble_eq_true rfl) hd) (zk_21_61 _ e14) rfl rfl (Nat.le_of_ble_eq_true rfl) dX5_conflicts_35) ?_
    refine j_bipush (v := (-2)) dX5_conflicts_38 (by decide) ?_
    refine j_icmp_ne (tgt := 17) dX5_conflicts_40 (by decide) (fun c17 => ?_) (fun c17 => ?_)
    · rw [if_pos c17] at h
      refine j_iinc (j := 0) (v := (x1 + 1)) (lv' := [(1, vI (x1 + 1)), (2, vR (some a1))]) dX5_conflicts_43 rfl rfl (Nat.le_of_ble_eq_true rfl) rfl ?_
      refine j_goto (tgt := 17) dX5_conflicts_46 (by decide) ?_
      obtain rfl := Option.some.inj h
      exact J.sub (zall [0, 1] rfl) hk
    · rw [if_neg c17] at h
      obtain rfl := Option.some.inj h
      exact J.sub (zall [0, 1] rfl) hk
theorem wflX5_conflicts_17 {F : zF} (hd : 5 ≤ F.2.2.2) (x1 : Int32) (x2 : Option Nat) (G : GS) {a : (Int32) × GS} (h : flX5_conflicts_17 x1 x2 G = some a) (hk : zKI F a) : J mX5_conflicts F G 17 [(1, vI x1), (2, vR x2)] [] := by
  unfold flX5_conflicts_17 at h
  exact zloop_walk (P := (fun s : Int32 × GS => J mX5_conflicts F s.2 17 [(1, vI s.1), (2, vR x2)] [])) (fun s b e hk => wfbX5_conflicts_17 hd s.1 x2 s.2 e hk) (x1, G) _ h hk
def fX5_conflicts_0 (t : Nat)  (G : GS) : Option ((Int32) × GS) :=
  (zgR G 5 t 6).bind fun r1 => r1.bind fun a3 => zk [16] G a3 <| zb2 (fJ22_values_0 a3 G) fun r7 G8 => r7.bind fun a9 => zk [18] G8 a9 <| zb2 (fJ31_iterator_0 a9 G8) fun r13 G14 => flX5_conflicts_17 0 r13 G14
theorem wfX5_conflicts_0 {F : zF} (hd : 5 ≤ F.2.2.2) (t : Nat)  (G : GS) {a : (Int32) × GS} (h : fX5_conflicts_0 t  G = some a) (hk : zKI F a) : J mX5_conflicts F G 0 [(0, vR (some t))] [] := by
  unfold fX5_conflicts_0 at h
  refine j_iconst (v := 0) dX5_conflicts_0 (by decide) ?_
  refine j_istore_n (lv' := [(1, vI 0), (0, vR (some t))]) dX5_conflicts_1 rfl (Nat.le_of_ble_eq_true rfl) rfl ?_
  refine j_aload_n (j := 1) dX5_conflicts_2 rfl rfl ?_
  replace h := zbE h
  obtain ⟨r1, e2, h⟩ := h
  refine j_getR fgX5_27 (fun _ _ _ => rfl) dX5_conflicts_3 e2 ?_
  replace h := zbE h
  obtain ⟨a3, e4, h⟩ := h
  subst e4
  replace h := zkE h
  obtain ⟨e5, h⟩ := h
  replace h := zb2E h
  obtain ⟨r7, G8, e6, h⟩ := h
  refine j_cont (zrF (As := []) msX5_197_J22 (yJ22_values_ok e6) (Nat.le_trans (Nat.le_of_ble_eq_true rfl) hd) (zk_16 _ e5) rfl rfl (Nat.le_of_ble_eq_true rfl) dX5_conflicts_6) ?_
  replace h := zbE h
  obtain ⟨a9, e10, h⟩ := h
  subst e10
  replace h := zkE h
  obtain ⟨e11, h⟩ := h
  replace h := zb2E h
  obtain ⟨r13, G14, e12, h⟩ := h
  refine j_cont (zrF (As := []) msX5_201_J31 (yJ31_iterator_ok e12) (Nat.le_trans (Nat.le_of_ble_eq_true rfl) hd) (zk_18 _ e11) rfl rfl (Nat.le_of_ble_eq_true rfl) dX5_conflicts_11) ?_
  refine j_astore_n (lv' := [(2, vR r13), (1, vI 0), (0, vR (some t))]) dX5_conflicts_16 rfl (Nat.le_of_ble_eq_true rfl) rfl ?_
  exact J.sub (zall [1, 0] rfl) (wflX5_conflicts_17 hd 0 r13  G14 h hk)
theorem yX5_conflicts_ok {t : Nat} {G : GS} {r : Int32} {G1 : GS} (h : fX5_conflicts_0 t G = some (r, G1)) : zRuns yX5_conflicts (ws_ yX5_conflicts cX5_conflicts 3 (some Jvm.ClassFile.FieldType.int)) [vR (some t)] (.inl (some (vI r)), G, G1, 5) :=
  zentry (M := mX5_conflicts) (plainFor_of_name (by decide +kernel)) ⟨rfl, rfl, rfl, rfl⟩ (Nat.le_of_ble_eq_true rfl) (wfX5_conflicts_0 (Nat.le_refl _) t G h ⟨rfl, rfl⟩)
theorem msX1_156 : zSV RX1 156 RX5 yX5_conflicts cX5_conflicts 3 (some Jvm.ClassFile.FieldType.int) 0 := ⟨lw_V q1188 q1189 q1190 q151 q1191, (by decide +kernel), (by decide)⟩
abbrev mX1_conflicts : zM := (cX1_conflicts, RX1, 1, (some Jvm.ClassFile.FieldType.int), "conflicts", [], "()I")
def fX1_conflicts_0 (t : Nat)  (G : GS) : Option ((Int32) × GS) :=
  zk [1] G t <| zb2 (fX1_sets_0 t G) fun r3 G4 => r3.bind fun a5 => zk [5] G4 a5 <| zb2 (fX5_conflicts_0 a5 G4) fun v9 G10 => some (v9, G10)
theorem wfX1_conflicts_0 {F : zF} (hd : 52 ≤ F.2.2.2) (t : Nat)  (G : GS) {a : (Int32) × GS} (h : fX1_conflicts_0 t  G = some a) (hk : zKI F a) : J mX1_conflicts F G 0 [(0, vR (some t))] [] := by
  unfold fX1_conflicts_0 at h
  refine j_aload_n (j := 0) dX1_conflicts_0 rfl rfl ?_
  replace h := zkE h
  obtain ⟨e1, h⟩ := h
  replace h := zb2E h
  obtain ⟨r3, G4, e2, h⟩ := h
  refine j_cont (zrV (As := []) msX1_128 (yX1_sets_ok e2) (Nat.le_trans (Nat.le_of_ble_eq_true rfl) hd) (zk_1 _ e1) rfl rfl (Nat.le_of_ble_eq_true rfl) dX1_conflicts_1) ?_
  replace h := zbE h
  obtain ⟨a5, e6, h⟩ := h
  subst e6
  replace h := zkE h
  obtain ⟨e7, h⟩ := h
  replace h := zb2E h
  obtain ⟨v9, G10, e8, h⟩ := h
  refine j_cont (zrV (As := []) msX1_156 (yX5_conflicts_ok e8) (Nat.le_trans (Nat.le_of_ble_eq_true rfl) hd) (zk_5 _ e7) rfl rfl (Nat.le_of_ble_eq_true rfl) dX1_conflicts_4) ?_
  obtain rfl := Option.some.inj h
  exact j_iret hk.1 hk.2 rfl dX1_conflicts_7
theorem yX1_conflicts_ok {t : Nat} {G : GS} {r : Int32} {G1 : GS} (h : fX1_conflicts_0 t G = some (r, G1)) : zRuns yX1_conflicts (ws_ yX1_conflicts cX1_conflicts 1 (some Jvm.ClassFile.FieldType.int)) [vR (some t)] (.inl (some (vI r)), G, G1, 52) :=
  zentry (M := mX1_conflicts) (plainFor_of_name (by decide +kernel)) ⟨rfl, rfl, rfl, rfl⟩ (Nat.le_of_ble_eq_true rfl) (wfX1_conflicts_0 (Nat.le_refl _) t G h ⟨rfl, rfl⟩)
theorem fgX12_19 : zFG RX12 19 10 1 (.array (.int)) := ⟨(RX12, TX12, 3, tyX12), rfl, by decide, in_X12, rfl, "SelahGenerator$Backtracking", Or.inl rfl, Or.inl q1559⟩
theorem fpX12_15_X12 : zFP RX12 15 10 0 (.object "java/util/List") true := ⟨(RX12, TX12, 3, tyX12), rfl, by decide, in_X12, tyX12_ok, nmX12, rfl, rfl, (by intro _; rfl), "SelahGenerator$Backtracking", Or.inl rfl, q1558⟩
theorem fpX12_19_X12 : zFP RX12 19 10 1 (.array (.int)) true := ⟨(RX12, TX12, 3, tyX12), rfl, by decide, in_X12, tyX12_ok, nmX12, rfl, rfl, (by intro _; rfl), "SelahGenerator$Backtracking", Or.inl rfl, q1559⟩
theorem fpX12_3_X12 : zFP RX12 3 10 2 (.object "SelahGenerator") true := ⟨(RX12, TX12, 3, tyX12), rfl, by decide, in_X12, tyX12_ok, nmX12, rfl, rfl, (by intro _; rfl), "SelahGenerator$Backtracking", Or.inl rfl, q1560⟩
theorem msX12_23 : zSS RX12 23 yJ15_fill cJ15_fill 4 none 2 := ⟨lw_S q1557 q622 q141 q623, (by decide +kernel), (by decide)⟩
abbrev mX12_init : zM := (cX12_init, RX12, 3, none, "<init>", [], "(LSelahGenerator;Ljava/util/List;)V")
def fX12_init_0 (t : Nat) (x1 : Option Nat) (x2 : Option Nat)  (G : GS) : Option (GS) :=
  (zpR G 11 t 2 x1).bind fun G1 => (zpR G1 11 t 0 x2).bind fun G3 => (zna G3 50 (3468 : Int32)).bind fun G5 => (zpR G5 11 t 1 (some (gz G3))).bind fun G7 => (zgR G7 11 t 1).bind fun r9 => (fJ15_fill_0 r9 (-1) G7).bind fun G12 => some G12
theorem wfX12_init_0 {F : zF} (hd : 2 ≤ F.2.2.2) (t : Nat) (x1 : Option Nat) (x2 : Option Nat)  (G : GS) {a : GS} (h : fX12_init_0 t x1 x2  G = some a) (hk : zKV F a) : J mX12_init F G 0 [(0, vR (some t)), (1, vR x1), (2, vR x2)] [] := by
  unfold fX12_init_0 at h
  refine j_aload_n (j := 0) dX12_init_0 rfl rfl ?_
  refine j_aload_n (j := 1) dX12_init_1 rfl rfl ?_
  replace h := zbE h
  obtain ⟨G1, e2, h⟩ := h
  refine j_putR fpX12_3_X12 (Or.inr rfl) (Or.inl ⟨_, rfl⟩) dX12_init_2 e2 ?_
  refine j_aload_n (j := 0) dX12_init_5 rfl rfl ?_
  refine j_objinit q1556 q181 q182 (Nat.le_trans (Nat.le_of_ble_eq_true rfl) hd) (Nat.le_of_ble_eq_true rfl) dX12_init_6 ?_
  refine j_aload_n (j := 0) dX12_init_9 rfl rfl ?_
  refine j_aload_n (j := 2) dX12_init_10 rfl rfl ?_
  replace h := zbE h
  obtain ⟨G3, e4, h⟩ := h
  refine j_putR fpX12_15_X12 (Or.inr rfl) (Or.inl ⟨_, rfl⟩) dX12_init_11 e4 ?_
  refine j_aload_n (j := 0) dX12_init_14 rfl rfl ?_
  refine j_sipush (v := 3468) dX12_init_15 (by decide) ?_
  replace h := zbE h
  obtain ⟨G5, e6, h⟩ := h
  refine j_newa (t := 0) (ty := .int) rfl rfl q455 (fun _ _ _ e1 e2 e3 => by simp only [zfv, e1, e2, e3] <;> rfl) (by decide) (fun _ _ h => h) e6 dX12_init_18 ?_
  replace h := zbE h
  obtain ⟨G7, e8, h⟩ := h
  refine j_putR fpX12_19_X12 (Or.inr rfl) (Or.inr ⟨_, rfl⟩) dX12_init_20 e8 ?_
  refine j_aload_n (j := 0) dX12_init_23 rfl rfl ?_
  replace h := zbE h
  obtain ⟨r9, e10, h⟩ := h
  refine j_getR fgX12_19 (fun _ _ _ => rfl) dX12_init_24 e10 ?_
  refine j_iconst (v := (-1)) dX12_init_27 (by decide) ?_
  replace h := zbE h
  obtain ⟨G12, e11, h⟩ := h
  refine j_cont (zrS (As := [vR r9, vI (-1)]) msX12_23 (yJ15_fill_ok e11) (Nat.le_trans (Nat.le_of_ble_eq_true rfl) hd) rfl rfl (Nat.le_of_ble_eq_true rfl) dX12_init_28) ?_
  obtain rfl := Option.some.inj h
  exact j_vret hk.1 hk.2 rfl dX12_init_31
theorem yX12_init_ok {t : Nat} {x1 : Option Nat} {x2 : Option Nat} {G : GS} {G1 : GS} (h : fX12_init_0 t x1 x2 G = some G1) : zRuns yX12_init (ws_ yX12_init cX12_init 3 none) [vR (some t), vR x1, vR x2] (.inl none, G, G1, 2) :=
  zentry (M := mX12_init) (plainFor_of_name (by decide +kernel)) ⟨rfl, rfl, rfl, rfl⟩ (Nat.le_of_ble_eq_true rfl) (wfX12_init_0 (Nat.le_refl _) t x1 x2 G h ⟨rfl, rfl⟩)
theorem fgX12_15 : zFG RX12 15 10 0 (.object "java/util/List") := ⟨(RX12, TX12, 3, tyX12), rfl, by decide, in_X12, rfl, "SelahGenerator$Backtracking", Or.inl rfl, Or.inl q1558⟩
theorem msX12_42_J2 : zSF RX12 42 RJ2 ⟨"java/util/List", "get", "(I)Ljava/lang/Object;"⟩ yJ2_get cJ2_get 2 (some (Jvm.ClassFile.FieldType.object "java/lang/Object")) 1 := ⟨lw_F q1579 q1019 q1021 q126 q1023, zfw 8 rfl, ⟨11, _, rfl, rfl⟩, (by decide +kernel), (by decide)⟩
theorem msX12_80 : zSV RX12 80 RJ26 yJ26_intValue cJ26_intValue 1 (some Jvm.ClassFile.FieldType.int) 0 := ⟨lw_V q1592 q1307 q1308 q156 q1309, (by decide +kernel), (by decide)⟩
abbrev mX12_isAt : zM := (cX12_isAt, RX12, 4, (some Jvm.ClassFile.FieldType.boolean), "isAt", [], "(III)Z")
def fX12_isAt_29   (G : GS) : Option (Int32) :=
  zcond (zbb 0) (some 0)
theorem wfX12_isAt_29 {F : zF} (hd : 4 ≤ F.2.2.2)   (G : GS) {a : Int32} (h : fX12_isAt_29   G = some a) (hk : zKPI F G a) : J mX12_isAt F G 29 [] [] := by
  unfold fX12_isAt_29 at h
  refine j_iconst (v := 0) dX12_isAt_29 (by decide) ?_
  replace h := zcondE h
  obtain ⟨e1, h⟩ := h
  obtain rfl := Option.some.inj h
  exact j_zret hk.1 hk.2 rfl (zbb_n e1) dX12_isAt_30
def fX12_isAt_0 (t : Nat) (x1 : Int32) (x2 : Int32) (x3 : Int32)  (G : GS) : Option (Int32) :=
  if x2 ≤ x1 then (fX12_isAt_29 G) else ((zgR G 11 t 0).bind fun r2 => r2.bind fun a4 => zk [12] G a4 <| (fJ2_get_0 a4 x1 G).bind fun r8 => zkq [21, 61] G r8 (r8.bind fun a10 => zk [21, 61] G a10 <| (fJ26_intValue_0 a10 G).bind fun v14 => if v14 = x3 then (zcond (zbb 1) (some 1)) else (fX12_isAt_29 G)))
theorem wfX12_isAt_0 {F : zF} (hd : 4 ≤ F.2.2.2) (t : Nat) (x1 : Int32) (x2 : Int32) (x3 : Int32)  (G : GS) {a : Int32} (h : fX12_isAt_0 t x1 x2 x3  G = some a) (hk : zKPI F G a) : J mX12_isAt F G 0 [(0, vR (some t)), (1, vI x1), (2, vI x2), (3, vI x3)] [] := by
  unfold fX12_isAt_0 at h
  refine j_iload_n (j := 1) dX12_isAt_0 rfl rfl ?_
  refine j_iload_n (j := 2) dX12_isAt_1 rfl rfl ?_
  refine j_icmp_ge (tgt := 29) dX12_isAt_2 (by decide) (fun c1 => ?_) (fun c1 => ?_)
  · rw [if_pos c1] at h
    exact J.sub (zall [] rfl) (wfX12_isAt_29 hd   G h hk)
  · rw [if_neg c1] at h
    refine j_aload_n (j := 0) dX12_isAt_5 rfl rfl ?_
    replace h := zbE h
    obtain ⟨r2, e3, h⟩ := h
    refine j_getR fgX12_15 (fun _ _ _ => rfl) dX12_isAt_6 e3 ?_
    refine j_iload_n (j := 1) dX12_isAt_9 rfl rfl ?_
    replace h := zbE h
    obtain ⟨a4, e5, h⟩ := h
    subst e5
    replace h := zkE h
    obtain ⟨e6, h⟩ := h
    replace h := zbE h
    obtain ⟨r8, e7, h⟩ := h
    refine j_cont (zrF (As := [vI x1]) msX12_42_J2 (yJ2_get_ok e7) (Nat.le_trans (Nat.le_of_ble_eq_true rfl) hd) (zk_12 _ e6) rfl rfl (Nat.le_of_ble_eq_true rfl) dX12_isAt_10) ?_
    replace h := zkqE h
    obtain ⟨e9, h⟩ := h
    refine j_castq (fun k => j_castN dX12_isAt_15 k) (fun b q17 k => j_castS (zk_21_61 _ (e9 b q17)) ⟨20, _, rfl, rfl⟩ q1591 dX12_isAt_15 k) ?_
    replace h := zbE h
    obtain ⟨a10, e11, h⟩ := h
    subst e11
    replace h := zkE h
    obtain ⟨e12, h⟩ := h
    replace h := zbE h
    obtain ⟨v14, e13, h⟩ := h
    refine j_cont (zrV (As := []) msX12_80 (yJ26_intValue_ok e13) (Nat.le_trans (Nat.le_of_ble_eq_true rfl) hd) (zk_21_61 _ e12) rfl rfl (Nat.le_of_ble_eq_true rfl) dX12_isAt_18) ?_
    refine j_iload_n (j := 3) dX12_isAt_21 rfl rfl ?_
    refine j_icmp_ne (tgt := 29) dX12_isAt_22 (by decide) (fun c15 => ?_) (fun c15 => ?_)
    · rw [if_pos c15] at h
      refine j_iconst (v := 1) dX12_isAt_25 (by decide) ?_
      refine j_goto (tgt := 30) dX12_isAt_26 (by decide) ?_
      replace h := zcondE h
      obtain ⟨e16, h⟩ := h
      obtain rfl := Option.some.inj h
      exact j_zret hk.1 hk.2 rfl (zbb_n e16) dX12_isAt_30
    · rw [if_neg c15] at h
      exact J.sub (zall [] rfl) (wfX12_isAt_29 hd   G h hk)
theorem yX12_isAt_ok {t : Nat} {x1 : Int32} {x2 : Int32} {x3 : Int32} {G : GS} {r : Int32} (h : fX12_isAt_0 t x1 x2 x3 G = some r) : zRuns yX12_isAt (ws_ yX12_isAt cX12_isAt 4 (some Jvm.ClassFile.FieldType.boolean)) [vR (some t), vI x1, vI x2, vI x3] (.inl (some (vI r)), G, G, 4) :=
  zentry (M := mX12_isAt) (plainFor_of_name (by decide +kernel)) ⟨rfl, rfl, rfl, rfl⟩ (Nat.le_of_ble_eq_true rfl) (wfX12_isAt_0 (Nat.le_refl _) t x1 x2 x3 G h ⟨rfl, rfl⟩)
theorem zk_11 : ∀ k, [11].contains k = true → zKc k = some "SelahGenerator$Backtracking" := fun k h => by rw [zKc_one h]; rfl
theorem msX12_35 : zSV RX12 35 RX12 yX12_ways cX12_ways 7 (some Jvm.ClassFile.FieldType.int) 3 := ⟨lw_V q1574 q1576 qs27 q173 q1577, (by decide +kernel), (by decide)⟩
theorem msX12_66 : zSN RX12 66 yX1_isNonterminal "SelahGenerator" cX1_isNonterminal 1 (some Jvm.ClassFile.FieldType.boolean) 1 := ⟨q402, q123, zxw 88 rfl, (by decide +kernel), (by decide)⟩
theorem msX12_70 : zSV RX12 70 RX12 yX12_isAt cX12_isAt 4 (some Jvm.ClassFile.FieldType.boolean) 3 := ⟨lw_V q1587 q1589 qs29 q173 q1590, (by decide +kernel), (by decide)⟩
abbrev zWay : Type := Nat → Int32 → Int32 → Int32 → GS → Option (Int32 × GS)
def zRec (dr : Nat) (rec : zWay) : Prop := ∀ (t : Nat) (x1 x2 x3 : Int32) (G : GS) (r : Int32) (G1 : GS), rec t x1 x2 x3 G = some (r, G1) → zRuns yX12_ways (ws_ yX12_ways cX12_ways 7 (some Jvm.ClassFile.FieldType.int)) [vR (some t), vI x1, vI x2, vI x3] (.inl (some (vI r)), G, G1, dr)
abbrev mX12_once : zM := (cX12_once, RX12, 4, (some Jvm.ClassFile.FieldType.long), "once", [], "(III)J")
def fX12_once_37 (rec : zWay)   (G : GS) : Option ((Int64) × GS) :=
  some (0, G)
theorem wfX12_once_37 {F : zF} (dr : Nat) (rec : zWay) (hdr : 60 ≤ dr) (hrec : zRec dr rec) (hd : dr + 1 ≤ F.2.2.2)   (G : GS) {a : (Int64) × GS} (h : fX12_once_37 rec   G = some a) (hk : zKL F a) : J mX12_once F G 37 [] [] := by
  unfold fX12_once_37 at h
  refine j_lconst (v := 0) dX12_once_37 rfl ?_
  obtain rfl := Option.some.inj h
  exact j_lret hk.1 hk.2 rfl dX12_once_38
def fX12_once_0 (rec : zWay) (t : Nat) (x1 : Int32) (x2 : Int32) (x3 : Int32)  (G : GS) : Option ((Int64) × GS) :=
  (fX1_isNonterminal_0 x1 G).bind fun v2 => if v2 = 0 then (if x3 = (x2 + 1) then (zk [11] G t <| (fX12_isAt_0 t x2 x3 x1 G).bind fun v7 => if v7 = 0 then (fX12_once_37 rec G) else (some (1, G))) else (fX12_once_37 rec G)) else (zk [11] G t <| zb2 (rec t x1 x2 x3 G) fun v11 G12 => some (v11.toInt64, G12))
theorem wfX12_once_0 {F : zF} (dr : Nat) (rec : zWay) (hdr : 60 ≤ dr) (hrec : zRec dr rec) (hd : dr + 1 ≤ F.2.2.2) (t : Nat) (x1 : Int32) (x2 : Int32) (x3 : Int32)  (G : GS) {a : (Int64) × GS} (h : fX12_once_0 rec t x1 x2 x3  G = some a) (hk : zKL F a) : J mX12_once F G 0 [(0, vR (some t)), (1, vI x1), (2, vI x2), (3, vI x3)] [] := by
  unfold fX12_once_0 at h
  refine j_iload_n (j := 1) dX12_once_0 rfl rfl ?_
  replace h := zbE h
  obtain ⟨v2, e1, h⟩ := h
  refine j_cont (zrSN (As := [vI x1]) msX12_66 q401 (yX1_isNonterminal_ok e1) (by omega) rfl rfl (Nat.le_of_ble_eq_true rfl) dX12_once_1) ?_
  refine j_if_eq (tgt := 16) dX12_once_4 (by decide) (fun c3 => ?_) (fun c3 => ?_)
  · rw [if_pos c3] at h
    refine j_iload_n (j := 3) dX12_once_16 rfl rfl ?_
    refine j_iload_n (j := 2) dX12_once_17 rfl rfl ?_
    refine j_iconst (v := 1) dX12_once_18 (by decide) ?_
    refine j_iadd dX12_once_19 ?_
    refine j_icmp_ne (tgt := 37) dX12_once_20 (by decide) (fun c4 => ?_) (fun c4 => ?_)
    · rw [if_pos c4] at h
      refine j_aload_n (j := 0) dX12_once_23 rfl rfl ?_
      refine j_iload_n (j := 2) dX12_once_24 rfl rfl ?_
      refine j_iload_n (j := 3) dX12_once_25 rfl rfl ?_
      refine j_iload_n (j := 1) dX12_once_26 rfl rfl ?_
      replace h := zkE h
      obtain ⟨e5, h⟩ := h
      replace h := zbE h
      obtain ⟨v7, e6, h⟩ := h
      refine j_cont (zrV (As := [vI x2, vI x3, vI x1]) msX12_70 (yX12_isAt_ok e6) (by omega) (zk_11 _ e5) rfl rfl (Nat.le_of_ble_eq_true rfl) dX12_once_27) ?_
      refine j_if_eq (tgt := 37) dX12_once_30 (by decide) (fun c8 => ?_) (fun c8 => ?_)
      · rw [if_pos c8] at h
        exact J.sub (zall [] rfl) (wfX12_once_37 dr rec hdr hrec hd   G h hk)
      · rw [if_neg c8] at h
        refine j_lconst (v := 1) dX12_once_33 rfl ?_
        refine j_goto (tgt := 38) dX12_once_34 (by decide) ?_
        obtain rfl := Option.some.inj h
        exact j_lret hk.1 hk.2 rfl dX12_once_38
    · rw [if_neg c4] at h
      exact J.sub (zall [] rfl) (wfX12_once_37 dr rec hdr hrec hd   G h hk)
  · rw [if_neg c3] at h
    refine j_aload_n (j := 0) dX12_once_7 rfl rfl ?_
    refine j_iload_n (j := 1) dX12_once_8 rfl rfl ?_
    refine j_iload_n (j := 2) dX12_once_9 rfl rfl ?_
    refine j_iload_n (j := 3) dX12_once_10 rfl rfl ?_
    replace h := zkE h
    obtain ⟨e9, h⟩ := h
    replace h := zb2E h
    obtain ⟨v11, G12, e10, h⟩ := h
    refine j_cont (zrV (As := [vI x1, vI x2, vI x3]) msX12_35 (hrec _ _ _ _ _ _ _ e10) (by omega) (zk_11 _ e9) rfl rfl (Nat.le_of_ble_eq_true rfl) dX12_once_11) ?_
    refine j_i2l dX12_once_14 ?_
    obtain rfl := Option.some.inj h
    exact j_lret hk.1 hk.2 rfl dX12_once_15
theorem yX12_once_ok (dr : Nat) (rec : zWay) (hdr : 60 ≤ dr) (hrec : zRec dr rec) {t : Nat} {x1 : Int32} {x2 : Int32} {x3 : Int32} {G : GS} {r : Int64} {G1 : GS} (h : fX12_once_0 rec t x1 x2 x3 G = some (r, G1)) : zRuns yX12_once (ws_ yX12_once cX12_once 4 (some Jvm.ClassFile.FieldType.long)) [vR (some t), vI x1, vI x2, vI x3] (.inl (some (vL r)), G, G1, dr + 1) :=
  zentry (M := mX12_once) (plainFor_of_name (by decide +kernel)) ⟨rfl, rfl, rfl, rfl⟩ (Nat.le_of_ble_eq_true rfl) (wfX12_once_0 dr rec hdr hrec (Nat.le_refl _) t x1 x2 x3 G h ⟨rfl, rfl⟩)
abbrev mJ14_min_2 : zM := (cJ14_min_2, RJ14, 4, (some Jvm.ClassFile.FieldType.long), "min", [], "(JJ)J")
def fJ14_min_2_0 (x0 : Int64) (x2 : Int64)  (G : GS) : Option (Int64) :=
  if 0 < (lg_cmp x0 x2) then (some x2) else (some x0)
theorem wfJ14_min_2_0 {F : zF} (hd : 1 ≤ F.2.2.2) (x0 : Int64) (x2 : Int64)  (G : GS) {a : Int64} (h : fJ14_min_2_0 x0 x2  G = some a) (hk : zKPL F G a) : J mJ14_min_2 F G 0 [(0, vL x0), (2, vL x2)] [] := by
  unfold fJ14_min_2_0 at h
  refine j_lload_n (j := 0) dJ14_min_2_0 rfl rfl ?_
  refine j_lload_n (j := 1) dJ14_min_2_1 rfl rfl ?_
  refine j_lcmp dJ14_min_2_2 ?_
  refine j_if_gt (tgt := 10) dJ14_min_2_3 (by decide) (fun c1 => ?_) (fun c1 => ?_)
  · rw [if_pos c1] at h
    refine j_lload_n (j := 1) dJ14_min_2_10 rfl rfl ?_
    obtain rfl := Option.some.inj h
    exact j_lret hk.1 hk.2 rfl dJ14_min_2_11
  · rw [if_neg c1] at h
    refine j_lload_n (j := 0) dJ14_min_2_6 rfl rfl ?_
    refine j_goto (tgt := 11) dJ14_min_2_7 (by decide) ?_
    obtain rfl := Option.some.inj h
    exact j_lret hk.1 hk.2 rfl dJ14_min_2_11
theorem yJ14_min_2_ok {x0 : Int64} {x2 : Int64} {G : GS} {r : Int64} (h : fJ14_min_2_0 x0 x2 G = some r) : zRuns yJ14_min_2 (ws_ yJ14_min_2 cJ14_min_2 4 (some Jvm.ClassFile.FieldType.long)) [vL x0, vL x2] (.inl (some (vL r)), G, G, 1) :=
  zentry (M := mJ14_min_2) (by decide +kernel) ⟨rfl, rfl, rfl, rfl⟩ (Nat.le_of_ble_eq_true rfl) (wfJ14_min_2_0 (Nat.le_refl _) x0 x2 G h ⟨rfl, rfl⟩)
end
