/-! ===== inherited calls, natives ===== -/
section zRows5
variable {M : zM} {F : zF} {G G1 : GS} {n pc : Nat} {lv : List (Nat × zV)} {st rest : List zV} {d : Nat}
def zSU (own : String) (index : Nat) (C owner : String) (x y : MethodName) (b : ByteArray) (L : Nat) (r : Option FieldType) (k : Nat) : Prop :=
  GoodIn lw_all (va_wsU own index C owner x y (ws_ y b L r)) ∧ y = ⟨owner, x.name, x.desc⟩ ∧ (owner ≠ "java/lang/invoke/MethodHandle" ∧ owner ≠ "java/lang/invoke/VarHandle" ∧ (parseMethodDescriptor x.desc).map (fun d => d.parameters.length) = some k) ∧ L ≤ 45
theorem lw_U {own : String} {idx : Nat} {C owner : String} {x y : MethodName} {b : ByteArray} {L : Nat} {r : Option FieldType} (h1 : Cond.methodLink own idx x ∈ lw_all) (h2 : Cond.sameMethod x.cls owner x.name x.desc ∈ lw_all) (h3 : Cond.selects C x y ∈ lw_all) (h4 : Cond.instanceMethod y ∈ lw_all) (h5 : Cond.initialized y.cls ∈ lw_all) (h6 : Cond.code y b L r ∈ lw_all) : GoodIn lw_all (va_wsU own idx C owner x y (ws_ y b L r)) := by
  refine lw_app ?_ (lw_meth h6)
  intro w hw
  simp only [List.mem_cons, List.not_mem_nil, or_false] at hw
  rcases hw with e | e | e | e | e
  · rw [e]; exact h1
  · rw [e]; exact h2
  · rw [e]; exact h3
  · rw [e]; exact h4
  · rw [e]; exact h5
theorem zrU {index k b L : Nat} {C owner : String} {x y : MethodName} {code : ByteArray} {r : Option FieldType} {As : List zV} {o : zO} (hS : zSU M.2.1 index C owner x y code L r k) (hR : zRuns y (ws_ y code L r) (vR (some b) :: As) (o, G, G1, d)) (hd : d + 1 ≤ F.2.2.2) (hk : zKc (gK G b) = some C) (hst : st = As.reverse ++ vR (some b) :: rest) (hn : As.length = k) (hrest : (rest.map zc).sum ≤ 8) (hdg : decode M.1 pc = .ok (.invokevirtual index, 3)) : zRun M F G 3 pc lv st rest o G1 d := by
  refine ⟨hR.1, fun h0 h1 p l e R s m args below meth c D Q H locs ls ok hp hl => ?_⟩
  have hT := zok_tb ok
  have hRr := ok.2.2.2.2.2.2.2.2.2.1
  have hfl := ok.2.2.2.2.2.2.2.2.2.2.1
  obtain ⟨s1, s2, s3, s4⟩ := hS
  subst hst
  exact ⟨_, vx_runU (As := As.map zv) (b := b) (C := C) (rest := rest.map zv) (zfixOk ok) (hR.2 l D hfl) (va_cwU k ok.2.2.2.2.1 s1 rfl rfl rfl s2 s3 (zroomR hd s4 hRr)) ⟨zblind, zrecv hp hT hk, fun U hU hW => ⟨rfl, hT.warm hW, by rw [hU]; exact hp.moved hW.alike⟩⟩ rfl (by rw [List.length_map]; exact hn) hl.1 (by simp [zv, va_rf]) (lv_room (zcat hrest)) hdg (zroomC h0 hR.1 h1 hRr)⟩
/-- .. a private one of a superclass -/
theorem zrP {index k b L : Nat} {C owner : String} {x y : MethodName} {code : ByteArray} {r : Option FieldType} {As : List zV} {o : zO} (hS : (Cond.methodLink M.2.1 index x ∈ lw_all ∧ Cond.sameMethod x.cls owner x.name x.desc ∈ lw_all ∧ Cond.instanceMethod y ∈ lw_all ∧ Cond.initialized y.cls ∈ lw_all ∧ Cond.code y code L r ∈ lw_all) ∧ (∀ (D : zD) (U : State), zTb D U → (Cond.selects C x y).before #[] U = true) ∧ y = ⟨owner, x.name, x.desc⟩ ∧ (owner ≠ "java/lang/invoke/MethodHandle" ∧ owner ≠ "java/lang/invoke/VarHandle" ∧ (parseMethodDescriptor x.desc).map (fun d => d.parameters.length) = some k) ∧ L ≤ 45) (hR : zRuns y (ws_ y code L r) (vR (some b) :: As) (o, G, G1, d)) (hd : d + 1 ≤ F.2.2.2) (hk : zKc (gK G b) = some C) (hst : st = As.reverse ++ vR (some b) :: rest) (hn : As.length = k) (hrest : (rest.map zc).sum ≤ 8) (hdg : decode M.1 pc = .ok (.invokevirtual index, 3)) : zRun M F G 3 pc lv st rest o G1 d := by
  refine ⟨hR.1, fun h0 h1 p l e R s m args below meth c D Q H locs ls ok hp hl => ?_⟩
  have hT := zok_tb ok
  have hts := ok.2.2.2.2.1
  have hRr := ok.2.2.2.2.2.2.2.2.2.1
  have hfl := ok.2.2.2.2.2.2.2.2.2.2.1
  obtain ⟨⟨s1, s2, s3, s4, s5⟩, s6, s7, s8, s9⟩ := hS
  have hrm := zroomR (G := G) (G1 := G1) (o := o) hd s9 hRr
  have cw : va_CU R s args M.2.1 C owner index x y code L r (ws_ y code L r) (zrm (o, G, G1, d)) (gz G1 - gz G) (gu G1 - gu G) k := ⟨⟨rfl, rfl, hrm.1, hrm.2, pay_in hts (lw_meth s5), List.mem_cons_self⟩, hts _ s5, hts _ s4, ⟨s8.1, s8.2.1⟩, fun sig h => by
    have e := s8.2.2
    rw [h] at e
    exact (Option.some.inj e).symm, hts _ s1, hts _ s2, by rw [← s7]; exact va_Decl.of (hts _ s3) (hts _ s5), va_any rfl (s6 D s hT), hts _ s3⟩
  subst hst
  exact ⟨_, vx_runU (As := As.map zv) (b := b) (C := C) (rest := rest.map zv) (zfixOk ok) (hR.2 l D hfl) cw ⟨zblind, zrecv hp hT hk, fun U hU hW => ⟨rfl, hT.warm hW, by rw [hU]; exact hp.moved hW.alike⟩⟩ rfl (by rw [List.length_map]; exact hn) hl.1 (by simp [zv, va_rf]) (lv_room (zcat hrest)) hdg (zroomC h0 hR.1 h1 hRr)⟩
/-- .. an abstract one -/
theorem zrA {index k b L : Nat} {C owner : String} {x y : MethodName} {code : ByteArray} {r : Option FieldType} {As : List zV} {o : zO} (hS : GoodIn lw_all (va_wsU M.2.1 index C owner x y (ws_ y code L r)) ∧ Cond.declares ⟨owner, x.name, x.desc⟩ ∈ zxs ∧ (owner ≠ "java/lang/invoke/MethodHandle" ∧ owner ≠ "java/lang/invoke/VarHandle" ∧ (parseMethodDescriptor x.desc).map (fun d => d.parameters.length) = some k) ∧ L ≤ 45) (hR : zRuns y (ws_ y code L r) (vR (some b) :: As) (o, G, G1, d)) (hd : d + 1 ≤ F.2.2.2) (hk : zKc (gK G b) = some C) (hst : st = As.reverse ++ vR (some b) :: rest) (hn : As.length = k) (hrest : (rest.map zc).sum ≤ 8) (hdg : decode M.1 pc = .ok (.invokevirtual index, 3)) : zRun M F G 3 pc lv st rest o G1 d := by
  refine ⟨hR.1, fun h0 h1 p l e R s m args below meth c D Q H locs ls ok hp hl => ?_⟩
  have hT := zok_tb ok
  have hRr := ok.2.2.2.2.2.2.2.2.2.1
  have hfl := ok.2.2.2.2.2.2.2.2.2.2.1
  obtain ⟨s1, s2, s3, s4⟩ := hS
  subst hst
  exact ⟨_, vx_runU (As := As.map zv) (b := b) (C := C) (rest := rest.map zv) (zfixOk ok) (hR.2 l D hfl) (va_cwA k ok.2.2.2.2.1 s1 rfl rfl rfl (hT.2.1 _ s2) s3 (zroomR hd s4 hRr)) ⟨zblind, zrecv hp hT hk, fun U hU hW => ⟨rfl, hT.warm hW, by rw [hU]; exact hp.moved hW.alike⟩⟩ rfl (by rw [List.length_map]; exact hn) hl.1 (by simp [zv, va_rf]) (lv_room (zcat hrest)) hdg (zroomC h0 hR.1 h1 hRr)⟩
def zSP (own : String) (index : Nat) (y : MethodName) (b : ByteArray) (L : Nat) (r : Option FieldType) (k : Nat) : Prop :=
  GoodIn lw_all (va_wsSU own index y (ws_ y b L r)) ∧ (y.name ≠ "<init>" ∧ (parseMethodDescriptor y.desc).map (fun d => d.parameters.length) = some k) ∧ L ≤ 45
theorem lw_SP {own : String} {idx : Nat} {y : MethodName} {b : ByteArray} {L : Nat} {r : Option FieldType} (h1 : Cond.methodLink own idx y ∈ lw_all) (h2 : Cond.sameMethod y.cls y.cls y.name y.desc ∈ lw_all) (h3 : Cond.superclass own y.cls ∈ lw_all) (h4 : Cond.instanceMethod y ∈ lw_all) (h5 : Cond.initialized y.cls ∈ lw_all) (h6 : Cond.code y b L r ∈ lw_all) : GoodIn lw_all (va_wsSU own idx y (ws_ y b L r)) := by
  refine lw_app ?_ (lw_meth h6)
  intro w hw
  simp only [List.mem_cons, List.not_mem_nil, or_false] at hw
  rcases hw with e | e | e | e | e
  · rw [e]; exact h1
  · rw [e]; exact h2
  · rw [e]; exact h3
  · rw [e]; exact h4
  · rw [e]; exact h5
theorem zrSP {index k b L : Nat} {C : String} {y : MethodName} {code : ByteArray} {r : Option FieldType} {As : List zV} {o : zO} (hS : zSP M.2.1 index y code L r k) (hC : ∃ (c : Nat) (q : zRw), zcl[c]? = some q ∧ q.1 = C) (hR : zRuns y (ws_ y code L r) (vR (some b) :: As) (o, G, G1, d)) (hd : d + 1 ≤ F.2.2.2) (hk : zKc (gK G b) = some C) (hst : st = As.reverse ++ vR (some b) :: rest) (hn : As.length = k) (hrest : (rest.map zc).sum ≤ 8) (hdg : decode M.1 pc = .ok (.invokespecial index, 3)) : zRun M F G 3 pc lv st rest o G1 d := by
  refine ⟨hR.1, fun h0 h1 p l e R s m args below meth c D Q H locs ls ok hp hl => ?_⟩
  have hT := zok_tb ok
  have hRr := ok.2.2.2.2.2.2.2.2.2.1
  have hfl := ok.2.2.2.2.2.2.2.2.2.2.1
  obtain ⟨s1, s2, s3⟩ := hS
  obtain ⟨ci, q, hq, hqC⟩ := hC
  subst hst
  have hat : ClassAt s C (D.1.1 ci) := by rw [← hqC]; exact (hT.1.1 ci _ (zvcl_at hq)).2
  exact ⟨_, vx_runSU (As := As.map zv) (b := b) (C := C) (rest := rest.map zv) hat (zfixOk ok) (hR.2 l D hfl) (va_cwSU k ok.2.2.2.2.1 s1 rfl rfl rfl s2 (zroomR hd s3 hRr)) ⟨zblind, zrecv hp hT hk, fun U hU hW => ⟨rfl, hT.warm hW, by rw [hU]; exact hp.moved hW.alike⟩⟩ rfl (by rw [List.length_map]; exact hn) hl.1 (by simp [zv, va_rf]) (lv_room (zcat hrest)) hdg (zroomC h0 hR.1 h1 hRr)⟩
/-! arrays copied whole -/
def zcpI (G : GS) (a0 : Nat) (sp : Int32) (a1 : Nat) (dp n : Int32) : Option GS :=
  if gK G a0 = 50 ∧ gK G a1 = 50 ∧ 0 ≤ sp ∧ 0 ≤ dp ∧ 0 ≤ n ∧ sp.toNatClampNeg + n.toNatClampNeg ≤ gN G a0 ∧ dp.toNatClampNeg + n.toNatClampNeg ≤ gN G a1 then some (sA G a1 (va_cpy (gI G a0) (gI G a1) sp.toNatClampNeg dp.toNatClampNeg n.toNatClampNeg)) else none
def zcpR (G : GS) (a0 : Nat) (sp : Int32) (a1 : Nat) (dp n : Int32) : Option GS :=
  if (gK G a0 = 54 ∨ gK G a0 = 62) ∧ gK G a1 = 54 ∧ 0 ≤ sp ∧ 0 ≤ dp ∧ 0 ≤ n ∧ sp.toNatClampNeg + n.toNatClampNeg ≤ gN G a0 ∧ dp.toNatClampNeg + n.toNatClampNeg ≤ gN G a1 ∧ ∀ i, i < n.toNatClampNeg → zkm [3, 6, 10, 21, 61] G (gR G a0 (sp.toNatClampNeg + i)) = true then some (sB G a1 (va_cpy (gR G a0) (gR G a1) sp.toNatClampNeg dp.toNatClampNeg n.toNatClampNeg)) else none
theorem zfv_sA {G : GS} {a : Nat} {f : Nat → Int32} {b : Nat} (hb : b ≠ a) (k : Nat) (ty : FieldType) : zfv (sA G a f) b k ty = zfv G b k ty :=
  zfv_congr (G := G) (G' := sA G a f) (fun k' => by rw [gI_sA, if_neg hb]) (fun _ => rfl) (fun _ => rfl) k ty
theorem zfv_sB {G : GS} {a : Nat} {f : Nat → Option Nat} {b : Nat} (hb : b ≠ a) (k : Nat) (ty : FieldType) : zfv (sB G a f) b k ty = zfv G b k ty :=
  zfv_congr (G := G) (G' := sB G a f) (fun _ => rfl) (fun _ => rfl) (fun k' => by rw [gR_sB, if_neg hb]) k ty
theorem znn {z : Int32} (hz : 0 ≤ z) : z.toInt = (z.toNatClampNeg : Int) := by
  have hz0 : (0 : Int) ≤ z.toInt := by simpa using Int32.le_iff_toInt_le.mp hz
  show z.toInt = ((z.toInt.toNat : Nat) : Int)
  omega
theorem zobjK : ∀ k, [3, 6, 10, 21, 61].contains k = true → ∃ E, zKc k = some E ∧ (Cond.castable E "java/lang/Object" ∈ zxs ∨ (E = "java/lang/Object" ∧ ∃ (c : Nat) (r : zRw), zcl[c]? = some r ∧ r.1 = E)) := by
  intro k h
  have h : k = 3 ∨ k = 6 ∨ k = 10 ∨ k = 21 ∨ k = 61 := by simpa using h
  rcases h with rfl | rfl | rfl | rfl | rfl
  · exact ⟨_, rfl, Or.inl (zxw 93 rfl)⟩
  · exact ⟨_, rfl, Or.inl (zxw 106 rfl)⟩
  · exact ⟨_, rfl, Or.inl (zxw 86 rfl)⟩
  · exact ⟨_, rfl, Or.inl (zxw 26 rfl)⟩
  · exact ⟨_, rfl, Or.inl (zxw 26 rfl)⟩
theorem j_cpI {a0 a1 index : Nat} {sp dp n : Int32} {G' : GS} (hv : zcpI G a0 sp a1 dp n = some G') (hlink : Cond.methodLink M.2.1 index arraycopyName ∈ lw_all) (hnat : Cond.native arraycopyName ∈ lw_all) (hstat : Cond.static arraycopyName ∈ lw_all) (hini : Cond.initialized "java/lang/System" ∈ lw_all) (hd : 1 ≤ F.2.2.2) (hrest : (st.map zc).sum ≤ 8) (hdg : decode M.1 pc = .ok (.invokestatic index, 3)) (kk : J M F G' (pc + 3) lv st) : J M F G pc lv (vI n :: vI dp :: vR (some a1) :: vI sp :: vR (some a0) :: st) := by
  obtain ⟨⟨h1, h2, h3, h4, h5, h6, h7⟩, rfl⟩ := ite_some hv
  refine ⟨zle_trans zle_sA kk.1, fun h0 p l e R s m args below meth c0 D Q H locs ls ok hp hs hl => ?_⟩
  have k0 := kk.2 (zle_trans h0 zle_sA) p l e R s m args below meth c0 D Q
  have hT := zok_tb ok
  have hts := ok.2.2.2.2.1
  have hRr := ok.2.2.2.2.2.2.2.2.2.1
  have hc0 := (hp.2.1 a0).2.1 0 .int rfl h1
  have hc1 := (hp.2.1 a1).2.1 0 .int rfl h2
  have ha : a1 < gz G := by rw [← hp.1]; exact (Array.getElem?_eq_some_iff.mp hc1).1
  have hfr : zfree G a1 := ⟨by omega, by omega⟩
  have hAa : zA F a1 := Or.inl (zfree_le (zle_trans zle_sA kk.1) ha hfr)
  have hArr := (hT.1.2 0 _ (ztys_at (ty := .int) rfl)).1
  obtain ⟨-, kA, hkA, cm, hkk⟩ := hArr 0 (fun _ => .null)
  have hkA : s.vm.classes[D.2 0]? = some kA := hkA
  have hkk : kA.kind = .array cm .int := hkk
  have g1 : ¬ sp < 0 := by grind
  have g2 : ¬ dp < 0 := by grind
  have g3 : ¬ n < 0 := by grind
  intro T hT' X
  obtain ⟨vm', X', step⟩ := X.arraycopy ok.1 ok.2.2.2.1 (hts _ hlink) (hts _ hnat) (hts _ hstat) (hts _ hini) (src := a0) (dst := a1) (cs := arrV (D.2 0) (gN G a0) (fun j => zfv G a0 j .int)) (cd := arrV (D.2 0) (gN G a1) (fun j => zfv G a1 j .int)) (srcPos := sp) (destPos := dp) (n := n) (by rw [hT']; exact hc0) (by rw [hT']; exact hc1)
    (fun _ h => by cases h) (fun _ h => by cases h) (fun h => by cases h) (fun h => by cases h) hkA hkA hkk hkk (by simp [refKind]) g1 g2 g3
    (by rw [znn h3, znn h5, arrV_size]; omega)
    (by rw [znn h4, znn h5, arrV_size]; omega)
    (fun vm₁ _ i hi => by
      have e : (arrV (D.2 0) (gN G a0) (fun j => zfv G a0 j .int)).slots.getD (sp.toNatClampNeg + i) .null = .int (gI G a0 (sp.toNatClampNeg + i)) := by
        rw [Array.getD_eq_getD_getElem?, arrV_read _ _ (by omega)]
        rfl
      refine ⟨?_, ?_⟩
      · rw [e]
        rfl
      · rw [e]
        exact trivial)
    (g := F0 m pc ls ((vI n :: vI dp :: vR (some a1) :: vI sp :: vR (some a0) :: st).map zv)) rfl (by rw [ok.2.2.1]; exact hl.1) (rest := st.map zv) rfl (by rw [ok.2.1]; exact hdg) (by omega) (by
      have := zcat hrest
      show 2 * 0 + _ + _ ≤ _
      have hw : nativeFrameWords "java/lang/System" "arraycopy" 5 ≤ 40 := by decide
      omega)
  have e1 : copied (arrV (D.2 0) (gN G a0) (fun j => zfv G a0 j .int)) (arrV (D.2 0) (gN G a1) (fun j => zfv G a1 j .int)) sp dp n = arrV (D.2 0) (gN G a1) (fun j => Value.int (va_cpy (gI G a0) (gI G a1) sp.toNatClampNeg dp.toNatClampNeg n.toNatClampNeg j)) := va_copied (fun z => .int z) (D.2 0) (D.2 0) (gI G a0) (gI G a1) h6
  rw [e1] at X' step
  have hl2 : a1 < H.size := (Array.getElem?_eq_some_iff.mp hc1).1
  generalize hN : arrV (D.2 0) (gN G a1) (fun j => Value.int (va_cpy (gI G a0) (gI G a1) sp.toNatClampNeg dp.toNatClampNeg n.toNatClampNeg j)) = N at X' step
  have hheap : ((T.setVm vm').setCell a1 N).heap = H.setIfInBounds a1 N := by rw [← hT']; rfl
  have oq : ∀ q : Nat, q ≠ a1 → (H.setIfInBounds a1 N)[q]? = H[q]? := fun q hq => by simp [Array.getElem?_setIfInBounds, Ne.symm hq]
  have e9 : (H.setIfInBounds a1 N)[a1]? = some N := by simp [Array.getElem?_setIfInBounds, hl2]
  obtain ⟨t, b1, b2⟩ := k0 (H.setIfInBounds a1 N) _ ls ok (hp.upd rfl rfl rfl rfl (fun b hb k ty => zfv_sA hb k ty) hfr (by simp) oq (zAt.ofArr (t := 0) (ty := .int) rfl h2 (by
      rw [e9, ← hN]
      show some (arrV _ _ _) = some (arrV _ _ _)
      congr 2
      funext q
      show _ = Value.int _
      rw [gI_sA, if_pos rfl]))) ⟨by simp; exact hs.1, fun q y1 y2 => by
      rw [oq q (fun e => y2 (by rw [e]; exact hAa))]
      exact hs.2.1 q y1 y2, fun q hq => by
      rcases List.mem_append.mp hq with h | h
      · exact hs.2.2 q h
      · obtain ⟨z, -, hz⟩ := List.mem_map.mp h
        rw [← hz]
        exact hAa⟩ hl _ hheap X'
  exact ⟨t, step t b1, b2⟩
theorem j_cpR {a0 a1 index : Nat} {sp dp n : Int32} {G' : GS} (hv : zcpR G a0 sp a1 dp n = some G') (hlink : Cond.methodLink M.2.1 index arraycopyName ∈ lw_all) (hnat : Cond.native arraycopyName ∈ lw_all) (hstat : Cond.static arraycopyName ∈ lw_all) (hini : Cond.initialized "java/lang/System" ∈ lw_all) (hd : 1 ≤ F.2.2.2) (hrest : (st.map zc).sum ≤ 8) (hdg : decode M.1 pc = .ok (.invokestatic index, 3)) (kk : J M F G' (pc + 3) lv st) : J M F G pc lv (vI n :: vI dp :: vR (some a1) :: vI sp :: vR (some a0) :: st) := by
  obtain ⟨⟨h1, h2, h3, h4, h5, h6, h7, h8⟩, rfl⟩ := ite_some hv
  refine ⟨zle_trans zle_sB kk.1, fun h0 p l e R s m args below meth c0 D Q H locs ls ok hp hs hl => ?_⟩
  have k0 := kk.2 (zle_trans h0 zle_sB) p l e R s m args below meth c0 D Q
  have hT := zok_tb ok
  have hts := ok.2.2.2.2.1
  have hRr := ok.2.2.2.2.2.2.2.2.2.1
  have hcs : ∃ cs : Cell, H[a0]? = some cs ∧ cs.cls = D.2 4 ∧ (∀ k, cs.vm ≠ .statics k) ∧ cs.vm ≠ .unknown ∧ cs.slots.size = gN G a0 ∧ ∀ j, j < gN G a0 → cs.slots[j]? = some (va_rf (gR G a0 j)) := by
    rcases h1 with h1 | h1
    · exact ⟨_, (hp.2.1 a0).2.1 4 _ rfl h1, rfl, (fun _ h => by cases h), (fun h => by cases h), arrV_size _ _ _, fun j hj => arrV_read _ _ hj⟩
    · obtain ⟨⟨cell, g1, g2, g3, g4, g5⟩, g6⟩ := (hp.2.1 a0).2.2.2.2.1 h1
      exact ⟨cell, g1, g6 cell g1, g2.1, g3, g4, g5⟩
  obtain ⟨cs, hc0, y1, y2, y3, y4, y5⟩ := hcs
  have hc1 := (hp.2.1 a1).2.1 4 _ rfl h2
  have ha : a1 < gz G := by rw [← hp.1]; exact (Array.getElem?_eq_some_iff.mp hc1).1
  have hfr : zfree G a1 := ⟨by omega, by omega⟩
  have hAa : zA F a1 := Or.inl (zfree_le (zle_trans zle_sB kk.1) ha hfr)
  obtain ⟨kA, comp, q1, q2, q3, q4⟩ := (hT.1.2 4 _ (ztys_at (ty := .object "java/lang/Object") rfl)).2
  have g1 : ¬ sp < 0 := by grind
  have g2 : ¬ dp < 0 := by grind
  have g3 : ¬ n < 0 := by grind
  intro T hT' X
  obtain ⟨vm', X', step⟩ := X.arraycopy ok.1 ok.2.2.2.1 (hts _ hlink) (hts _ hnat) (hts _ hstat) (hts _ hini) (src := a0) (dst := a1) (srcPos := sp) (destPos := dp) (n := n) (by rw [hT']; exact hc0) (by rw [hT']; exact hc1)
    y2 (fun _ h => by cases h) y3 (fun h => by cases h) (by rw [y1]; exact q1) q1 q2 q2 rfl g1 g2 g3
    (by rw [znn h3, znn h5, y4]; omega)
    (by rw [znn h4, znn h5, arrV_size]; omega)
    (fun vm₁ hal i hi => by
      have e : cs.slots.getD (sp.toNatClampNeg + i) .null = va_rf (gR G a0 (sp.toNatClampNeg + i)) := by
        rw [Array.getD_eq_getD_getElem?, y5 _ (by omega)]
        rfl
      rw [e]
      have h9 := h8 i hi
      cases hy : gR G a0 (sp.toNatClampNeg + i) with
      | none => exact ⟨rfl, trivial⟩
      | some y =>
        rw [hy] at h9
        obtain ⟨E, hKE, hE⟩ := zobjK _ h9
        obtain ⟨cellV, f1, f2, f3⟩ := zrecv hp hT hKE
        obtain ⟨kC, hkC, -⟩ := Vm.findClass_spec f3
        obtain ⟨kE, hkE, -⟩ := Vm.findClass_spec q3
        obtain ⟨kC', hkC', -⟩ := hal.2.2 _ _ hkC
        obtain ⟨kE', hkE', -⟩ := hal.2.2 _ _ hkE
        refine ⟨rfl, cellV, (show T.heap[y]? = some cellV by rw [hT']; exact f1), (fun q h => by rw [h] at f2; cases f2), ⟨kC', hkC'⟩, ?_, ?_⟩
        · exact ⟨kE', hkE'⟩
        · show vm₁.assignable _ _ = true
          rw [hal.assignable]
          rcases hE with h | ⟨h, c9, r9, hr9, he9⟩
          · obtain ⟨c1, c2, w1, w2, w3⟩ := Cond.castable_spec (va_Nw.use (A := args) rfl (hT.2.1 _ h))
            cases Option.some.inj (w1.symm.trans f3)
            cases Option.some.inj (w2.symm.trans q3)
            exact w3
          · subst h
            cases Option.some.inj (q3.symm.trans f3)
            have hcl := hT.1.1 c9 _ (zvcl_at hr9)
            have e8 : cellV.cls = D.1.1 c9 := Option.some.inj (f3.symm.trans (by rw [← he9]; exact hcl.2.1))
            rw [e8]
            exact va_assign (C := "java/lang/Object") (by rw [← he9]; exact hcl.2))
    (g := F0 m pc ls ((vI n :: vI dp :: vR (some a1) :: vI sp :: vR (some a0) :: st).map zv)) rfl (by rw [ok.2.2.1]; exact hl.1) (rest := st.map zv) rfl (by rw [ok.2.1]; exact hdg) (by omega) (by
      have := zcat hrest
      show 2 * 0 + _ + _ ≤ _
      have hw : nativeFrameWords "java/lang/System" "arraycopy" 5 ≤ 40 := by decide
      omega)
  have e1 : copied cs (arrV (D.2 4) (gN G a1) (fun j => zfv G a1 j (.object "java/lang/Object"))) sp dp n = arrV (D.2 4) (gN G a1) (fun j => va_rf (va_cpy (gR G a0) (gR G a1) sp.toNatClampNeg dp.toNatClampNeg n.toNatClampNeg j)) := va_copiedX (fun z => va_rf z) cs (D.2 4) (gR G a0) (gR G a1) y5 h6
  rw [e1] at X' step
  have hl2 : a1 < H.size := (Array.getElem?_eq_some_iff.mp hc1).1
  generalize hN : arrV (D.2 4) (gN G a1) (fun j => va_rf (va_cpy (gR G a0) (gR G a1) sp.toNatClampNeg dp.toNatClampNeg n.toNatClampNeg j)) = N at X' step
  have hheap : ((T.setVm vm').setCell a1 N).heap = H.setIfInBounds a1 N := by rw [← hT']; rfl
  have oq : ∀ q : Nat, q ≠ a1 → (H.setIfInBounds a1 N)[q]? = H[q]? := fun q hq => by simp [Array.getElem?_setIfInBounds, Ne.symm hq]
  have e9 : (H.setIfInBounds a1 N)[a1]? = some N := by simp [Array.getElem?_setIfInBounds, hl2]
  obtain ⟨t, b1, b2⟩ := k0 (H.setIfInBounds a1 N) _ ls ok (hp.upd rfl rfl rfl rfl (fun b hb k ty => zfv_sB hb k ty) hfr (by simp) oq (zAt.ofArr (t := 4) (ty := .object "java/lang/Object") rfl h2 (by
      rw [e9, ← hN]
      show some (arrV _ _ _) = some (arrV _ _ _)
      congr 2
      funext q
      show _ = va_rf _
      rw [gR_sB, if_pos rfl]))) ⟨by simp; exact hs.1, fun q y1 y2 => by
      rw [oq q (fun e => y2 (by rw [e]; exact hAa))]
      exact hs.2.1 q y1 y2, fun q hq => by
      rcases List.mem_append.mp hq with h | h
      · exact hs.2.2 q h
      · obtain ⟨z, -, hz⟩ := List.mem_map.mp h
        rw [← hz]
        exact hAa⟩ hl _ hheap X'
  exact ⟨t, step t b1, b2⟩
/-- a copy of an array of ints -/
def zcln (G : GS) (a : Nat) : Option GS := if gK G a = 50 then some (sA (al G 50 (gN G a) (gN G a)) (gz G) (gI G a)) else none
theorem j_clone {a index : Nat} {G' : GS} (hv : zcln G a = some G') (hlink : Cond.methodLink M.2.1 index ⟨"[I", "clone", "()Ljava/lang/Object;"⟩ ∈ lw_all) (hsame : Cond.sameMethod "[I" "java/lang/Object" "clone" "()Ljava/lang/Object;" ∈ lw_all) (hnat : Cond.native ⟨"java/lang/Object", "clone", "()Ljava/lang/Object;"⟩ ∈ lw_all) (hinst : Cond.instanceMethod ⟨"java/lang/Object", "clone", "()Ljava/lang/Object;"⟩ ∈ lw_all) (hsel : Cond.selects "[I" ⟨"[I", "clone", "()Ljava/lang/Object;"⟩ ⟨"java/lang/Object", "clone", "()Ljava/lang/Object;"⟩ ∈ lw_all) (hcl : Cond.castable "[I" "java/lang/Cloneable" ∈ zxs) (hd : 1 ≤ F.2.2.2) (hrest : (st.map zc).sum ≤ 8) (hdg : decode M.1 pc = .ok (.invokevirtual index, 3)) (kk : J M F G' (pc + 3) lv (vR (some (gz G)) :: st)) : J M F G pc lv (vR (some a) :: st) := by
  obtain ⟨h1, rfl⟩ := ite_some hv
  have hle : zle G (sA (al G 50 (gN G a) (gN G a)) (gz G) (gI G a)) := zle_trans zle_al zle_sA
  refine ⟨zle_trans hle kk.1, fun h0 p l e R s m args below meth c0 D Q H locs ls ok hp hs hl => ?_⟩
  have k0 := kk.2 (zle_trans h0 hle) p l e R s m args below meth c0 D Q
  have hT := zok_tb ok
  have hts := ok.2.2.2.2.1
  have hRr := ok.2.2.2.2.2.2.2.2.2.1
  obtain ⟨r1, r2, r3, r4⟩ := zcells (n := gN G a) h0 kk.1 rfl rfl hRr
  have hc := (hp.2.1 a).2.1 0 .int rfl h1
  have hArr := (hT.1.2 0 _ (ztys_at (ty := .int) rfl)).1
  have hnm : s.vm.findClass "[I" = some (D.2 0) := (hT.1.2 0 _ (ztys_at (ty := .int) rfl)).2
  obtain ⟨c9, t9, f1, f2, f3⟩ := Cond.castable_spec (va_Nw.use (A := args) rfl (hT.2.1 _ hcl))
  cases hnm.symm.trans f1
  generalize hCe : arrV (D.2 0) (gN G a) (fun j => zfv G a j .int) = Ce at hc
  have hsz : Ce.slots.size = gN G a := by rw [← hCe]; exact arrV_size _ _ _
  have hvm0 : Ce.vm = .none := by rw [← hCe]; rfl
  have hcl0 : Ce.cls = D.2 0 := by rw [← hCe]; rfl
  have hcellE : ({ cls := Ce.cls, slots := Ce.slots } : Cell) = Ce := by rw [← hCe]; rfl
  intro T hT' X
  have hcellT : T.heap[a]? = some Ce := by rw [hT']; exact hc
  obtain ⟨-, kA, hkA, comp, hkind⟩ := State.isArrayOf_alike X.warmed.alike (hArr 0 (fun _ => .null))
  obtain ⟨-, kS, hkS, compS, hkindS⟩ := hArr 0 (fun _ => .null)
  obtain ⟨vm', X', step⟩ := X.cloneArray ok.1 ok.2.2.2.1 (hts _ hlink) (hts _ hsame) (hts _ hnat) (hts _ hinst) (hts _ hsel) (a := a) (cell := Ce) hcellT (fun k h => by rw [hvm0] at h; cases h) (by rw [hvm0]; exact fun h => by cases h) (by rw [hcl0]; exact hnm) f2 (by rw [hcl0]; exact f3)
    (fun i v hv => by
      rw [hcl0]
      have hk' : T.vm.classes[D.2 0]? = some kA := hkA
      have hv9 : fits .int v = true := by
        rw [← hCe] at hv
        by_cases hi : i < gN G a
        · rw [arrV_read _ _ hi] at hv
          cases hv
          rfl
        · rw [Array.getElem?_eq_none (by rw [arrV_size]; omega)] at hv
          cases hv
      simpa [State.fitsSlot, State.slotType?, hk', hkind] using hv9)
    (g := F0 m pc ls ((vR (some a) :: st).map zv)) rfl (by rw [ok.2.2.1]; exact hl.1) rfl (by rw [ok.2.1]; exact hdg) (by omega) (by
      have := zcat hrest
      show 2 * 0 + _ + 14 ≤ _
      omega) r1 (by rw [hsz]; exact r2) (hloader := by rw [hcl0]; exact Vm.clonesLoader_of_array hkS hkindS)
  rw [hcellE, hsz] at X'
  generalize hH1 : H.push Ce = H1
  have z1 : H1.size = H.size + 1 := by rw [← hH1, Array.size_push]
  have e1 : H1[H.size]? = some Ce := by rw [← hH1, Array.getElem?_push_size]
  have o1 : ∀ q : Nat, q < H.size → H1[q]? = H[q]? := fun q hq => by rw [← hH1, Array.getElem?_push, if_neg (Nat.ne_of_lt hq)]
  have hz : H.size = gz G := hp.1
  have hKn : gK (al G 50 (gN G a) (gN G a)) (gz G) = 50 := by rw [gK_al, if_pos rfl]
  have hp2 : zHp D (sA (al G 50 (gN G a) (gN G a)) (gz G) (gI G a)) s H1 := by
    have hfv : ∀ b, b ≠ gz G → ∀ k ty, zfv (sA (al G 50 (gN G a) (gN G a)) (gz G) (gI G a)) b k ty = zfv (al G 50 (gN G a) (gN G a)) b k ty := fun b hb k ty => zfv_sA hb k ty
    have hat : zAt D s (sA (al G 50 (gN G a) (gN G a)) (gz G) (gI G a)) (gz G) H1 := by
      refine zAt.ofArr (t := 0) (ty := .int) rfl hKn ?_
      rw [← hz, e1, ← hCe, hz]
      show some (arrV _ _ _) = some (arrV _ _ _)
      congr 2
      · show gN G a = gN (al G 50 (gN G a) (gN G a)) (gz G)
        rw [gN_al, if_pos rfl]
      · funext j
        show Value.int _ = Value.int _
        rw [gI_sA, if_pos rfl]
    have hk : ∀ q, q < H.size → ¬ zfree G q → H1[q]? = H[q]? ∧ ¬ zfree (sA (al G 50 (gN G a) (gN G a)) (gz G) (gI G a)) q := fun q hq hf => ⟨o1 q hq, by
      have e : gK (al G 50 (gN G a) (gN G a)) q = gK G q := by rw [gK_al, if_neg (by omega)]
      show ¬ zfree (al G 50 (gN G a) (gN G a)) q
      unfold zfree
      rw [e]
      exact hf⟩
    refine ⟨by rw [z1, hz]; rfl, fun b => ?_, fun q hq => (hp.2.2.1 q hq).to (zsts_congr (G := G) (G' := sA (al G 50 (gN G a) (gN G a)) (gz G) (gI G a)) rfl q hq) hk, hp.2.2.2.1.to hk, hp.2.2.2.2.1.to hk, hp.2.2.2.2.2.1, hp.2.2.2.2.2.2⟩
    by_cases hb : b = gz G
    · subst hb; exact hat
    · have hb0 : zAt D s G b H := hp.2.1 b
      have hH : H1[b]? = H[b]? := by
        by_cases hl9 : b < H.size
        · exact o1 b hl9
        · rw [Array.getElem?_eq_none (by omega), Array.getElem?_eq_none (by omega)]
      exact hb0.congr (by show gK (al G 50 (gN G a) (gN G a)) b = _; rw [gK_al, if_neg hb]) (by show gN (al G 50 (gN G a) (gN G a)) b = _; rw [gN_al, if_neg hb]) (fun k ty => (hfv b hb k ty).trans (zfv_congr (G := G) (G' := al G 50 (gN G a) (gN G a)) (fun k => by rw [gI_al, if_neg hb]) (fun k => by rw [gL_al, if_neg hb]) (fun k => by rw [gR_al, if_neg hb]) k ty)) hH
  have e2 : gz (sA (al G 50 (gN G a) (gN G a)) (gz G) (gI G a)) - gz F.2.1 = gz G - gz F.2.1 + 1 := r3
  have e3 : gu (sA (al G 50 (gN G a) (gN G a)) (gz G) (gI G a)) - gu F.2.1 = gu G - gu F.2.1 + gN G a := r4
  rw [← e2, ← e3] at X'
  obtain ⟨t, b1, b2⟩ := k0 H1 _ ls ok hp2 (hs.new z1 o1) hl ((T.setVm vm').pushCell Ce) (by rw [← hH1, ← hT']; rfl) X'
  refine ⟨t, step t ?_, b2⟩
  rw [hcellE, hT', hz]
  exact b1
/-! the class of a thing, class constants -/
theorem j_ldcM {index i : Nat} {C : String} (hC : (C = "java/util/ArrayList" ∧ i = 10) ∨ (C = "[Ljava/lang/Object;" ∧ i = 11)) (hlink : Cond.classLink M.2.1 index C ∈ lw_all) (hdg : decode M.1 pc = .ok (.ldc index, 2)) (kk : J M F G (pc + 2) lv (vR (some (gS G i)) :: st)) : J M F G pc lv st := by
  refine J.st2 (fun {p l e R s m args below meth c0 D H locs cells slots Q ls} ok hp k0 => ?_) kk
  have hM : va_Mi C (gS G i) s := by
    rcases hC with ⟨rfl, rfl⟩ | ⟨rfl, rfl⟩
    · exact hp.2.2.2.2.2.1
    · exact hp.2.2.2.2.2.2
  exact va_ldcM ok.1 ok.2.1 ok.2.2.2.1 (ok.2.2.2.2.1 _ hlink) hM hdg k0
def zgcK (k : Nat) : Option (String × Nat) := if k = 12 then some ("java/util/ArrayList", 10) else if k = 54 then some ("[Ljava/lang/Object;", 11) else none
end zRows5
