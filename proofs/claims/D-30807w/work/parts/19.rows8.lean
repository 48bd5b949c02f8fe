/-! ===== classes of things, an empty array copied ===== -/
section zRows8
variable {M : zM} {F : zF} {G G1 : GS} {n pc : Nat} {lv : List (Nat × zV)} {st rest : List zV} {d : Nat}
/-- getClass() of an array of objects -/
theorem j_getC {b index : Nat} (hk : [54, 62].contains (gK G b) = true) (hlink : Cond.methodLink M.2.1 index zgcN ∈ lw_all) (hdecl : Cond.declares zgcN ∈ zxs) (hsel : Cond.selects "[Ljava/lang/Object;" zgcN zgcN ∈ lw_all) (hinst : Cond.instanceMethod zgcN ∈ lw_all) (hnat : Cond.native zgcN ∈ lw_all) (hd : 1 ≤ F.2.2.2) (hrest : (st.map zc).sum ≤ 8) (hdg : decode M.1 pc = .ok (.invokevirtual index, 3)) (kk : J M F G (pc + 3) lv (vR (some (gS G 11)) :: st)) : J M F G pc lv (vR (some b) :: st) := by
  refine ⟨kk.1, fun h0 p l e R s m args below meth c0 D Q H locs ls ok hp hs hl => ?_⟩
  have k0 := kk.2 h0 p l e R s m args below meth c0 D Q H locs ls ok hp hs hl
  have hT := zok_tb ok
  have hts := ok.2.2.2.2.1
  have hRr := ok.2.2.2.2.2.2.2.2.2.1
  obtain ⟨kA, comp, q1, q2, q3, q4⟩ := (hT.1.2 4 _ (ztys_at (ty := .object "java/lang/Object") rfl)).2
  have hr : ∃ cell : Cell, H[b]? = some cell ∧ cell.vm.isStatics = false ∧ s.vm.findClass "[Ljava/lang/Object;" = some cell.cls := by
    have hk : gK G b = 54 ∨ gK G b = 62 := by simpa using hk
    rcases hk with h | h
    · exact ⟨_, (hp.2.1 b).2.1 4 _ rfl h, rfl, q4⟩
    · obtain ⟨⟨cell, g1, g2, g3, -⟩, g5⟩ := (hp.2.1 b).2.2.2.2.1 h
      exact ⟨cell, g1, (by cases hv : cell.vm <;> first | rfl | exact absurd hv (g2.1 _)), by rw [g5 cell g1]; exact q4⟩
  have := zcat hrest
  exact va_getC ok.1 ok.2.1 (by rw [ok.2.2.1]; exact hl.1.symm) ok.2.2.2.1 (hts _ hlink) (va_Nw.use rfl (hT.2.1 _ hdecl)) (hts _ hsel) (hts _ hinst) (hts _ hnat) hp.2.2.2.2.2.2 hr (by omega) (by omega) hdg k0
theorem zselI {A : Array Value} {s : State} (h1 : (Cond.selects "java/util/ArrayList" zgcN zgcN).before A s = true) (h2 : zGc s) : (Cond.selects "java/util/ArrayList" ⟨"java/util/Collection", "getClass", "()Ljava/lang/Class;"⟩ zgcN).before A s = true := by
  obtain ⟨c1, k1, m1, f1, f2, f3, f4, f5⟩ := Cond.interfaceMethod_spec h2.1
  obtain ⟨c, r, m, e1, e2, e3, e4, mk, e5, e6⟩ := Cond.selects_spec h1
  have f5' : s.methodNamed? zgcN = some m1 := f5
  cases Option.some.inj (e3.symm.trans f5')
  have e2' : s.methodFound? "java/lang/Object" "getClass" "()Ljava/lang/Class;" = some m1 := State.methodFound?_of_named (x := zgcN) f5' (by decide)
  cases Option.some.inj (e2.symm.trans e2')
  simp [Cond.before, Cond.holds, Cond.value, e1, f4, f5', e4, e5, e6]
/-- .. of a list, through the interface -/
theorem j_getCI {b index count : Nat} (hk : gK G b = 12) (hlink : Cond.methodLink M.2.1 index ⟨"java/util/Collection", "getClass", "()Ljava/lang/Class;"⟩ ∈ lw_all) (hdecl : Cond.declares zgcN ∈ zxs) (hsel : Cond.selects "java/util/ArrayList" zgcN zgcN ∈ lw_all) (hinst : Cond.instanceMethod zgcN ∈ lw_all) (hnat : Cond.native zgcN ∈ lw_all) (hcast : Cond.castable "java/util/ArrayList" "java/util/Collection" ∈ zxs) (hd : 1 ≤ F.2.2.2) (hrest : (st.map zc).sum ≤ 8) (hdg : decode M.1 pc = .ok (.invokeinterface index count, 5)) (kk : J M F G (pc + 5) lv (vR (some (gS G 10)) :: st)) : J M F G pc lv (vR (some b) :: st) := by
  refine ⟨kk.1, fun h0 p l e R s m args below meth c0 D Q H locs ls ok hp hs hl => ?_⟩
  have k0 := kk.2 h0 p l e R s m args below meth c0 D Q H locs ls ok hp hs hl
  have hT := zok_tb ok
  have hts := ok.2.2.2.2.1
  have hRr := ok.2.2.2.2.2.2.2.2.2.1
  obtain ⟨cell, g1, g2, g3⟩ := zrecv hp hT (show zKc (gK G b) = some "java/util/ArrayList" by rw [hk]; rfl)
  obtain ⟨c9, k9, h1, h2, h3⟩ := hp.2.2.2.2.2.1
  cases Option.some.inj (h1.symm.trans g3)
  have := zcat hrest
  intro T hT' X
  obtain ⟨vm', X', step⟩ := X.getClassOfI ok.1 ok.2.2.2.1 (hts _ hlink) (va_Nw.use (w := Cond.declares zgcN) rfl (hT.2.1 _ hdecl)) (va_any rfl hT.2.2.2.2.2.2.1.1) (zselI (hts _ hsel) hT.2.2.2.2.2.2.1) (hts _ hinst) (va_any rfl hT.2.2.2.2.2.2.1.2.1) (va_any rfl hT.2.2.2.2.2.2.1.2.2.1) (va_Nw.use (w := Cond.castable "java/util/ArrayList" "java/util/Collection") rfl (hT.2.1 _ hcast)) (hts _ hnat) (by decide) (by decide) rfl rfl h1 h2 ⟨cell, by rw [hT']; exact g1, rfl, g2⟩ h3 (g := F0 m pc ls ((vR (some b) :: st).map zv)) rfl (by rw [ok.2.2.1]; exact hl.1) (rest := st.map zv) rfl (by rw [ok.2.1]; exact hdg) (by omega) (by
    show 2 * 0 + _ + _ ≤ _
    have hw : nativeFrameWords "java/lang/Object" "getClass" 1 = 3 := by decide
    omega)
  obtain ⟨t, a1, b1⟩ := k0 (T.setVm vm') hT' X'
  exact ⟨t, step t a1, b1⟩
/-- checkcast of an array of ints -/
theorem zasg (vm : Vm) (c : ClassId) : vm.assignable c c = true := by
  first | (show vm.assignableAux _ c c = true; unfold Vm.assignableAux; simp)
theorem j_castI {b index : Nat} (hk : gK G b = 50) (hlink : Cond.classLink M.2.1 index "[I" ∈ lw_all) (hdg : decode M.1 pc = .ok (.checkcast index, 3)) (kk : J M F G (pc + 3) lv (vR (some b) :: st)) : J M F G pc lv (vR (some b) :: st) := by
  refine J.st2 (fun {p l e R s m args below meth c0 D H locs cells slots Q ls} ok hp k0 => ?_) kk
  have hT := zok_tb ok
  have hts := ok.2.2.2.2.1
  have hf : s.vm.findClass "[I" = some (D.2 0) := (hT.1.2 0 _ (ztys_at (ty := .int) rfl)).2
  have hc := (hp.2.1 b).2.1 0 _ rfl hk
  intro T hT' X
  obtain ⟨vm', X', step⟩ := X.checkcastYes ok.1 ok.2.2.2.1 (hts _ hlink) (by rw [hT']; exact hc) rfl hf (zasg _ _) (g := F0 m pc ls ((vR (some b) :: st).map zv)) rfl rfl (by rw [ok.2.1]; exact hdg)
  obtain ⟨t, a1, b1⟩ := k0 (T.setVm vm') hT' X'
  exact ⟨t, step t a1, b1⟩
/-- a wide constant -/
theorem j_ldcw {index : Nat} {v : Int32} (hc : Cond.constant M.2.1 index v ∈ lw_all) (hdg : decode M.1 pc = .ok (.ldc_w index, 3)) (kk : J M F G (pc + 3) lv (vI v :: st)) : J M F G pc lv st := by
  refine J.st2 (fun {p l e R s m args below meth c0 D H locs cells slots Q ls} ok hp k0 => ?_) kk
  have hts := ok.2.2.2.2.1
  intro T hT' X
  obtain ⟨t, a1, b1⟩ := k0 T hT' X
  obtain ⟨k, cf, bytes, hk, hcf, hcp, hb⟩ := Cond.constant_spec ok.2.2.2.1 (hts _ hc)
  obtain ⟨k', hk', he⟩ := X.warmed.alike.2.2 _ _ hk
  refine ⟨t, ?_, b1⟩
  have hd' : decode c0.code pc = .ok (.ldc_w index, 3) := by rw [ok.2.1]; exact hdg
  jvm_step X.here [ok.1, hd', ldc_w.wp_int (e := e) (s := T) (f := F0 m pc ls (st.map zv)) X.here.top hk' (by rw [he]; exact hcf) hcp, hb]
  exact a1
end zRows8
