/-! ===== things thrown and caught ===== -/
section zThrow
variable {M : zM} {F : zF} {G G1 : GS} {n pc : Nat} {lv : List (Nat × zV)} {st rest : List zV} {d : Nat}
def zEX (own : String) (ik ic : Nat) (cls : String) (names : List String) : Prop :=
  Cond.classLink own ik cls ∈ lw_all ∧ Cond.initialized cls ∈ lw_all ∧ (∀ w ∈ vx_at0 own ic cls names, w ∈ lw_all ∨ w ∈ zxs) ∧ (∀ w ∈ Cond.classLink own ik cls :: Cond.initialized cls :: vx_at0 own ic cls names, vx_ot w = true) ∧ Bundle.fit cls = true ∧ (∀ n ∈ names, Bundle.fit n = true) ∧ names.length ≤ 2
theorem zEX.of {own : String} {ik ic : Nat} {cls : String} {names : List String} (h1 : Cond.classLink own ik cls ∈ lw_all) (h2 : Cond.initialized cls ∈ lw_all) (h3 : ∀ w ∈ vx_at0 own ic cls names, w ∈ lw_tbl ∧ (goodWord w = true ∨ w ∈ zxs)) (h4 : ∀ w ∈ Cond.classLink own ik cls :: Cond.initialized cls :: vx_at0 own ic cls names, vx_ot w = true) (h5 : Bundle.fit cls = true) (h6 : ∀ n ∈ names, Bundle.fit n = true) (h7 : names.length ≤ 2) : zEX own ik ic cls names :=
  ⟨h1, h2, fun w hw => (h3 w hw).2.elim (fun g => Or.inl (lw_g (h3 w hw).1 g)) Or.inr, h4, h5, h6, h7⟩
/-- 'new X()' of a throwable, no traces kept (after the kit's vx_make0): what it makes, all else as it was -/
theorem zmake0 {p : Program} {l : Launch} {e : Env} {R : Room} {s : State} {m : MethodId} {args : Array Value} {below : List Frame} {meth : Method} {c : Code} {H : Heap} {locs : List Loc} {cells slots : Nat} {Q : State → Prop} {cc : ByteArray} {pc : Nat} {ls : Array Slot} {rest : List Value} (hexec : p.tables.exec = Jvm.exec) (hb : c.code = cc) (hl : l.stackTraces = false) {own cls : String} {names : List String} {ik ic : Nat} {A : Nat → Prop}
    (hown : s.vm.findClass own = some m.cls) (hcls : Bundle.fit cls = true) (hnames : ∀ n ∈ names, Bundle.fit n = true)
    (hk : (Cond.classLink own ik cls).before args s = true) (hini : (Cond.initialized cls).before args s = true) (hat : ∀ w ∈ vx_at0 own ic cls names, w.before args s = true)
    (hgood : ∀ w ∈ Cond.classLink own ik cls :: Cond.initialized cls :: vx_at0 own ic cls names, vx_ot w = true)
    (hU : vx_Zq Bundle.tN "UNASSIGNED_STACK" Bundle.steD A s H) (hN : vx_Zq Bundle.tN "SUPPRESSED_SENTINEL" Bundle.listD A s H) (hsize : ls.size = c.maxLocals)
    (d0 : decode cc pc = .ok (.new ik, 3)) (d3 : decode cc (pc + 3) = .ok (.dup, 1)) (d4 : decode cc (pc + 4) = .ok (.invokespecial ic, 3))
    (hRframes : names.length + 3 < R.frames) (hRlocals : (rest.map fun v => v.category).sum + (13 * (names.length + 1) + 42) ≤ R.locals) (hRcells : cells + 1 ≤ R.cells) (hRslots : slots + 6 ≤ R.slots)
    (kk : ∀ (q : Nat) (H1 : Heap), q = H.size → H1.size = H.size + 1 → (∀ b, b < H.size → H1[b]? = H[b]?) → (∃ ce : Cell, H1[q]? = some ce ∧ ce.vm = .none ∧ s.vm.findClass cls = some ce.cls) → W p l e R s m args below meth c H1 locs (cells + 1) (slots + 6) Q (F0 m (pc + 7) ls (.ref q :: rest))) :
    W p l e R s m args below meth c H locs cells slots Q (F0 m pc ls rest) := by
  intro T hT X
  subst hT
  have htr : e.platform.stackTraces = false := (show e.platform.stackTraces = l.stackTraces by rw [X.admits.platform]).trans hl
  have Y := vx_rebase X (R' := { frames := R.frames, locals := R.locals, cells := 1, slots := 6 }) (Nat.le_refl _) (Nat.le_refl _) hRcells hRslots
  obtain ⟨s', hA'⟩ : ∃ z, z = (T.setVm s.vm).setFrames (.invoking m args :: below) := ⟨_, rfl⟩
  rw [← hA'] at Y
  have hvm : s'.vm = s.vm := by rw [hA']; rfl
  have hhp : s'.heap = T.heap := by rw [hA']; rfl
  have hW0 : s.WarmedH s'.vm := by rw [hvm]; exact State.WarmedH.refl s
  have hat' : ∀ w ∈ vx_at0 own ic cls names, w.before args s' = true := fun w hw => vx_ot_at hW0 hvm.symm (hgood w (List.mem_cons_of_mem _ (List.mem_cons_of_mem _ hw))) (hat w hw)
  have hk' : (Cond.classLink own ik cls).before args s' = true := vx_ot_at hW0 hvm.symm (hgood _ List.mem_cons_self) hk
  have hini' : (Cond.initialized cls).before args s' = true := vx_ot_at hW0 hvm.symm (hgood _ (List.mem_cons_of_mem _ List.mem_cons_self)) hini
  have hU' : vx_Zq Bundle.tN "UNASSIGNED_STACK" Bundle.steD A s' s'.heap := by rw [hhp]; exact vx_Zq.moved hW0.alike hU
  have hN' : vx_Zq Bundle.tN "SUPPRESSED_SENTINEL" Bundle.listD A s' s'.heap := by rw [hhp]; exact vx_Zq.moved hW0.alike hN
  have h : ∀ w ∈ Bundle.ownAtoms0 own ic cls names, w.before args s' = true := vx_own hat' (vx_isRefq hU'.1) (vx_isRefq hN'.1) hU'.2.word hN'.2.word
  have hown' : s'.vm.findClass own = some m.cls := by rw [hvm]; exact hown
  have hins : (Cond.instantiable cls 6).before args s' = true := h _ (by simp [Bundle.ownAtoms0])
  obtain ⟨vm₁, cX, kX, hfX, hkX, -, -, X₁, st1⟩ := Y.newCold hexec (own := own) (C := cls) (index := ik) (n := 6) hown' hk' hins hini'
    (g := F0 m pc ls rest) rfl (by rw [hb]; exact d0) (Nat.le_refl _) (Nat.le_refl _)
  generalize hT1 : (T.setVm vm₁).pushCell { cls := cX, slots := kX.instanceTypes.map defaultValue, vm := .none } = T1 at X₁ st1
  have hcat : (Value.ref T.heap.size).category = 1 := rfl
  have hcellA : T1.heap[T.heap.size]? = some (freshCell cX kX) := by rw [← hT1]; exact State.heap_pushCell_size _ _
  have d3' : decode c.code (pc + 3) = .ok (.dup, 1) := by rw [hb]; exact d3
  obtain ⟨V, ce, L, Z, hL, hlt, hcl9, hvm9, st⟩ := vx_ctorMade0 X₁ hexec htr (own := own) (cls := cls) (names := names) (ic := ic) hown' hcls hnames h (fun x hx => nomatch hx) hfX hkX hcellA (by rw [hhp]; exact Nat.le_refl _)
    (g := { method := m, pc := pc + 4, locals := ls, stack := .ref T.heap.size :: .ref T.heap.size :: rest, locked := none }) rfl hsize (rest := rest) rfl
    (by rw [hb]; exact d4) hRframes (by simp only [List.map_cons, List.sum_cons, hcat]; omega)
  have Z0 := Stand.forget (locs := []) Z (fun y hy => by rw [hL y hy, hhp]; exact Nat.le_refl _)
  obtain ⟨f1, f2⟩ := vx_frame Z0.same
  rw [hhp] at f1 f2
  have hh : (V.setCell T.heap.size ce).heap[T.heap.size]? = some ce := heapAt_setCell_self (s := V) ce hlt
  have hz1 : (V.setCell T.heap.size ce).heap.size ≤ T.heap.size + 1 := by
    have h9 := Z0.heapSize
    rw [hhp] at h9
    exact h9
  have hz2 : T.heap.size < (V.setCell T.heap.size ce).heap.size := (Array.getElem?_eq_some_iff.mp hh).1
  have hfX' : s.vm.findClass cls = some ce.cls := by rw [hcl9, ← hvm]; exact hfX
  subst hA'
  have X5 := vx_back9 X Y Z0
  have X6 : Stand p l e R s m args below meth c (V.setCell T.heap.size ce) locs (cells + 1) (slots + 6) := { X5 with same := X5.same.mono (by omega) (by omega) }
  obtain ⟨t, a1, b1⟩ := kk T.heap.size (V.setCell T.heap.size ce).heap rfl (by omega) (fun b hb9 => f2 b hb9 (fun z hz => nomatch hz)) ⟨ce, hh, hvm9, hfX'⟩ _ rfl X6
  refine ⟨t, st1 _ ?_, b1⟩
  show Steps p.tables e below (T1.setTop { method := m, pc := pc + 3, locals := ls, stack := .ref T.heap.size :: rest, locked := none }) _
  jvm_step X₁.here [X₁.here.top, hexec, d3', Value.category]
  exact st _ a1
theorem zflags {l : Launch} (h : l.flags = flags0) : l.stackTraces = false := by
  unfold Launch.stackTraces
  rw [h]
  decide
/-- 'throw new X()' -/
theorem j_throw {ik ic : Nat} {cls : String} {names : List String} (hE : zEX M.2.1 ik ic cls names) (d0 : decode M.1 pc = .ok (.new ik, 3)) (d3 : decode M.1 (pc + 3) = .ok (.dup, 1)) (d4 : decode M.1 (pc + 4) = .ok (.invokespecial ic, 3)) (d7 : decode M.1 (pc + 7) = .ok (.athrow, 1)) (hd : 6 ≤ F.2.2.2) (hrest : (st.map zc).sum ≤ 8) (kk : JX M F (al G 0 0 6) cls (pc + 7) lv) : J M F G pc lv st := by
  refine ⟨zle_trans zle_al kk.1, fun h0 p l e R s m args below meth c D Q H locs ls ok hp hs hl => ?_⟩
  have hT := zok_tb ok
  have hts := ok.2.2.2.2.1
  have hRr := ok.2.2.2.2.2.2.2.2.2.1
  have hfl := ok.2.2.2.2.2.2.2.2.2.2.1
  obtain ⟨r1, r2, r3, r4⟩ := zcells (n := 6) h0 kk.1 rfl rfl hRr
  obtain ⟨e1, e2, e3, e4, e5, e6, e7⟩ := hE
  have hz : H.size = gz G := hp.1
  refine zmake0 (names := names) ok.1 ok.2.1 (zflags hfl) ok.2.2.2.1 e5 e6 (hts _ e1) (hts _ e2) (fun w hw => ?_) e4 hp.2.2.2.1 hp.2.2.2.2.1 (by rw [ok.2.2.1]; exact hl.1) d0 d3 d4 (by omega) (by have := zcat hrest; omega) r1 r2 fun q H1 hq z1 o1 hce => ?_
  · rcases e3 w hw with h | h
    · exact hts _ h
    · exact va_Nw.use (zxs_tab _ h) (hT.2.1 _ h)
  · obtain ⟨ce, g1, g2, g3⟩ := hce
    rw [← r3, ← r4]
    exact vx_athrow ok.1 ok.2.1 d7 (kk.2 (zle_trans h0 zle_al) p l e R s m args below meth c D Q H1 locs ls q ce _ ok (hp.new z1 o1 (zAt.of0 (by rw [gK_al, if_pos rfl]))) (hs.new z1 o1) hl g1 g2 g3)
/-- it leaves the method -/
theorem jx_out {E : String} (hF : F.1 = .inr E) (hG : F.2.2.1 = G) (hcov : ∀ x ∈ tableOf M.2.2.2.2.2.1, covers x pc = false) : JX M F G E pc lv := by
  subst hG
  refine ⟨zle_rfl, fun h0 p l e R s m args below meth c D Q H locs ls q ce rest ok hp hs hl g1 g2 g3 => ?_⟩
  obtain ⟨hx, hb, -, -, -, hr, hlk, -, htab, -, -, hQ, -⟩ := ok
  have k0 : vx_W p l e R s m args below meth c H locs (gz F.2.2.1 - gz F.2.1) (gu F.2.2.1 - gu F.2.1) (vx_MQ below (zQc D F) (zXC D F) args s (gz F.2.2.1 - gz F.2.1) (gu F.2.2.1 - gu F.2.1) (zA F)) (F0 m pc ls rest) q :=
    vx_out (by rw [htab]; exact hcov) hlk g1 g2 g3 (fun t ht hW => ⟨hF, by rw [ht]; exact hp.moved hW, by rw [ht]; exact hs.1, fun q h1 h2 => by rw [ht]; exact hs.2.1 q h1 h2⟩) hs.2.2 (Nat.le_refl _) (Nat.le_refl _)
  intro T hT X
  obtain ⟨t, a1, b1⟩ := k0 T hT X
  exact ⟨t, a1, hQ t b1⟩
/-- it is caught by a row of the method's table -/
theorem jx_catch {E name : String} (pre : List ExceptionTableEntry) (x : ExceptionTableEntry) (suf : List ExceptionTableEntry) (hsplit : tableOf M.2.2.2.2.2.1 = pre ++ x :: suf)
    (hpass : ∀ z ∈ pre, covers z pc = false ∨ (z.catchType ≠ 0 ∧ ∃ nm : String, Cond.classLink M.2.1 z.catchType nm ∈ lw_all ∧ (E, nm) ∈ zncs)) (hx : covers x pc = true) (h0 : x.catchType ≠ 0)
    (hlink : Cond.classLink M.2.1 x.catchType name ∈ lw_all) (hcast : Cond.castable E name ∈ zxs) (hpc : x.handlerPc = n) (kk : ∀ q : Nat, J M F G n lv [vR (some q)]) : JX M F G E pc lv := by
  refine ⟨(kk 0).1, fun h00 p l e R s m args below meth c D Q H locs ls q ce rest ok hp hs hl g1 g2 g3 => ?_⟩
  have hT := zok_tb ok
  have hts := ok.2.2.2.2.1
  have htab := ok.2.2.2.2.2.2.2.2.1
  refine vx_catch ok.2.2.2.1 pre x suf (by rw [htab]; exact hsplit) (fun z hz => ?_) hx h0 (hts _ hlink) (va_Nw.use rfl (hT.2.1 _ hcast)) g1 g2 g3 ?_
  · rcases hpass z hz with h | ⟨h1, nm, h2, h3⟩
    · exact Or.inl h
    · exact Or.inr ⟨h1, nm, hts _ h2, hT.2.2.2.2.2.1 _ h3⟩
  · rw [hpc]
    exact (kk q).2 h00 p l e R s m args below meth c D Q H locs ls ok hp hs hl
def zout {α : Type} (f : α → Option zV) : α ⊕ String → zO
  | .inl a => .inl (f a)
  | .inr E => .inr E
def zKXI (F : zF) (a : (Int32 ⊕ String) × GS) : Prop := F.1 = zout (fun v => some (vI v)) a.1 ∧ F.2.2.1 = a.2
def zKXL (F : zF) (a : (Int64 ⊕ String) × GS) : Prop := F.1 = zout (fun v => some (vL v)) a.1 ∧ F.2.2.1 = a.2
def zKXR (F : zF) (a : ((Option Nat) ⊕ String) × GS) : Prop := F.1 = zout (fun v => some (vR v)) a.1 ∧ F.2.2.1 = a.2
def zKXV (F : zF) (a : (Unit ⊕ String) × GS) : Prop := F.1 = zout (fun _ => none) a.1 ∧ F.2.2.1 = a.2
/-- calls of methods with handlers -/
def zSVW (own : String) (index : Nat) (C : String) (y : MethodName) (b : ByteArray) (L : Nat) (r : Option FieldType) (hh : List (Nat × Nat × Nat × Nat)) (k : Nat) : Prop :=
  GoodIn lw_all (wsV own index C y (wsW_ y b L r hh)) ∧ (y.cls = C ∧ y.cls ≠ "java/lang/invoke/MethodHandle" ∧ y.cls ≠ "java/lang/invoke/VarHandle" ∧ (parseMethodDescriptor y.desc).map (fun d => d.parameters.length) = some k) ∧ L ≤ 45
theorem zrVW {index k b L : Nat} {C : String} {y : MethodName} {code : ByteArray} {r : Option FieldType} {hh : List (Nat × Nat × Nat × Nat)} {As : List zV} {o : zO} (hS : zSVW M.2.1 index C y code L r hh k) (hR : zRuns y (wsW_ y code L r hh) (vR (some b) :: As) (o, G, G1, d)) (hd : d + 1 ≤ F.2.2.2) (hk : zKc (gK G b) = some C) (hst : st = As.reverse ++ vR (some b) :: rest) (hn : As.length = k) (hrest : (rest.map zc).sum ≤ 8) (hdg : decode M.1 pc = .ok (.invokevirtual index, 3)) : zRun M F G 3 pc lv st rest o G1 d := by
  refine ⟨hR.1, fun h0 h1 p l e R s m args below meth c D Q H locs ls ok hp hl => ?_⟩
  have hT := zok_tb ok
  have hRr := ok.2.2.2.2.2.2.2.2.2.1
  have hfl := ok.2.2.2.2.2.2.2.2.2.2.1
  subst hst
  exact ⟨_, vx_runVX (As := As.map zv) (b := b) (C := C) (rest := rest.map zv) (zfixOk ok) (hR.2 l D hfl) (vx_cwVW k ok.2.2.2.2.1 hS.1 rfl rfl rfl hS.2.1 (zroomR hd hS.2.2 hRr)) ⟨zblind, zrecv hp hT hk, fun U hU hW => ⟨rfl, hT.warm hW, by rw [hU]; exact hp.moved hW.alike⟩⟩ rfl (by rw [List.length_map]; exact hn) hl.1 (by simp [zv, va_rf]) (lv_room (zcat hrest)) hdg (zroomC h0 hR.1 h1 hRr)⟩
def zSSW (own : String) (index : Nat) (y : MethodName) (b : ByteArray) (L : Nat) (r : Option FieldType) (hh : List (Nat × Nat × Nat × Nat)) (k : Nat) : Prop :=
  GoodIn lw_all (va_wsS own index y (wsW_ y b L r hh)) ∧ (y.cls ≠ "java/lang/invoke/MethodHandle" ∧ y.cls ≠ "java/lang/invoke/VarHandle" ∧ (parseMethodDescriptor y.desc).map (fun d => d.parameters.length) = some k) ∧ L ≤ 45
theorem zrSW {index k L : Nat} {y : MethodName} {code : ByteArray} {r : Option FieldType} {hh : List (Nat × Nat × Nat × Nat)} {As : List zV} {o : zO} (hS : zSSW M.2.1 index y code L r hh k) (hR : zRuns y (wsW_ y code L r hh) As (o, G, G1, d)) (hd : d + 1 ≤ F.2.2.2) (hst : st = As.reverse ++ rest) (hn : As.length = k) (hrest : (rest.map zc).sum ≤ 8) (hdg : decode M.1 pc = .ok (.invokestatic index, 3)) : zRun M F G 3 pc lv st rest o G1 d := by
  refine ⟨hR.1, fun h0 h1 p l e R s m args below meth c D Q H locs ls ok hp hl => ?_⟩
  have hT := zok_tb ok
  have hRr := ok.2.2.2.2.2.2.2.2.2.1
  have hfl := ok.2.2.2.2.2.2.2.2.2.2.1
  subst hst
  exact ⟨_, vx_runSX (As := As.map zv) (rest := rest.map zv) (zfixOk ok) (hR.2 l D hfl) (vx_cwSW k ok.2.2.2.2.1 hS.1 rfl rfl rfl hS.2.1 (zroomR hd hS.2.2 hRr)) ⟨zblind, fun U hU hW => ⟨rfl, hT.warm hW, by rw [hU]; exact hp.moved hW.alike⟩⟩ rfl (by rw [List.length_map]; exact hn) hl.1 (by simp) (lv_room (zcat hrest)) hdg (zroomC h0 hR.1 h1 hRr)⟩
end zThrow
