/-! ===== calls, ends, entries ===== -/
def zgx : Cond → Bool
  | .fieldLinkNest .. => true
  | .methodLinkNest .. => true
  | .castable .. => true
  | .declares .. => true
  | _ => false
theorem zxs_gx : ∀ w ∈ zxs, zgx w = true := by decide +kernel
theorem znw_warm {w : Cond} {s U : State} (hg : zgx w = true) (hW : s.WarmedH U.vm) (h0 : va_Nw w s) : va_Nw w U := by
  cases w with
  | fieldLinkNest a i b n d h => exact va_Nw.warmF hW h0
  | methodLinkNest a i x h => exact va_Nw.warmM hW h0
  | castable a b => exact va_Nw.warmC hW h0
  | declares x => exact va_Nw.warmD hW h0
  | _ => exact absurd hg (by simp [zgx])
theorem zfs_ok : ∀ q ∈ zfs, q.2.1.cls ≠ "java/lang/invoke/MethodHandle" ∧ q.2.1.cls ≠ "java/lang/invoke/VarHandle" := by decide +kernel
theorem zTb.warm {D : zD} {s U : State} (hW : s.WarmedH U.vm) (h : zTb D s) : zTb D U :=
  ⟨h.1.moved hW.alike, fun w hw => znw_warm (zxs_gx w hw) hW (h.2.1 w hw), fun q hq => va_Fw.moved (zfs_ok q hq) hW.alike (h.2.2.1 q hq), va_AO.moved hW.alike h.2.2.2.1, va_AO.moved hW.alike h.2.2.2.2.1, fun q hq => va_Nc.moved hW.alike (h.2.2.2.2.2.1 q hq), h.2.2.2.2.2.2.1.moved hW.alike, h.2.2.2.2.2.2.2.1.warm hW, h.2.2.2.2.2.2.2.2.warm hW⟩
theorem zTb.same {D : zD} {u U : State} (e : u.vm = U.vm) (h : zTb D u) : zTb D U := by
  have hA : u.vm.Alike U.vm := by rw [e]; exact Vm.Alike.refl _
  exact ⟨h.1.moved hA, fun w hw => va_Nw.same (zxs_tab w hw) e (h.2.1 w hw), fun q hq => va_Fw.moved (zfs_ok q hq) hA (h.2.2.1 q hq), va_AO.moved hA h.2.2.2.1, va_AO.moved hA h.2.2.2.2.1, fun q hq => va_Nc.moved hA (h.2.2.2.2.2.1 q hq), h.2.2.2.2.2.2.1.moved hA, h.2.2.2.2.2.2.2.1.warm (by rw [← e]; exact State.WarmedH.refl u), h.2.2.2.2.2.2.2.2.warm (by rw [← e]; exact State.WarmedH.refl u)⟩
def zPc (D : zD) (As : List zV) (G : GS) : Array Value → State → Prop := va_Pc (As.map zv) (fun U => zTb D U ∧ zHp D G U U.heap)
theorem zblind {D : zD} {As : List zV} {G : GS} : FrameBlind (zPc D As G) := by
  intro a U g mk h
  exact ⟨h.1, zTb.same (u := U) (U := U.calling g mk a) rfl h.2.1, zHp.moved (u := U) (U := U.calling g mk a) (Vm.Alike.refl U.vm) h.2.2⟩
def zc (v : zV) : Nat := if zw v = true then 2 else 1
theorem zcat {rest : List zV} (h : (rest.map zc).sum ≤ 8) : ((rest.map zv).map fun v => v.category).sum ≤ 8 := by
  have e : (rest.map zv).map (fun v => v.category) = rest.map zc := by
    rw [List.map_map]
    exact List.map_congr_left (fun v _ => zv_cat v)
  rw [e]
  exact h
/-- a call's outcome, 'n' the instruction's length -/
def zRG (n : Nat) (p : Program) (l : Launch) (e : Env) (R : Room) (s : State) (m : MethodId) (args : Array Value) (below : List Frame) (meth : Method) (c : Code) (H : Heap) (locs : List Loc) (cells slots mc ms : Nat) (g : JFrame) (rest : List Value) (Qa : State → Outcome → State → Prop) (XC : String → State → State → Prop) (free : Addr → Prop) : Prop :=
  ∀ T : State, T.heap = H → Stand p l e R s m args below meth c T locs cells slots →
    (∃ (v : Option Value) (st₀ t T' : State) (L : List Loc), st₀.heap = H ∧ Stand p l e R s m args below meth c T' (locs ++ L) (cells + mc) (slots + ms) ∧ (∀ q ∈ L, free q.base) ∧ T'.heap = t.heap ∧ T'.vm = t.vm ∧ Qa st₀ (.returned v) t ∧
      Goes p e below T g T' { g with pc := g.pc + n, stack := v.toList ++ rest }) ∨
    (∃ (q : Addr) (st₀ t T' : State) (L : List Loc) (E : String) (ce : Cell), st₀.heap = H ∧ Stand p l e R s m args below meth c T' (locs ++ L) (cells + mc) (slots + ms) ∧ (∀ z ∈ L, free z.base) ∧ T'.heap = t.heap ∧ T'.vm = t.vm ∧ XC E st₀ t ∧ t.heap[q]? = some ce ∧ ce.vm = .none ∧ s.vm.findClass E = some ce.cls ∧
      Steps p.tables e below (T.setTop g) ((T'.setTop { g with stack := rest }).pushFrame (.throwing q)))
def zRun (M : zM) (F : zF) (G : GS) (n pc : Nat) (lv : List (Nat × zV)) (st rest : List zV) (o : zO) (G1 : GS) (d : Nat) : Prop :=
  zle G G1 ∧ (zle F.2.1 G → zle G1 F.2.2.1 → ∀ (p : Program) (l : Launch) (e : Env) (R : Room) (s : State) (m : MethodId) (args : Array Value) (below : List Frame) (meth : Method) (c : Code) (D : zD) (Q : State → Prop) (H : Heap) (locs : List Loc) (ls : Array Slot),
    zOk M F p l R s m args below meth c D Q → zHp D G s H → lv_has ls M.2.2.1 (zL lv) →
    ∃ a, zRG n p l e R s m args below meth c H locs (gz G - gz F.2.1) (gu G - gu F.2.1) (gz G1 - gz G) (gu G1 - gu G) (F0 m pc ls (st.map zv)) (rest.map zv) (zQc D (o, G, G1, d) a) (zXC D (o, G, G1, d)) (zA (o, G, G1, d)))
section zCalls
variable {M : zM} {F : zF} {G G1 : GS} {n pc : Nat} {lv : List (Nat × zV)} {st rest : List zV} {d : Nat}
theorem zA_up {o : zO} (h0 : zle F.2.1 G) (h1 : zle G1 F.2.2.1) (h : zle G G1) (q : Nat) (hq : zA (o, G, G1, d) q) : zA F q := by
  rcases hq with hq | hq
  · by_cases hl : q < gz G1
    · exact Or.inl (zfree_le h1 hl hq)
    · exact Or.inr (Nat.le_trans h0.1 (Nat.le_trans h.1 (Nat.le_of_not_lt hl)))
  · exact Or.inr (Nat.le_trans h0.1 hq)
theorem zsub3 {a b c : Nat} (h : a ≤ b) (k : b ≤ c) : b - a + (c - b) = c - a := by omega
theorem j_cont {v : Option zV} (h : zRun M F G n pc lv st rest (.inl v) G1 d) (k : J M F G1 (pc + n) lv (v.toList ++ rest)) : J M F G pc lv st := by
  refine ⟨zle_trans h.1 k.1, fun h0 p l e R s m args below meth c D Q H locs ls ok hp hs hl => ?_⟩
  obtain ⟨a, hr⟩ := h.2 h0 k.1 p l e R s m args below meth c D Q H locs ls ok hp hl
  intro T hT X
  rcases hr T hT X with ⟨v', st₀, t, T', L, e0, X', hL, e1, e2, ⟨⟨w, hw, hv⟩, hp1, hF⟩, go⟩ | ⟨q, st₀, t, T', L, E, ce, e0, X', hL, e1, e2, ⟨hw, -⟩, -⟩
  · cases hw
    cases hv
    have hA : ∀ q, zA (Sum.inl v, G, G1, d) q → zA F q := zA_up h0 k.1 h.1
    have hp2 : zHp D G1 s T'.heap := by
      rw [e1]
      exact hp1.moved (Vm.Alike.symm (by rw [← e2]; exact X'.warmed.alike))
    have hs2 : va_S (zA F) s.heap T'.heap (locs ++ L) := by
      refine ⟨Nat.le_trans hs.1 (by rw [e1, ← e0]; exact hF.1), fun q h1 h2 => ?_, fun q hq => ?_⟩
      · rw [e1, hF.2 q (by rw [e0]; exact Nat.lt_of_lt_of_le h1 hs.1) (fun z => h2 (hA q z)), e0]
        exact hs.2.1 q h1 h2
      · rcases List.mem_append.mp hq with z | z
        · exact hs.2.2 q z
        · exact hA _ (hL q z)
    have k0 := k.2 (zle_trans h0 h.1) p l e R s m args below meth c D Q T'.heap (locs ++ L) ls ok hp2 hs2 hl
    rw [zsub3 h0.1 h.1.1, zsub3 h0.2.1 h.1.2.1] at X'
    obtain ⟨t2, a1, b1⟩ := k0 T' rfl X'
    refine ⟨t2, go t2 ?_, b1⟩
    have es : (v.map zv).toList ++ rest.map zv = (v.toList ++ rest).map zv := by cases v <;> rfl
    show Steps p.tables e below (T'.setTop (F0 m (pc + n) ls ((v.map zv).toList ++ rest.map zv))) t2
    rw [es]
    exact a1
  · cases hw
theorem j_thr {E : String} (h : zRun M F G n pc lv st rest (.inr E) G1 d) (k : JX M F G1 E pc lv) : J M F G pc lv st := by
  refine ⟨zle_trans h.1 k.1, fun h0 p l e R s m args below meth c D Q H locs ls ok hp hs hl => ?_⟩
  obtain ⟨a, hr⟩ := h.2 h0 k.1 p l e R s m args below meth c D Q H locs ls ok hp hl
  intro T hT X
  rcases hr T hT X with ⟨v', st₀, t, T', L, e0, X', hL, e1, e2, ⟨⟨w, hw, hv⟩, hp1, hF⟩, go⟩ | ⟨q, st₀, t, T', L, E', ce, e0, X', hL, e1, e2, ⟨hw, hp1, hF⟩, g1, g2, g3, go⟩
  · cases hw
  · cases hw
    have hA : ∀ q, zA (Sum.inr E, G, G1, d) q → zA F q := zA_up h0 k.1 h.1
    have hp2 : zHp D G1 s T'.heap := by
      rw [e1]
      exact hp1.moved (Vm.Alike.symm (by rw [← e2]; exact X'.warmed.alike))
    have hs2 : va_S (zA F) s.heap T'.heap (locs ++ L) := by
      refine ⟨Nat.le_trans hs.1 (by rw [e1, ← e0]; exact hF.1), fun q h1 h2 => ?_, fun q hq => ?_⟩
      · rw [e1, hF.2 q (by rw [e0]; exact Nat.lt_of_lt_of_le h1 hs.1) (fun z => h2 (hA q z)), e0]
        exact hs.2.1 q h1 h2
      · rcases List.mem_append.mp hq with z | z
        · exact hs.2.2 q z
        · exact hA _ (hL q z)
    have k0 := k.2 (zle_trans h0 h.1) p l e R s m args below meth c D Q T'.heap (locs ++ L) ls q ce (rest.map zv) ok hp2 hs2 hl (by rw [e1]; exact g1) g2 g3
    rw [zsub3 h0.1 h.1.1, zsub3 h0.2.1 h.1.2.1] at X'
    obtain ⟨t2, a1, b1⟩ := k0 T' rfl X'
    exact ⟨t2, go.trans a1, b1⟩
/-- what a site of a call says: the words that it asks, the callee's arguments -/
def zSV (own : String) (index : Nat) (C : String) (y : MethodName) (b : ByteArray) (L : Nat) (r : Option FieldType) (k : Nat) : Prop :=
  GoodIn lw_all (wsV own index C y (ws_ y b L r)) ∧ (y.cls = C ∧ y.cls ≠ "java/lang/invoke/MethodHandle" ∧ y.cls ≠ "java/lang/invoke/VarHandle" ∧ (parseMethodDescriptor y.desc).map (fun d => d.parameters.length) = some k) ∧ L ≤ 45
def zSS (own : String) (index : Nat) (y : MethodName) (b : ByteArray) (L : Nat) (r : Option FieldType) (k : Nat) : Prop :=
  GoodIn lw_all (va_wsS own index y (ws_ y b L r)) ∧ (y.cls ≠ "java/lang/invoke/MethodHandle" ∧ y.cls ≠ "java/lang/invoke/VarHandle" ∧ (parseMethodDescriptor y.desc).map (fun d => d.parameters.length) = some k) ∧ L ≤ 45
def zSI (own : String) (index : Nat) (y : MethodName) (b : ByteArray) (L : Nat) (k : Nat) : Prop :=
  Cond.code y b L none ∈ lw_all ∧ Cond.initialized y.cls ∈ lw_all ∧ Cond.methodLink own index y ∈ lw_all ∧ Cond.instanceMethod y ∈ lw_all ∧ y.name = "<init>" ∧ (y.cls ≠ "java/lang/invoke/MethodHandle" ∧ y.cls ≠ "java/lang/invoke/VarHandle" ∧ (parseMethodDescriptor y.desc).map (fun d => d.parameters.length) = some k) ∧ L ≤ 45
theorem zroomR {o : zO} {L : Nat} {R : Room} (hd : d + 1 ≤ F.2.2.2) (hL : L ≤ 45) (hR : F.2.2.2 ≤ R.frames ∧ 64 * F.2.2.2 + 64 ≤ R.locals ∧ gz F.2.2.1 - gz F.2.1 ≤ R.cells ∧ gu F.2.2.1 - gu F.2.1 ≤ R.slots) : (zrm (o, G, G1, d)).frames + 1 ≤ R.frames ∧ 8 + (L + 11) + (zrm (o, G, G1, d)).locals ≤ R.locals := by
  show d + 1 ≤ R.frames ∧ 8 + (L + 11) + (64 * d + 64) ≤ R.locals
  omega
theorem zroomC {R : Room} (h0 : zle F.2.1 G) (h : zle G G1) (h1 : zle G1 F.2.2.1) (hR : F.2.2.2 ≤ R.frames ∧ 64 * F.2.2.2 + 64 ≤ R.locals ∧ gz F.2.2.1 - gz F.2.1 ≤ R.cells ∧ gu F.2.2.1 - gu F.2.1 ≤ R.slots) : gz G - gz F.2.1 + (gz G1 - gz G) ≤ R.cells ∧ gu G - gu F.2.1 + (gu G1 - gu G) ≤ R.slots := by
  rw [zsub3 h0.1 h.1, zsub3 h0.2.1 h.2.1]
  have := h1.1
  have := h1.2.1
  omega
/-- a thing of a known class, met in the heap -/
theorem zrecv {D : zD} {s : State} {H : Heap} {a : Nat} {C : String} (hp : zHp D G s H) (hT : zTb D s) (hk : zKc (gK G a) = some C) : ∃ cell : Cell, H[a]? = some cell ∧ cell.vm.isStatics = false ∧ s.vm.findClass C = some cell.cls := by
  unfold zKc at hk
  by_cases h1 : gK G a = 61
  · rw [if_pos h1] at hk
    cases hk
    obtain ⟨cf, k, i, f, cell, g1, g2, g3, g4, g5, g6, g7⟩ := (hp.2.1 a).2.2.2.1 h1
    exact ⟨cell, g3, g5, g6⟩
  · rw [if_neg h1] at hk
    by_cases h5 : gK G a = 65
    · rw [if_pos h5] at hk
      cases hk
      exact (hp.2.1 a).2.2.2.2.2.2.2 h5
    rw [if_neg h5] at hk
    by_cases h2 : gK G a = 0
    · rw [if_pos h2] at hk
      cases hk
    · rw [if_neg h2] at hk
      obtain ⟨r, hr, rfl⟩ := Option.map_eq_some_iff.mp hk
      obtain ⟨cell, q1, q2, q3, -⟩ := (hp.2.1 a).1 _ r hr (by omega)
      exact ⟨cell, q1, by rw [q3]; rfl, by rw [q2]; exact (hT.1.1 _ _ (zvcl_at hr)).2.1⟩
theorem zfixOk {p : Program} {l : Launch} {R : Room} {s : State} {m : MethodId} {args : Array Value} {below : List Frame} {meth : Method} {c : Code} {D : zD} {Q : State → Prop} (ok : zOk M F p l R s m args below meth c D Q) : CallFix p m c M.1 M.2.2.1 s args lw_all M.2.1 := ⟨ok.1, ok.2.1, ok.2.2.1, ok.2.2.2.1, ok.2.2.2.2.1⟩
/-- a call through an object whose class is known -/
theorem zrV {index k b L : Nat} {C : String} {y : MethodName} {code : ByteArray} {r : Option FieldType} {As : List zV} {o : zO} (hS : zSV M.2.1 index C y code L r k) (hR : zRuns y (ws_ y code L r) (vR (some b) :: As) (o, G, G1, d)) (hd : d + 1 ≤ F.2.2.2) (hk : zKc (gK G b) = some C) (hst : st = As.reverse ++ vR (some b) :: rest) (hn : As.length = k) (hrest : (rest.map zc).sum ≤ 8) (hdg : decode M.1 pc = .ok (.invokevirtual index, 3)) : zRun M F G 3 pc lv st rest o G1 d := by
  refine ⟨hR.1, fun h0 h1 p l e R s m args below meth c D Q H locs ls ok hp hl => ?_⟩
  have hT := zok_tb ok
  have hRr := ok.2.2.2.2.2.2.2.2.2.1
  have hfl := ok.2.2.2.2.2.2.2.2.2.2.1
  subst hst
  exact ⟨_, vx_runV (As := As.map zv) (b := b) (C := C) (rest := rest.map zv) (zfixOk ok) (hR.2 l D hfl) (cwV k ok.2.2.2.2.1 hS.1 rfl rfl rfl hS.2.1 (zroomR hd hS.2.2 hRr)) ⟨zblind, zrecv hp hT hk, fun U hU hW => ⟨rfl, hT.warm hW, by rw [hU]; exact hp.moved hW.alike⟩⟩ rfl (by rw [List.length_map]; exact hn) hl.1 (by simp [zv, va_rf]) (lv_room (zcat hrest)) hdg (zroomC h0 hR.1 h1 hRr)⟩
/-- a call of a static method -/
theorem zrS {index k L : Nat} {y : MethodName} {code : ByteArray} {r : Option FieldType} {As : List zV} {o : zO} (hS : zSS M.2.1 index y code L r k) (hR : zRuns y (ws_ y code L r) As (o, G, G1, d)) (hd : d + 1 ≤ F.2.2.2) (hst : st = As.reverse ++ rest) (hn : As.length = k) (hrest : (rest.map zc).sum ≤ 8) (hdg : decode M.1 pc = .ok (.invokestatic index, 3)) : zRun M F G 3 pc lv st rest o G1 d := by
  refine ⟨hR.1, fun h0 h1 p l e R s m args below meth c D Q H locs ls ok hp hl => ?_⟩
  have hT := zok_tb ok
  have hRr := ok.2.2.2.2.2.2.2.2.2.1
  have hfl := ok.2.2.2.2.2.2.2.2.2.2.1
  subst hst
  exact ⟨_, vx_runS (As := As.map zv) (rest := rest.map zv) (zfixOk ok) (hR.2 l D hfl) (va_cwS k ok.2.2.2.2.1 hS.1 rfl rfl rfl hS.2.1 (zroomR hd hS.2.2 hRr)) ⟨zblind, fun U hU hW => ⟨rfl, hT.warm hW, by rw [hU]; exact hp.moved hW.alike⟩⟩ rfl (by rw [List.length_map]; exact hn) hl.1 (by simp) (lv_room (zcat hrest)) hdg (zroomC h0 hR.1 h1 hRr)⟩
/-- a constructor's call -/
theorem zrI {index k b L : Nat} {y : MethodName} {code : ByteArray} {As : List zV} {o : zO} (hS : zSI M.2.1 index y code L k) (hR : zRuns y (ws_ y code L none) (vR (some b) :: As) (o, G, G1, d)) (hd : d + 1 ≤ F.2.2.2) (hst : st = As.reverse ++ vR (some b) :: rest) (hn : As.length = k) (hrest : (rest.map zc).sum ≤ 8) (hdg : decode M.1 pc = .ok (.invokespecial index, 3)) : zRun M F G 3 pc lv st rest o G1 d := by
  refine ⟨hR.1, fun h0 h1 p l e R s m args below meth c D Q H locs ls ok hp hl => ?_⟩
  have hT := zok_tb ok
  have hRr := ok.2.2.2.2.2.2.2.2.2.1
  have hfl := ok.2.2.2.2.2.2.2.2.2.2.1
  have hts := ok.2.2.2.2.1
  obtain ⟨s1, s2, s3, s4, s5, s6, s7⟩ := hS
  subst hst
  exact ⟨_, vx_runI (As := As.map zv) (b := b) (rest := rest.map zv) (zfixOk ok) (hR.2 l D hfl) (cwI k hts (lw_meth s1) rfl rfl rfl (hts _ s2) (hts _ s3) (hts _ s4) s5 s6 (zroomR hd s7 hRr)) ⟨zblind, fun U hU hW => ⟨rfl, hT.warm hW, by rw [hU]; exact hp.moved hW.alike⟩⟩ rfl (by rw [List.length_map]; exact hn) hl.1 (by simp [zv, va_rf]) (lv_room (zcat hrest)) hdg (zroomC h0 hR.1 h1 hRr)⟩
/-! ends -/
theorem j_ret {v : Option zV} (hF : F.1 = .inl v) (hG : G = F.2.2.1) (hst : st = v.toList)
    (h : ∀ {p : Program} {l : Launch} {e : Env} {R : Room} {s : State} {m : MethodId} {args : Array Value} {below : List Frame} {meth : Method} {c : Code} {H : Heap} {locs : List Loc} {ls : Array Slot} {cells slots : Nat} {Qc : Array Value → State → Outcome → State → Prop} {free : Addr → Prop}, p.tables.exec = Jvm.exec → c.code = M.1 → meth.sig.returnType = M.2.2.2.1 → meth.locks = false →
      (∀ t : State, t.heap = H → s.WarmedH t.vm → Qc args s (.returned (v.map zv)) t) → (∀ q ∈ locs, free q.base) → W p l e R s m args below meth c H locs cells slots (MQ below Qc args s cells slots free) (F0 m pc ls (v.toList.map zv))) : J M F G pc lv st := by
  subst hG
  subst hst
  refine ⟨zle_rfl, fun h0 p l e R s m args below meth c D Q H locs ls ok hp hs hl => ?_⟩
  obtain ⟨hx, hb, -, -, -, hr, hlk, -, -, -, -, hQ, -⟩ := ok
  have k0 := vx_ret (XC := zXC D F) (h (l := l) (e := e) (R := R) (m := m) (args := args) (below := below) (H := H) (ls := ls) (cells := gz F.2.2.1 - gz F.2.1) (slots := gu F.2.2.1 - gu F.2.1) (Qc := zQc D F) (free := zA F) hx hb hr hlk (fun t ht hW => ⟨⟨v, hF, rfl⟩, by rw [ht]; exact hp.moved hW.alike, by rw [ht]; exact hs.1, fun q h1 h2 => by rw [ht]; exact hs.2.1 q h1 h2⟩) hs.2.2)
  intro T hT X
  obtain ⟨t, a1, b1⟩ := k0 T hT X
  exact ⟨t, a1, hQ t b1⟩
end zCalls
