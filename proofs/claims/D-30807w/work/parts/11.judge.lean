/-! ===== the judgement of a walk, over worlds ===== -/
/-- a method: code, its class, locals, answer, name, handlers, descriptor -/
abbrev zM : Type := ByteArray × String × Nat × Option FieldType × String × List (Nat × Nat × Nat × Nat) × String
abbrev zO : Type := Option zV ⊕ String
/-- a run: how it ends, the world at its start and at its end, the frames that it may take -/
abbrev zF : Type := zO × GS × GS × Nat
def zA (F : zF) : Nat → Prop := fun q => zfree F.2.2.1 q ∨ gz F.2.1 ≤ q
def zQc (D : zD) (F : zF) : Array Value → State → Outcome → State → Prop := fun _ st oc t => (∃ v, F.1 = .inl v ∧ oc = .returned (v.map zv)) ∧ zHp D F.2.2.1 t t.heap ∧ va_F (zA F) st t
def zXC (D : zD) (F : zF) : String → State → State → Prop := fun E st t => F.1 = .inr E ∧ zHp D F.2.2.1 t t.heap ∧ va_F (zA F) st t
def zrm (F : zF) : Room := { frames := F.2.2.2, cells := gz F.2.2.1 - gz F.2.1, slots := gu F.2.2.1 - gu F.2.1, locals := 64 * F.2.2.2 + 64 }
/-- a method, run in a world, ends so -/
def zRuns (y : MethodName) (ws : List Cond) (As : List zV) (F : zF) : Prop :=
  zle F.2.1 F.2.2.1 ∧ ∀ (l : Launch) (D : zD), l.flags = flags0 → vx_Met l y ws (zrm F) (va_Pc (As.map zv) (fun U => zTb D U ∧ zHp D F.2.1 U U.heap)) (zQc D F) (zXC D F) (gz F.2.2.1 - gz F.2.1) (gu F.2.2.1 - gu F.2.1) (zA F)
/-- what holds all through a method's body -/
def zOk (M : zM) (F : zF) (p : Program) (l : Launch) (R : Room) (s : State) (m : MethodId) (args : Array Value) (below : List Frame) (meth : Method) (c : Code) (D : zD) (Q : State → Prop) : Prop :=
  p.tables.exec = Jvm.exec ∧ c.code = M.1 ∧ c.maxLocals = M.2.2.1 ∧ s.vm.findClass M.2.1 = some m.cls ∧ (∀ w ∈ lw_all, w.before args s = true) ∧ meth.sig.returnType = M.2.2.2.1 ∧ meth.locks = false ∧ (meth.name = M.2.2.2.2.1 ∧ s.methodNamed? ⟨M.2.1, M.2.2.2.2.1, M.2.2.2.2.2.2⟩ = some m) ∧ c.exceptionTable.toList = tableOf M.2.2.2.2.2.1 ∧
  (F.2.2.2 ≤ R.frames ∧ 64 * F.2.2.2 + 64 ≤ R.locals ∧ gz F.2.2.1 - gz F.2.1 ≤ R.cells ∧ gu F.2.2.1 - gu F.2.1 ≤ R.slots) ∧ l.flags = flags0 ∧
  (∀ t, vx_MQ below (zQc D F) (zXC D F) args s (gz F.2.2.1 - gz F.2.1) (gu F.2.2.1 - gu F.2.1) (zA F) t → Q t) ∧
  vx_Zq Bundle.tN "UNASSIGNED_STACK" Bundle.steD (zA F) s s.heap ∧ vx_Zq Bundle.tN "SUPPRESSED_SENTINEL" Bundle.listD (zA F) s s.heap ∧ s.heap.size = gz F.2.1 ∧ zTb D s
abbrev zL (lv : List (Nat × zV)) : List (Nat × Value) := lv.map fun q => (q.1, zv q.2)
/-- the judgement: from pc, with these locals and this stack, in the world G, the method ends as F says -/
def J (M : zM) (F : zF) (G : GS) (pc : Nat) (lv : List (Nat × zV)) (st : List zV) : Prop :=
  zle G F.2.2.1 ∧ (zle F.2.1 G → ∀ (p : Program) (l : Launch) (e : Env) (R : Room) (s : State) (m : MethodId) (args : Array Value) (below : List Frame) (meth : Method) (c : Code) (D : zD) (Q : State → Prop) (H : Heap) (locs : List Loc) (ls : Array Slot),
    zOk M F p l R s m args below meth c D Q → zHp D G s H → va_S (zA F) s.heap H locs → lv_has ls M.2.2.1 (zL lv) →
    W p l e R s m args below meth c H locs (gz G - gz F.2.1) (gu G - gu F.2.1) Q (F0 m pc ls (st.map zv)))
/-- the same, with a thrown thing of the class E over the frame -/
def JX (M : zM) (F : zF) (G : GS) (E : String) (pc : Nat) (lv : List (Nat × zV)) : Prop :=
  zle G F.2.2.1 ∧ (zle F.2.1 G → ∀ (p : Program) (l : Launch) (e : Env) (R : Room) (s : State) (m : MethodId) (args : Array Value) (below : List Frame) (meth : Method) (c : Code) (D : zD) (Q : State → Prop) (H : Heap) (locs : List Loc) (ls : Array Slot) (q : Nat) (ce : Cell) (rest : List Value),
    zOk M F p l R s m args below meth c D Q → zHp D G s H → va_S (zA F) s.heap H locs → lv_has ls M.2.2.1 (zL lv) → H[q]? = some ce → ce.vm = .none → s.vm.findClass E = some ce.cls →
    vx_W p l e R s m args below meth c H locs (gz G - gz F.2.1) (gu G - gu F.2.1) Q (F0 m pc ls rest) q)
/-- a step that neither writes nor makes anything -/
theorem J.st1 {M : zM} {F : zF} {G : GS} {pc pc' : Nat} {lv : List (Nat × zV)} {st st' : List zV}
    (h : ∀ {p : Program} {l : Launch} {e : Env} {R : Room} {s : State} {m : MethodId} {args : Array Value} {below : List Frame} {meth : Method} {c : Code} {H : Heap} {locs : List Loc} {cells slots : Nat} {Q : State → Prop} {ls : Array Slot}, p.tables.exec = Jvm.exec → c.code = M.1 → lv_has ls M.2.2.1 (zL lv) →
      W p l e R s m args below meth c H locs cells slots Q (F0 m pc' ls (st'.map zv)) → W p l e R s m args below meth c H locs cells slots Q (F0 m pc ls (st.map zv)))
    (k : J M F G pc' lv st') : J M F G pc lv st :=
  ⟨k.1, fun h0 p l e R s m args below meth c D Q H locs ls ok hp hs hl => h ok.1 ok.2.1 hl (k.2 h0 p l e R s m args below meth c D Q H locs ls ok hp hs hl)⟩
/-- a step that needs the tables -/
theorem J.st2 {M : zM} {F : zF} {G : GS} {pc pc' : Nat} {lv : List (Nat × zV)} {st st' : List zV}
    (h : ∀ {p : Program} {l : Launch} {e : Env} {R : Room} {s : State} {m : MethodId} {args : Array Value} {below : List Frame} {meth : Method} {c : Code} {D : zD} {H : Heap} {locs : List Loc} {cells slots : Nat} {Q : State → Prop} {ls : Array Slot}, zOk M F p l R s m args below meth c D Q → zHp D G s H →
      W p l e R s m args below meth c H locs cells slots Q (F0 m pc' ls (st'.map zv)) → W p l e R s m args below meth c H locs cells slots Q (F0 m pc ls (st.map zv)))
    (k : J M F G pc' lv st') : J M F G pc lv st :=
  ⟨k.1, fun h0 p l e R s m args below meth c D Q H locs ls ok hp hs hl => h ok hp (k.2 h0 p l e R s m args below meth c D Q H locs ls ok hp hs hl)⟩
/-- two ways -/
theorem J.br {M : zM} {F : zF} {G : GS} {pc p1 p2 : Nat} {lv : List (Nat × zV)} {st s1 s2 : List zV} {C : Prop}
    (h : ∀ {p : Program} {l : Launch} {e : Env} {R : Room} {s : State} {m : MethodId} {args : Array Value} {below : List Frame} {meth : Method} {c : Code} {H : Heap} {locs : List Loc} {cells slots : Nat} {Q : State → Prop} {ls : Array Slot}, p.tables.exec = Jvm.exec → c.code = M.1 →
      (C → W p l e R s m args below meth c H locs cells slots Q (F0 m p1 ls (s1.map zv))) → (¬ C → W p l e R s m args below meth c H locs cells slots Q (F0 m p2 ls (s2.map zv))) → W p l e R s m args below meth c H locs cells slots Q (F0 m pc ls (st.map zv)))
    (k1 : C → J M F G p1 lv s1) (k2 : ¬ C → J M F G p2 lv s2) : J M F G pc lv st := by
  by_cases hC : C
  · exact ⟨(k1 hC).1, fun h0 p l e R s m args below meth c D Q H locs ls ok hp hs hl => h ok.1 ok.2.1 (fun _ => (k1 hC).2 h0 p l e R s m args below meth c D Q H locs ls ok hp hs hl) (fun n => absurd hC n)⟩
  · exact ⟨(k2 hC).1, fun h0 p l e R s m args below meth c D Q H locs ls ok hp hs hl => h ok.1 ok.2.1 (fun n => absurd n hC) (fun _ => (k2 hC).2 h0 p l e R s m args below meth c D Q H locs ls ok hp hs hl)⟩
/-- fewer locals -/
theorem J.sub {M : zM} {F : zF} {G : GS} {pc : Nat} {lv lv' : List (Nat × zV)} {st : List zV} (h : ∀ q ∈ lv', q ∈ lv) (k : J M F G pc lv' st) : J M F G pc lv st :=
  ⟨k.1, fun h0 p l e R s m args below meth c D Q H locs ls ok hp hs hl => k.2 h0 p l e R s m args below meth c D Q H locs ls ok hp hs ⟨hl.1, hl.2.1, fun q hq => by
    obtain ⟨q', hq', rfl⟩ := List.mem_map.mp hq
    exact hl.2.2 _ (List.mem_map.mpr ⟨q', h q' hq', rfl⟩)⟩⟩
theorem JX.sub {M : zM} {F : zF} {G : GS} {pc : Nat} {E : String} {lv lv' : List (Nat × zV)} (h : ∀ q ∈ lv', q ∈ lv) (k : JX M F G E pc lv') : JX M F G E pc lv :=
  ⟨k.1, fun h0 p l e R s m args below meth c D Q H locs ls q0 ce rest ok hp hs hl => k.2 h0 p l e R s m args below meth c D Q H locs ls q0 ce rest ok hp hs ⟨hl.1, hl.2.1, fun q hq => by
    obtain ⟨q', hq', rfl⟩ := List.mem_map.mp hq
    exact hl.2.2 _ (List.mem_map.mpr ⟨q', h q' hq', rfl⟩)⟩⟩
theorem zall {lv lv' : List (Nat × zV)} (ks : List Nat) (h : ks.filterMap (fun k => lv[k]?) = lv') : ∀ q ∈ lv', q ∈ lv := by
  intro q hq
  rw [← h] at hq
  obtain ⟨k, -, hk⟩ := List.mem_filterMap.mp hq
  exact List.mem_of_getElem? hk
/-! locals -/
/-- the locals behind a store: the place's own and those that it covers go -/
def zst (i : Nat) (v : zV) (lv : List (Nat × zV)) : List (Nat × zV) :=
  (i, v) :: lv.filter (fun q => !(q.1 == i) && !(zw v && q.1 == i + 1) && !(q.1 + 1 == i && zw q.2))
theorem zst_1 {i : Nat} {v : zV} {lv : List (Nat × zV)} (h : zw v = false) : ∀ q ∈ zL (zst i v lv), q ∈ (i, zv v) :: (zL lv).filter (fun q => !(q.1 == i) && !(q.1 + 1 == i && q.2.category == 2)) := by
  intro q hq
  obtain ⟨q', hq', rfl⟩ := List.mem_map.mp hq
  rcases List.mem_cons.mp hq' with e | e
  · rw [e]
    exact List.mem_cons_self
  · obtain ⟨e1, e2⟩ := List.mem_filter.mp e
    refine List.mem_cons_of_mem _ (List.mem_filter.mpr ⟨List.mem_map.mpr ⟨q', e1, rfl⟩, ?_⟩)
    rw [h] at e2
    simp only [Bool.false_and, Bool.not_false, Bool.and_true, zv_cat] at e2 ⊢
    cases hw : zw q'.2 <;> simp_all
theorem zst_2 {i : Nat} {v : zV} {lv : List (Nat × zV)} (h : zw v = true) : ∀ q ∈ zL (zst i v lv), q ∈ (i, zv v) :: (zL lv).filter (fun q => !(q.1 == i) && (!(q.1 == i + 1) && !(q.1 + 1 == i && q.2.category == 2))) := by
  intro q hq
  obtain ⟨q', hq', rfl⟩ := List.mem_map.mp hq
  rcases List.mem_cons.mp hq' with e | e
  · rw [e]
    exact List.mem_cons_self
  · obtain ⟨e1, e2⟩ := List.mem_filter.mp e
    refine List.mem_cons_of_mem _ (List.mem_filter.mpr ⟨List.mem_map.mpr ⟨q', e1, rfl⟩, ?_⟩)
    rw [h] at e2
    simp only [Bool.true_and, zv_cat] at e2 ⊢
    cases hw : zw q'.2 <;> simp_all
theorem lv_has.mem {ls : Array Slot} {n : Nat} {l l' : List (Nat × Value)} (h : lv_has ls n l) (hm : ∀ q ∈ l', q ∈ l) : lv_has ls n l' := ⟨h.1, h.2.1, fun q hq => h.2.2 q (hm q hq)⟩
/-- a store row -/
theorem J.sto {M : zM} {F : zF} {G : GS} {pc pc' i : Nat} {lv lv' : List (Nat × zV)} {v : zV} {st st' : List zV} {X : List (Nat × Value)}
    (hX : ∀ q ∈ zL (zst i v lv), q ∈ X)
    (h : ∀ {p : Program} {l : Launch} {e : Env} {R : Room} {s : State} {m : MethodId} {args : Array Value} {below : List Frame} {meth : Method} {c : Code} {H : Heap} {locs : List Loc} {cells slots : Nat} {Q : State → Prop} {ls : Array Slot}, p.tables.exec = Jvm.exec → c.code = M.1 → lv_has ls M.2.2.1 (zL lv) →
      (∀ ls' : Array Slot, lv_has ls' M.2.2.1 X → W p l e R s m args below meth c H locs cells slots Q (F0 m pc' ls' (st'.map zv))) → W p l e R s m args below meth c H locs cells slots Q (F0 m pc ls (st.map zv)))
    (hl : zst i v lv = lv') (k : J M F G pc' lv' st') : J M F G pc lv st := by
  subst hl
  exact ⟨k.1, fun h0 p l e R s m args below meth c D Q H locs ls ok hp hs hl => h ok.1 ok.2.1 hl (fun ls' hl' => k.2 h0 p l e R s m args below meth c D Q H locs ls' ok hp hs (hl'.mem hX))⟩
section zRows
variable {M : zM} {F : zF} {G : GS} {pc : Nat} {lv : List (Nat × zV)} {st : List zV}
theorem zat {ls : Array Slot} {n k i : Nat} {v : zV} (h : lv_has ls n (zL lv)) (hk : lv[k]? = some (i, v)) : ls[i]? = some (.val (zv v)) := h.2.2 (i, zv v) (List.mem_map.mpr ⟨(i, v), List.mem_of_getElem? hk, rfl⟩)
theorem j_iconst {n : Int} {v : Int32} (hdg : decode M.1 pc = .ok (.iconst n, 1)) (hv : Int32.ofInt n = v) (k : J M F G (pc + 1) lv (vI v :: st)) : J M F G pc lv (st) := J.st1 (fun hx hb hl k => lv_iconst hx hb hdg hv k) k
theorem j_bipush {n : Int} {v : Int32} (hdg : decode M.1 pc = .ok (.bipush n, 2)) (hv : (Int8.ofInt n).toInt32 = v) (k : J M F G (pc + 2) lv (vI v :: st)) : J M F G pc lv (st) := J.st1 (fun hx hb hl k => lv_bipush hx hb hdg hv k) k
theorem j_sipush {n : Int} {v : Int32} (hdg : decode M.1 pc = .ok (.sipush n, 3)) (hv : (Int16.ofInt n).toInt32 = v) (k : J M F G (pc + 3) lv (vI v :: st)) : J M F G pc lv (st) := J.st1 (fun hx hb hl k => lv_sipush hx hb hdg hv k) k
theorem j_lconst {n : Fin 2} {v : Int64} (hdg : decode M.1 pc = .ok (.lconst n, 1)) (hv : Int64.ofNat (n : Nat) = v) (k : J M F G (pc + 1) lv (vL v :: st)) : J M F G pc lv (st) := J.st1 (fun hx hb hl k => lv_lconst hx hb hdg hv k) k
theorem j_fconst0 (hdg : decode M.1 pc = .ok (.fconst 0, 1)) (k : J M F G (pc + 1) lv (vF FP.fconst0 :: st)) : J M F G pc lv (st) := J.st1 (fun hx hb hl k => lv_fconst0 hx hb hdg k) k
theorem j_dconst0 (hdg : decode M.1 pc = .ok (.dconst 0, 1)) (k : J M F G (pc + 1) lv (vD FP.dconst0 :: st)) : J M F G pc lv (st) := J.st1 (fun hx hb hl k => lv_dconst0 hx hb hdg k) k
theorem j_null (hdg : decode M.1 pc = .ok (.aconst_null, 1)) (k : J M F G (pc + 1) lv (vR none :: st)) : J M F G pc lv (st) := J.st1 (fun hx hb hl k => lv_null hx hb hdg k) k
theorem j_iload_n {k : Fin 4} {i j : Nat} {x : Int32} (hdg : decode M.1 pc = .ok (.iload_n k, 1)) (hi : (k : Nat) = i) (hk : lv[j]? = some (i, vI x)) (k : J M F G (pc + 1) lv (vI x :: st)) : J M F G pc lv (st) := J.st1 (fun hx hb hl k => lv_iload_n hx hb hdg hi (zat hl hk) k) k
theorem j_iload {i j : Nat} {x : Int32} (hdg : decode M.1 pc = .ok (.iload i, 2)) (hk : lv[j]? = some (i, vI x)) (k : J M F G (pc + 2) lv (vI x :: st)) : J M F G pc lv (st) := J.st1 (fun hx hb hl k => lv_iload hx hb hdg (zat hl hk) k) k
theorem j_lload_n {k : Fin 4} {i j : Nat} {x : Int64} (hdg : decode M.1 pc = .ok (.lload_n k, 1)) (hi : (k : Nat) = i) (hk : lv[j]? = some (i, vL x)) (k : J M F G (pc + 1) lv (vL x :: st)) : J M F G pc lv (st) := J.st1 (fun hx hb hl k => lv_lload_n hx hb hdg hi (zat hl hk) k) k
theorem j_lload {i j : Nat} {x : Int64} (hdg : decode M.1 pc = .ok (.lload i, 2)) (hk : lv[j]? = some (i, vL x)) (k : J M F G (pc + 2) lv (vL x :: st)) : J M F G pc lv (st) := J.st1 (fun hx hb hl k => lv_lload hx hb hdg (zat hl hk) k) k
theorem j_fload_n {k : Fin 4} {i j : Nat} {x : UInt32} (hdg : decode M.1 pc = .ok (.fload_n k, 1)) (hi : (k : Nat) = i) (hk : lv[j]? = some (i, vF x)) (k : J M F G (pc + 1) lv (vF x :: st)) : J M F G pc lv (st) := J.st1 (fun hx hb hl k => lv_fload_n hx hb hdg hi (zat hl hk) k) k
theorem j_fload {i j : Nat} {x : UInt32} (hdg : decode M.1 pc = .ok (.fload i, 2)) (hk : lv[j]? = some (i, vF x)) (k : J M F G (pc + 2) lv (vF x :: st)) : J M F G pc lv (st) := J.st1 (fun hx hb hl k => lv_fload hx hb hdg (zat hl hk) k) k
theorem j_dload_n {k : Fin 4} {i j : Nat} {x : UInt64} (hdg : decode M.1 pc = .ok (.dload_n k, 1)) (hi : (k : Nat) = i) (hk : lv[j]? = some (i, vD x)) (k : J M F G (pc + 1) lv (vD x :: st)) : J M F G pc lv (st) := J.st1 (fun hx hb hl k => lv_dload_n hx hb hdg hi (zat hl hk) k) k
theorem j_dload {i j : Nat} {x : UInt64} (hdg : decode M.1 pc = .ok (.dload i, 2)) (hk : lv[j]? = some (i, vD x)) (k : J M F G (pc + 2) lv (vD x :: st)) : J M F G pc lv (st) := J.st1 (fun hx hb hl k => lv_dload hx hb hdg (zat hl hk) k) k
theorem j_aload_n {k : Fin 4} {i j : Nat} {r : Option Nat} (hdg : decode M.1 pc = .ok (.aload_n k, 1)) (hi : (k : Nat) = i) (hk : lv[j]? = some (i, vR r)) (k : J M F G (pc + 1) lv (vR r :: st)) : J M F G pc lv st := by
  cases r with
  | none => exact J.st1 (fun hx hb hl k => lv_aload_nN hx hb hdg hi (zat hl hk) k) k
  | some x => exact J.st1 (fun hx hb hl k => lv_aload_n hx hb hdg hi (zat hl hk) k) k
theorem j_aload {i j : Nat} {r : Option Nat} (hdg : decode M.1 pc = .ok (.aload i, 2)) (hk : lv[j]? = some (i, vR r)) (k : J M F G (pc + 2) lv (vR r :: st)) : J M F G pc lv st := by
  cases r with
  | none => exact J.st1 (fun hx hb hl k => lv_aloadN hx hb hdg (zat hl hk) k) k
  | some x => exact J.st1 (fun hx hb hl k => lv_aload hx hb hdg (zat hl hk) k) k
theorem j_istore_n {k : Fin 4} {i : Nat} {x : Int32} {lv' : List (Nat × zV)} (hdg : decode M.1 pc = .ok (.istore_n k, 1)) (hi : (k : Nat) = i) (hn : i < M.2.2.1) (hl : zst i (vI x) lv = lv') (k : J M F G (pc + 1) lv' st) : J M F G pc lv (vI x :: st) := J.sto (zst_1 rfl) (fun hx hb hl kk => lv_istore_n hx hb hdg hi hl hn rfl kk) hl k
theorem j_istore {i : Nat} {x : Int32} {lv' : List (Nat × zV)} (hdg : decode M.1 pc = .ok (.istore i, 2)) (hn : i < M.2.2.1) (hl : zst i (vI x) lv = lv') (k : J M F G (pc + 2) lv' st) : J M F G pc lv (vI x :: st) := J.sto (zst_1 rfl) (fun hx hb hl kk => lv_istore hx hb hdg hl hn rfl kk) hl k
theorem j_lstore_n {k : Fin 4} {i : Nat} {x : Int64} {lv' : List (Nat × zV)} (hdg : decode M.1 pc = .ok (.lstore_n k, 1)) (hi : (k : Nat) = i) (hn : i + 1 < M.2.2.1) (hl : zst i (vL x) lv = lv') (k : J M F G (pc + 1) lv' st) : J M F G pc lv (vL x :: st) := J.sto (zst_2 rfl) (fun hx hb hl kk => lv_lstore_n hx hb hdg hi hl hn rfl kk) hl k
theorem j_lstore {i : Nat} {x : Int64} {lv' : List (Nat × zV)} (hdg : decode M.1 pc = .ok (.lstore i, 2)) (hn : i + 1 < M.2.2.1) (hl : zst i (vL x) lv = lv') (k : J M F G (pc + 2) lv' st) : J M F G pc lv (vL x :: st) := J.sto (zst_2 rfl) (fun hx hb hl kk => lv_lstore hx hb hdg hl hn rfl kk) hl k
theorem j_fstore_n {k : Fin 4} {i : Nat} {x : UInt32} {lv' : List (Nat × zV)} (hdg : decode M.1 pc = .ok (.fstore_n k, 1)) (hi : (k : Nat) = i) (hn : i < M.2.2.1) (hl : zst i (vF x) lv = lv') (k : J M F G (pc + 1) lv' st) : J M F G pc lv (vF x :: st) := J.sto (zst_1 rfl) (fun hx hb hl kk => lv_fstore_n hx hb hdg hi hl hn rfl kk) hl k
theorem j_fstore {i : Nat} {x : UInt32} {lv' : List (Nat × zV)} (hdg : decode M.1 pc = .ok (.fstore i, 2)) (hn : i < M.2.2.1) (hl : zst i (vF x) lv = lv') (k : J M F G (pc + 2) lv' st) : J M F G pc lv (vF x :: st) := J.sto (zst_1 rfl) (fun hx hb hl kk => lv_fstore hx hb hdg hl hn rfl kk) hl k
theorem j_dstore_n {k : Fin 4} {i : Nat} {x : UInt64} {lv' : List (Nat × zV)} (hdg : decode M.1 pc = .ok (.dstore_n k, 1)) (hi : (k : Nat) = i) (hn : i + 1 < M.2.2.1) (hl : zst i (vD x) lv = lv') (k : J M F G (pc + 1) lv' st) : J M F G pc lv (vD x :: st) := J.sto (zst_2 rfl) (fun hx hb hl kk => lv_dstore_n hx hb hdg hi hl hn rfl kk) hl k
theorem j_dstore {i : Nat} {x : UInt64} {lv' : List (Nat × zV)} (hdg : decode M.1 pc = .ok (.dstore i, 2)) (hn : i + 1 < M.2.2.1) (hl : zst i (vD x) lv = lv') (k : J M F G (pc + 2) lv' st) : J M F G pc lv (vD x :: st) := J.sto (zst_2 rfl) (fun hx hb hl kk => lv_dstore hx hb hdg hl hn rfl kk) hl k
theorem j_astore_n {k : Fin 4} {i : Nat} {r : Option Nat} {lv' : List (Nat × zV)} (hdg : decode M.1 pc = .ok (.astore_n k, 1)) (hi : (k : Nat) = i) (hn : i < M.2.2.1) (hl : zst i (vR r) lv = lv') (k : J M F G (pc + 1) lv' st) : J M F G pc lv (vR r :: st) := by
  cases r with
  | none => exact J.sto (zst_1 rfl) (fun hx hb hl kk => lv_astore_nN hx hb hdg hi hl hn rfl kk) hl k
  | some x => exact J.sto (zst_1 rfl) (fun hx hb hl kk => lv_astore_n hx hb hdg hi hl hn rfl kk) hl k
theorem j_astore {i : Nat} {r : Option Nat} {lv' : List (Nat × zV)} (hdg : decode M.1 pc = .ok (.astore i, 2)) (hn : i < M.2.2.1) (hl : zst i (vR r) lv = lv') (k : J M F G (pc + 2) lv' st) : J M F G pc lv (vR r :: st) := by
  cases r with
  | none => exact J.sto (zst_1 rfl) (fun hx hb hl kk => lv_astoreN hx hb hdg hl hn rfl kk) hl k
  | some x => exact J.sto (zst_1 rfl) (fun hx hb hl kk => lv_astore hx hb hdg hl hn rfl kk) hl k
theorem j_iinc {i j : Nat} {n : Int} {x v : Int32} {lv' : List (Nat × zV)} (hdg : decode M.1 pc = .ok (.iinc i n, 3)) (hk : lv[j]? = some (i, vI x)) (hv : x + Int32.ofInt n = v) (hn : i < M.2.2.1) (hl : zst i (vI v) lv = lv') (k : J M F G (pc + 3) lv' st) : J M F G pc lv st := J.sto (zst_1 rfl) (fun hx hb hl kk => lv_iinc hx hb hdg hl (k := j) (by rw [List.getElem?_map, hk]; rfl) hv hn rfl kk) hl k
theorem j_iadd {x y : Int32} (hdg : decode M.1 pc = .ok (.iadd, 1)) (k : J M F G (pc + 1) lv (vI (x + y) :: st)) : J M F G pc lv (vI y :: vI x :: st) := J.st1 (fun hx hb hl k => lv_iadd hx hb hdg k) k
theorem j_isub {x y : Int32} (hdg : decode M.1 pc = .ok (.isub, 1)) (k : J M F G (pc + 1) lv (vI (x - y) :: st)) : J M F G pc lv (vI y :: vI x :: st) := J.st1 (fun hx hb hl k => lv_isub hx hb hdg k) k
theorem j_imul {x y : Int32} (hdg : decode M.1 pc = .ok (.imul, 1)) (k : J M F G (pc + 1) lv (vI (x * y) :: st)) : J M F G pc lv (vI y :: vI x :: st) := J.st1 (fun hx hb hl k => lv_imul hx hb hdg k) k
theorem j_iand {x y : Int32} (hdg : decode M.1 pc = .ok (.iand, 1)) (k : J M F G (pc + 1) lv (vI (x &&& y) :: st)) : J M F G pc lv (vI y :: vI x :: st) := J.st1 (fun hx hb hl k => lv_iand hx hb hdg k) k
theorem j_ior {x y : Int32} (hdg : decode M.1 pc = .ok (.ior, 1)) (k : J M F G (pc + 1) lv (vI (x ||| y) :: st)) : J M F G pc lv (vI y :: vI x :: st) := J.st1 (fun hx hb hl k => lv_ior hx hb hdg k) k
theorem j_ixor {x y : Int32} (hdg : decode M.1 pc = .ok (.ixor, 1)) (k : J M F G (pc + 1) lv (vI (x ^^^ y) :: st)) : J M F G pc lv (vI y :: vI x :: st) := J.st1 (fun hx hb hl k => lv_ixor hx hb hdg k) k
theorem j_ishl {x y : Int32} (hdg : decode M.1 pc = .ok (.ishl, 1)) (k : J M F G (pc + 1) lv (vI (x <<< (y &&& 31)) :: st)) : J M F G pc lv (vI y :: vI x :: st) := J.st1 (fun hx hb hl k => lv_ishl hx hb hdg k) k
theorem j_ishr {x y : Int32} (hdg : decode M.1 pc = .ok (.ishr, 1)) (k : J M F G (pc + 1) lv (vI (x >>> (y &&& 31)) :: st)) : J M F G pc lv (vI y :: vI x :: st) := J.st1 (fun hx hb hl k => lv_ishr hx hb hdg k) k
theorem j_ladd {x y : Int64} (hdg : decode M.1 pc = .ok (.ladd, 1)) (k : J M F G (pc + 1) lv (vL (x + y) :: st)) : J M F G pc lv (vL y :: vL x :: st) := J.st1 (fun hx hb hl k => lv_ladd hx hb hdg k) k
theorem j_lsub {x y : Int64} (hdg : decode M.1 pc = .ok (.lsub, 1)) (k : J M F G (pc + 1) lv (vL (x - y) :: st)) : J M F G pc lv (vL y :: vL x :: st) := J.st1 (fun hx hb hl k => lv_lsub hx hb hdg k) k
theorem j_lmul {x y : Int64} (hdg : decode M.1 pc = .ok (.lmul, 1)) (k : J M F G (pc + 1) lv (vL (x * y) :: st)) : J M F G pc lv (vL y :: vL x :: st) := J.st1 (fun hx hb hl k => lv_lmul hx hb hdg k) k
theorem j_land {x y : Int64} (hdg : decode M.1 pc = .ok (.land, 1)) (k : J M F G (pc + 1) lv (vL (x &&& y) :: st)) : J M F G pc lv (vL y :: vL x :: st) := J.st1 (fun hx hb hl k => lv_land hx hb hdg k) k
theorem j_lor {x y : Int64} (hdg : decode M.1 pc = .ok (.lor, 1)) (k : J M F G (pc + 1) lv (vL (x ||| y) :: st)) : J M F G pc lv (vL y :: vL x :: st) := J.st1 (fun hx hb hl k => lv_lor hx hb hdg k) k
theorem j_lxor {x y : Int64} (hdg : decode M.1 pc = .ok (.lxor, 1)) (k : J M F G (pc + 1) lv (vL (x ^^^ y) :: st)) : J M F G pc lv (vL y :: vL x :: st) := J.st1 (fun hx hb hl k => lv_lxor hx hb hdg k) k
theorem j_idiv {x y : Int32} (hdg : decode M.1 pc = .ok (.idiv, 1)) (hne : ¬ y = 0) (k : J M F G (pc + 1) lv (vI (x / y) :: st)) : J M F G pc lv (vI y :: vI x :: st) := J.st1 (fun hx hb hl k => lv_idiv hx hb hdg hne k) k
theorem j_irem {x y : Int32} (hdg : decode M.1 pc = .ok (.irem, 1)) (hne : ¬ y = 0) (k : J M F G (pc + 1) lv (vI (x - x / y * y) :: st)) : J M F G pc lv (vI y :: vI x :: st) := J.st1 (fun hx hb hl k => lv_irem hx hb hdg hne k) k
theorem j_ineg {x : Int32} (hdg : decode M.1 pc = .ok (.ineg, 1)) (k : J M F G (pc + 1) lv (vI (-x) :: st)) : J M F G pc lv (vI x :: st) := J.st1 (fun hx hb hl k => lv_ineg hx hb hdg k) k
theorem j_i2l {x : Int32} (hdg : decode M.1 pc = .ok (.i2l, 1)) (k : J M F G (pc + 1) lv (vL x.toInt64 :: st)) : J M F G pc lv (vI x :: st) := J.st1 (fun hx hb hl k => lv_i2l hx hb hdg rfl k) k
theorem j_l2i {x : Int64} (hdg : decode M.1 pc = .ok (.l2i, 1)) (k : J M F G (pc + 1) lv (vI x.toInt32 :: st)) : J M F G pc lv (vL x :: st) := J.st1 (fun hx hb hl k => lv_l2i hx hb hdg rfl k) k
theorem j_i2b {x : Int32} (hdg : decode M.1 pc = .ok (.i2b, 1)) (k : J M F G (pc + 1) lv (vI x.toInt8.toInt32 :: st)) : J M F G pc lv (vI x :: st) := J.st1 (fun hx hb hl k => lv_i2b hx hb hdg rfl k) k
theorem j_i2c {x : Int32} (hdg : decode M.1 pc = .ok (.i2c, 1)) (k : J M F G (pc + 1) lv (vI (x.toUInt32 % 65536).toInt32 :: st)) : J M F G pc lv (vI x :: st) := J.st1 (fun hx hb hl k => lv_i2c hx hb hdg rfl k) k
theorem j_iushr {x y : Int32} (hdg : decode M.1 pc = .ok (.iushr, 1)) (k : J M F G (pc + 1) lv (vI (x.toUInt32 >>> (y.toUInt32 &&& Int32.toUInt32 31)).toInt32 :: st)) : J M F G pc lv (vI y :: vI x :: st) := J.st1 (fun hx hb hl k => lv_iushr hx hb hdg rfl k) k
theorem j_lushr {x : Int64} {y : Int32} (hdg : decode M.1 pc = .ok (.lushr, 1)) (k : J M F G (pc + 1) lv (vL (x.toUInt64 >>> (y.toInt64.toUInt64 &&& Int64.toUInt64 63)).toInt64 :: st)) : J M F G pc lv (vI y :: vL x :: st) := J.st1 (fun hx hb hl k => lv_lushr hx hb hdg rfl k) k
theorem j_lshl {x : Int64} {y : Int32} (hdg : decode M.1 pc = .ok (.lshl, 1)) (k : J M F G (pc + 1) lv (vL (x <<< (y.toInt64 &&& 63)) :: st)) : J M F G pc lv (vI y :: vL x :: st) := J.st1 (fun hx hb hl k => lv_lshl hx hb hdg rfl k) k
theorem j_lshr {x : Int64} {y : Int32} (hdg : decode M.1 pc = .ok (.lshr, 1)) (k : J M F G (pc + 1) lv (vL (x >>> (y.toInt64 &&& 63)) :: st)) : J M F G pc lv (vI y :: vL x :: st) := J.st1 (fun hx hb hl k => lv_lshr hx hb hdg rfl k) k
theorem j_lcmp {x y : Int64} (hdg : decode M.1 pc = .ok (.lcmp, 1)) (k : J M F G (pc + 1) lv (vI (lg_cmp x y) :: st)) : J M F G pc lv (vL y :: vL x :: st) := J.st1 (fun hx hb hl k => W.lcmp hx hb hdg k) k
theorem j_i2f {x : Int32} (hdg : decode M.1 pc = .ok (.i2f, 1)) (k : J M F G (pc + 1) lv (vF (FP.i2f x) :: st)) : J M F G pc lv (vI x :: st) := J.st1 (fun hx hb hl k => lv_i2f hx hb hdg k) k
theorem j_i2d {x : Int32} (hdg : decode M.1 pc = .ok (.i2d, 1)) (k : J M F G (pc + 1) lv (vD (FP.i2d x) :: st)) : J M F G pc lv (vI x :: st) := J.st1 (fun hx hb hl k => lv_i2d hx hb hdg k) k
theorem j_fdiv {x y : UInt32} (hdg : decode M.1 pc = .ok (.fdiv, 1)) (hne : vf_n32 (FP.fdiv x y)) (k : J M F G (pc + 1) lv (vF (FP.fdiv x y) :: st)) : J M F G pc lv (vF y :: vF x :: st) := J.st1 (fun hx hb hl k => lv_fdiv hx hb hdg hne k) k
theorem j_ddiv {x y : UInt64} (hdg : decode M.1 pc = .ok (.ddiv, 1)) (hne : vf_n64 (FP.ddiv x y)) (k : J M F G (pc + 1) lv (vD (FP.ddiv x y) :: st)) : J M F G pc lv (vD y :: vD x :: st) := J.st1 (fun hx hb hl k => lv_ddiv hx hb hdg hne k) k
theorem j_fcmp {x y : UInt32} {op : CmpOp} (hdg : decode M.1 pc = .ok (.fcmp op, 1)) (k : J M F G (pc + 1) lv (vI (Op.cmpValue (FP.fcmp x y) op) :: st)) : J M F G pc lv (vF y :: vF x :: st) := J.st1 (fun hx hb hl k => lv_fcmp hx hb hdg k) k
theorem j_dcmp {x y : UInt64} {op : CmpOp} (hdg : decode M.1 pc = .ok (.dcmp op, 1)) (k : J M F G (pc + 1) lv (vI (Op.cmpValue (FP.dcmp x y) op) :: st)) : J M F G pc lv (vD y :: vD x :: st) := J.st1 (fun hx hb hl k => lv_dcmp hx hb hdg k) k
theorem j_dup {a : zV} (hdg : decode M.1 pc = .ok (.dup, 1)) (h1 : zw a = false) (k : J M F G (pc + 1) lv (a :: a :: st)) : J M F G pc lv (a :: st) := J.st1 (fun hx hb hl k => lv_dup hx hb hdg (by rw [zv_cat, h1]; rfl) k) k
theorem j_pop {a : zV} (hdg : decode M.1 pc = .ok (.pop, 1)) (h1 : zw a = false) (k : J M F G (pc + 1) lv (st)) : J M F G pc lv (a :: st) := J.st1 (fun hx hb hl k => lv_pop hx hb hdg (by rw [zv_cat, h1]; rfl) k) k
theorem j_dup_x1 {a b : zV} (hdg : decode M.1 pc = .ok (.dup_x1, 1)) (h1 : zw a = false) (h2 : zw b = false) (k : J M F G (pc + 1) lv (a :: b :: a :: st)) : J M F G pc lv (a :: b :: st) := J.st1 (fun hx hb hl k => lv_dup_x1 hx hb hdg (by rw [zv_cat, h1]; rfl) (by rw [zv_cat, h2]; rfl) k) k
theorem j_dup_x2 {a b d : zV} (hdg : decode M.1 pc = .ok (.dup_x2, 1)) (h1 : zw a = false) (h2 : zw b = false) (h3 : zw d = false) (k : J M F G (pc + 1) lv (a :: b :: d :: a :: st)) : J M F G pc lv (a :: b :: d :: st) := J.st1 (fun hx hb hl k => lv_dup_x2 hx hb hdg (by rw [zv_cat, h1]; rfl) (by rw [zv_cat, h2]; rfl) (by rw [zv_cat, h3]; rfl) k) k
theorem j_dup2_11 {a b : zV} (hdg : decode M.1 pc = .ok (.dup2, 1)) (h1 : zw a = false) (h2 : zw b = false) (k : J M F G (pc + 1) lv (a :: b :: a :: b :: st)) : J M F G pc lv (a :: b :: st) := J.st1 (fun hx hb hl k => lv_dup2_11 hx hb hdg (by rw [zv_cat, h1]; rfl) (by rw [zv_cat, h2]; rfl) k) k
theorem j_dup2_2 {a : zV} (hdg : decode M.1 pc = .ok (.dup2, 1)) (h1 : zw a = true) (k : J M F G (pc + 1) lv (a :: a :: st)) : J M F G pc lv (a :: st) := J.st1 (fun hx hb hl k => lv_dup2_2 hx hb hdg (by rw [zv_cat, h1]; rfl) k) k
theorem j_pop2_2 {a : zV} (hdg : decode M.1 pc = .ok (.pop2, 1)) (h1 : zw a = true) (k : J M F G (pc + 1) lv (st)) : J M F G pc lv (a :: st) := J.st1 (fun hx hb hl k => lv_pop2_2 hx hb hdg (by rw [zv_cat, h1]; rfl) k) k
theorem j_pop2_11 {a b : zV} (hdg : decode M.1 pc = .ok (.pop2, 1)) (h1 : zw a = false) (h2 : zw b = false) (k : J M F G (pc + 1) lv (st)) : J M F G pc lv (a :: b :: st) := J.st1 (fun hx hb hl k => lv_pop2_11 hx hb hdg (by rw [zv_cat, h1]; rfl) (by rw [zv_cat, h2]; rfl) k) k
theorem j_goto {off : Int} {tgt : Nat} (hdg : decode M.1 pc = .ok (.goto off, 3)) (ht : (pc : Int) + off = (tgt : Int)) (k : J M F G tgt lv st) : J M F G pc lv st := J.st1 (fun hx hb hl k => lv_goto hx hb hdg ht k) k
theorem j_if_eq {x : Int32} {off : Int} {tgt : Nat} (hdg : decode M.1 pc = .ok (.ifCond .eq off, 3)) (ht : (pc : Int) + off = (tgt : Int)) (kt : x = 0 → J M F G tgt lv st) (kf : ¬ (x = 0) → J M F G (pc + 3) lv st) : J M F G pc lv (vI x :: st) := J.br (fun hx hb k1 k2 => lv_if_eq hx hb hdg ht k1 k2) kt kf
theorem j_icmp_eq {x y : Int32} {off : Int} {tgt : Nat} (hdg : decode M.1 pc = .ok (.if_icmp .eq off, 3)) (ht : (pc : Int) + off = (tgt : Int)) (kt : x = y → J M F G tgt lv st) (kf : ¬ (x = y) → J M F G (pc + 3) lv st) : J M F G pc lv (vI y :: vI x :: st) := J.br (fun hx hb k1 k2 => lv_icmp_eq hx hb hdg ht k1 k2) kt kf
theorem j_if_lt {x : Int32} {off : Int} {tgt : Nat} (hdg : decode M.1 pc = .ok (.ifCond .lt off, 3)) (ht : (pc : Int) + off = (tgt : Int)) (kt : x < 0 → J M F G tgt lv st) (kf : ¬ (x < 0) → J M F G (pc + 3) lv st) : J M F G pc lv (vI x :: st) := J.br (fun hx hb k1 k2 => lv_if_lt hx hb hdg ht k1 k2) kt kf
theorem j_icmp_lt {x y : Int32} {off : Int} {tgt : Nat} (hdg : decode M.1 pc = .ok (.if_icmp .lt off, 3)) (ht : (pc : Int) + off = (tgt : Int)) (kt : x < y → J M F G tgt lv st) (kf : ¬ (x < y) → J M F G (pc + 3) lv st) : J M F G pc lv (vI y :: vI x :: st) := J.br (fun hx hb k1 k2 => lv_icmp_lt hx hb hdg ht k1 k2) kt kf
theorem j_if_ge {x : Int32} {off : Int} {tgt : Nat} (hdg : decode M.1 pc = .ok (.ifCond .ge off, 3)) (ht : (pc : Int) + off = (tgt : Int)) (kt : 0 ≤ x → J M F G tgt lv st) (kf : ¬ (0 ≤ x) → J M F G (pc + 3) lv st) : J M F G pc lv (vI x :: st) := J.br (fun hx hb k1 k2 => lv_if_ge hx hb hdg ht k1 k2) kt kf
theorem j_icmp_ge {x y : Int32} {off : Int} {tgt : Nat} (hdg : decode M.1 pc = .ok (.if_icmp .ge off, 3)) (ht : (pc : Int) + off = (tgt : Int)) (kt : y ≤ x → J M F G tgt lv st) (kf : ¬ (y ≤ x) → J M F G (pc + 3) lv st) : J M F G pc lv (vI y :: vI x :: st) := J.br (fun hx hb k1 k2 => lv_icmp_ge hx hb hdg ht k1 k2) kt kf
theorem j_if_gt {x : Int32} {off : Int} {tgt : Nat} (hdg : decode M.1 pc = .ok (.ifCond .gt off, 3)) (ht : (pc : Int) + off = (tgt : Int)) (kt : 0 < x → J M F G tgt lv st) (kf : ¬ (0 < x) → J M F G (pc + 3) lv st) : J M F G pc lv (vI x :: st) := J.br (fun hx hb k1 k2 => lv_if_gt hx hb hdg ht k1 k2) kt kf
theorem j_icmp_gt {x y : Int32} {off : Int} {tgt : Nat} (hdg : decode M.1 pc = .ok (.if_icmp .gt off, 3)) (ht : (pc : Int) + off = (tgt : Int)) (kt : y < x → J M F G tgt lv st) (kf : ¬ (y < x) → J M F G (pc + 3) lv st) : J M F G pc lv (vI y :: vI x :: st) := J.br (fun hx hb k1 k2 => lv_icmp_gt hx hb hdg ht k1 k2) kt kf
theorem j_if_le {x : Int32} {off : Int} {tgt : Nat} (hdg : decode M.1 pc = .ok (.ifCond .le off, 3)) (ht : (pc : Int) + off = (tgt : Int)) (kt : x ≤ 0 → J M F G tgt lv st) (kf : ¬ (x ≤ 0) → J M F G (pc + 3) lv st) : J M F G pc lv (vI x :: st) := J.br (fun hx hb k1 k2 => lv_if_le hx hb hdg ht k1 k2) kt kf
theorem j_icmp_le {x y : Int32} {off : Int} {tgt : Nat} (hdg : decode M.1 pc = .ok (.if_icmp .le off, 3)) (ht : (pc : Int) + off = (tgt : Int)) (kt : x ≤ y → J M F G tgt lv st) (kf : ¬ (x ≤ y) → J M F G (pc + 3) lv st) : J M F G pc lv (vI y :: vI x :: st) := J.br (fun hx hb k1 k2 => lv_icmp_le hx hb hdg ht k1 k2) kt kf
theorem j_if_ne {x : Int32} {off : Int} {tgt : Nat} (hdg : decode M.1 pc = .ok (.ifCond .ne off, 3)) (ht : (pc : Int) + off = (tgt : Int)) (kt : x = 0 → J M F G (pc + 3) lv st) (kf : ¬ (x = 0) → J M F G tgt lv st) : J M F G pc lv (vI x :: st) := J.br (fun hx hb k1 k2 => lv_if_ne hx hb hdg ht k2 k1) kt kf
theorem j_icmp_ne {x y : Int32} {off : Int} {tgt : Nat} (hdg : decode M.1 pc = .ok (.if_icmp .ne off, 3)) (ht : (pc : Int) + off = (tgt : Int)) (kt : x = y → J M F G (pc + 3) lv st) (kf : ¬ (x = y) → J M F G tgt lv st) : J M F G pc lv (vI y :: vI x :: st) := J.br (fun hx hb k1 k2 => lv_icmp_ne hx hb hdg ht k2 k1) kt kf
theorem j_acmp_eq {x y : Option Nat} {off : Int} {tgt : Nat} (hdg : decode M.1 pc = .ok (.if_acmp .eq off, 3)) (ht : (pc : Int) + off = (tgt : Int)) (kt : x = y → J M F G tgt lv st) (kf : ¬ (x = y) → J M F G (pc + 3) lv st) : J M F G pc lv (vR y :: vR x :: st) := J.br (fun hx hb k1 k2 => lv_acmp_eq hx hb hdg ht k1 k2) kt kf
theorem j_acmp_ne {x y : Option Nat} {off : Int} {tgt : Nat} (hdg : decode M.1 pc = .ok (.if_acmp .ne off, 3)) (ht : (pc : Int) + off = (tgt : Int)) (kt : x = y → J M F G (pc + 3) lv st) (kf : ¬ (x = y) → J M F G tgt lv st) : J M F G pc lv (vR y :: vR x :: st) := J.br (fun hx hb k1 k2 => lv_acmp_ne hx hb hdg ht k2 k1) kt kf
theorem j_ifnull0 {off : Int} {tgt : Nat} (hdg : decode M.1 pc = .ok (.ifnull off, 3)) (ht : (pc : Int) + off = (tgt : Int)) (k : J M F G tgt lv st) : J M F G pc lv (vR none :: st) := J.st1 (fun hx hb hl k => lv_ifnullN hx hb hdg ht k) k
theorem j_ifnull1 {a : Nat} {off : Int} (hdg : decode M.1 pc = .ok (.ifnull off, 3)) (k : J M F G (pc + 3) lv st) : J M F G pc lv (vR (some a) :: st) := J.st1 (fun hx hb hl k => lv_ifnull hx hb hdg k) k
theorem j_ifnonnull0 {off : Int} (hdg : decode M.1 pc = .ok (.ifnonnull off, 3)) (k : J M F G (pc + 3) lv st) : J M F G pc lv (vR none :: st) := J.st1 (fun hx hb hl k => lv_ifnonnullN hx hb hdg k) k
theorem j_ifnonnull1 {a : Nat} {off : Int} {tgt : Nat} (hdg : decode M.1 pc = .ok (.ifnonnull off, 3)) (ht : (pc : Int) + off = (tgt : Int)) (k : J M F G tgt lv st) : J M F G pc lv (vR (some a) :: st) := J.st1 (fun hx hb hl k => lv_ifnonnull hx hb hdg ht k) k
theorem j_castN {index : Nat} (hdg : decode M.1 pc = .ok (.checkcast index, 3)) (k : J M F G (pc + 3) lv (vR none :: st)) : J M F G pc lv (vR none :: st) := J.st1 (fun hx hb hl k => lv_castN hx hb hdg k) k
theorem j_instN {index : Nat} (hdg : decode M.1 pc = .ok (.instanceof index, 3)) (k : J M F G (pc + 3) lv (vI 0 :: st)) : J M F G pc lv (vR none :: st) := J.st1 (fun hx hb hl k => lv_instN hx hb hdg k) k
theorem j_switchIn {dflt lo hi : Int} {offs : Array Int} {len : Nat} {x : Int32} {off : Int} {tgt : Nat} (hdg : decode M.1 pc = .ok (.tableswitch dflt lo hi offs, len)) (h1 : ¬ x.toInt < lo) (h2 : ¬ hi < x.toInt) (ho : offs[(x.toInt - lo).toNat]? = some off) (ht : (pc : Int) + off = (tgt : Int)) (k : J M F G tgt lv st) : J M F G pc lv (vI x :: st) := J.st1 (fun hx hb hl k => lv_tableIn hx hb hdg h1 h2 ho ht k) k
theorem j_switchOut {dflt lo hi : Int} {offs : Array Int} {len : Nat} {x : Int32} {tgt : Nat} (hdg : decode M.1 pc = .ok (.tableswitch dflt lo hi offs, len)) (h : x.toInt < lo ∨ hi < x.toInt) (ht : (pc : Int) + dflt = (tgt : Int)) (k : J M F G tgt lv st) : J M F G pc lv (vI x :: st) := J.st1 (fun hx hb hl k => lv_tableOut hx hb hdg h ht k) k
theorem j_ldc {index : Nat} {v : Int32} (hc : Cond.constant M.2.1 index v ∈ lw_all) (hdg : decode M.1 pc = .ok (.ldc index, 2)) (k : J M F G (pc + 2) lv (vI v :: st)) : J M F G pc lv st := J.st2 (fun ok hp k => lv_ldc ok.1 ok.2.1 ok.2.2.2.1 (ok.2.2.2.2.1 _ hc) hdg k) k
theorem j_ldc2 {index : Nat} {v : Int64} (hc : Cond.constantLong M.2.1 index v ∈ lw_all) (hdg : decode M.1 pc = .ok (.ldc2_w index, 3)) (k : J M F G (pc + 3) lv (vL v :: st)) : J M F G pc lv st := J.st2 (fun ok hp k => lv_ldc2 ok.1 ok.2.1 ok.2.2.2.1 (ok.2.2.2.2.1 _ hc) hdg k) k
end zRows
