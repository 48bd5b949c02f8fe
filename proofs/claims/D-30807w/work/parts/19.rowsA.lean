/-! ===== two ints of an array read as one long (after the worked law for bytes) ===== -/
set_option maxRecDepth 1000000 in
set_option maxHeartbeats 4000000 in
theorem zgl_find : NativeRow.find? Jvm.natives "jdk/internal/misc/Unsafe" "getLong" "(Ljava/lang/Object;J)J" = some (Native.jdk_internal_misc_Unsafe.memory.getRow "Long" "J" .long "" .plain) := by
  have h1 : (Jvm.natives.take 460).find? (fun r => r.name == "getLong" && r.cls == "jdk/internal/misc/Unsafe" && r.desc == "(Ljava/lang/Object;J)J") = none := by
    have : ((Jvm.natives.take 460).find? (fun r => r.name == "getLong" && r.cls == "jdk/internal/misc/Unsafe" && r.desc == "(Ljava/lang/Object;J)J")).isNone = true := by decide +kernel
    exact Option.isNone_iff_eq_none.mp this
  have h2 : Jvm.natives.drop 460 = Native.jdk_internal_misc_Unsafe.memory.getRow "Long" "J" .long "" .plain :: Jvm.natives.drop 461 := rfl
  unfold NativeRow.find?
  rw [← List.take_append_drop 460 Jvm.natives, List.find?_append, h1, h2]
  rfl
theorem zgl_row (p : Program) : NativeRow.find? p.tables.natives "jdk/internal/misc/Unsafe" "getLong" "(Ljava/lang/Object;J)J" = some (Native.jdk_internal_misc_Unsafe.memory.getRow "Long" "J" .long "" .plain) := by
  cases p <;> exact zgl_find
/-- byte k of an int -/
def zbk (x : Int32) (k : Nat) : Nat := x.toUInt32.toNat % 2 ^ 32 / 2 ^ (8 * k) % 256
/-- two ints as the machine packs them, the first one low -/
def zpk (x y : Int32) : Int64 := (([zbk x 0, zbk x 1, zbk x 2, zbk x 3, zbk y 0, zbk y 1, zbk y 2, zbk y 3].zipIdx.map fun (b, k) => b * 2 ^ (8 * k)).sum).toUInt64.toInt64
section zUns
variable {E : CtlPost} {e : Env} {d : Bool} {acts : List Action} {s : State}
theorem zu_locate {a : Addr} {A : Cell} {k : Class} {comp : ClassId} {p : Nat} {off : Int64} {Q : UnsafeMem.Target → Pre}
    (hA : s.heap[a]? = some A) (hvm : A.vm = .none) (hk : s.vm.classes[A.cls]? = some k) (hkind : k.kind = .array comp .int) (hneg : ¬ off < 0) (hoff : off.toNatClampNeg = 16 + p) : wp (UnsafeMem.locate (.ref a) off .long) Q E e d acts s ↔ Q (UnsafeMem.Target.bytes a .int p) d acts s := by
  simp [UnsafeMem.locate, hneg, hoff, hA, Cell.info, hvm, hk, hkind, UnsafeMem.arrayBase, UnsafeMem.scaleOf, UnsafeMem.isRefType]
theorem zu_byte {a : Addr} {A : Cell} {i : Nat} {x : Int32} {Q : Nat → Pre} (hA : s.heap[a]? = some A) (hvm : A.vm = .none) (h : A.slots[i / 4]? = some (.int x)) :
    wp (UnsafeMem.readByte a .int i .plain) Q E e d acts s ↔ Q (zbk x (i % 4)) d (readActs ⟨a, i / 4⟩ .plain (.int x) acts) s := by
  simp [UnsafeMem.readByte, UnsafeMem.scaleOf, UnsafeMem.bitsOf, hA, hvm, h, zbk]
theorem zu_get {a : Addr} {A : Cell} {k : Class} {comp : ClassId} {i : Nat} {off : Int64} {x y : Int32} {Q : Value → Pre}
    (hA : s.heap[a]? = some A) (hvm : A.vm = .none) (hk : s.vm.classes[A.cls]? = some k) (hkind : k.kind = .array comp .int) (hneg : ¬ off < 0) (hoff : off.toNatClampNeg = 16 + 4 * i)
    (hx : A.slots[i]? = some (.int x)) (hy : A.slots[i + 1]? = some (.int y)) (hQ : ∀ d' acts', Q (.long (zpk x y)) d' acts' s) : wp (UnsafeMem.get .long (.ref a) off .plain) Q E e d acts s := by
  have hr : List.range (UnsafeMem.scaleOf .long) = [0, 1, 2, 3, 4, 5, 6, 7] := rfl
  have d0 : (4 * i + 0) / 4 = i := by omega
  have d1 : (4 * i + 1) / 4 = i := by omega
  have d2 : (4 * i + 2) / 4 = i := by omega
  have d3 : (4 * i + 3) / 4 = i := by omega
  have d4 : (4 * i + 4) / 4 = i + 1 := by omega
  have d5 : (4 * i + 5) / 4 = i + 1 := by omega
  have d6 : (4 * i + 6) / 4 = i + 1 := by omega
  have d7 : (4 * i + 7) / 4 = i + 1 := by omega
  have m0 : (4 * i + 0) % 4 = 0 := by omega
  have m1 : (4 * i + 1) % 4 = 1 := by omega
  have m2 : (4 * i + 2) % 4 = 2 := by omega
  have m3 : (4 * i + 3) % 4 = 3 := by omega
  have m4 : (4 * i + 4) % 4 = 0 := by omega
  have m5 : (4 * i + 5) % 4 = 1 := by omega
  have m6 : (4 * i + 6) % 4 = 2 := by omega
  have m7 : (4 * i + 7) % 4 = 3 := by omega
  simp only [UnsafeMem.get, wp_bind', zu_locate hA hvm hk hkind hneg hoff, hr, List.mapM, List.mapM.loop, zu_byte hA hvm (by rw [d0]; exact hx), zu_byte hA hvm (by rw [d1]; exact hx), zu_byte hA hvm (by rw [d2]; exact hx), zu_byte hA hvm (by rw [d3]; exact hx), zu_byte hA hvm (by rw [d4]; exact hy), zu_byte hA hvm (by rw [d5]; exact hy), zu_byte hA hvm (by rw [d6]; exact hy), zu_byte hA hvm (by rw [d7]; exact hy), m0, m1, m2, m3, m4, m5, m6, m7, wp_pure']
  exact hQ _ _
end zUns
def zglN : MethodName := ⟨"jdk/internal/misc/Unsafe", "getLong", "(Ljava/lang/Object;J)J"⟩
def zg8 (G : GS) (a : Nat) (off : Int64) : Option Int64 :=
  if gK G a = 50 ∧ ¬ off < 0 ∧ 16 ≤ off.toNatClampNeg ∧ off.toNatClampNeg % 4 = 0 ∧ (off.toNatClampNeg - 16) / 4 + 2 ≤ gN G a then some (zpk (gI G a ((off.toNatClampNeg - 16) / 4)) (gI G a ((off.toNatClampNeg - 16) / 4 + 1))) else none
section zRowsA
variable {M : zM} {F : zF} {G G1 : GS} {n pc : Nat} {lv : List (Nat × zV)} {st rest : List zV} {d : Nat}
theorem j_get8 {u a index : Nat} {off v : Int64} (hv : zg8 G a off = some v) (hk : gK G u = 65) (hlink : Cond.methodLink M.2.1 index zglN ∈ lw_all) (hd : 1 ≤ F.2.2.2) (hrest : (st.map zc).sum ≤ 8) (hdg : decode M.1 pc = .ok (.invokevirtual index, 3)) (kk : J M F G (pc + 3) lv (vL v :: st)) : J M F G pc lv (vL off :: vR (some a) :: vR (some u) :: st) := by
  obtain ⟨⟨h1, h2, h3, h4, h5⟩, rfl⟩ := ite_some hv
  refine ⟨kk.1, fun h0 p l e R s m args below meth c0 D Q H locs ls ok hp hs hl => ?_⟩
  have k0 := kk.2 h0 p l e R s m args below meth c0 D Q H locs ls ok hp hs hl
  have hT := zok_tb ok
  have hts := ok.2.2.2.2.1
  have hRr := ok.2.2.2.2.2.2.2.2.2.1
  obtain ⟨cellU, u1, u2, u3⟩ := zrecv hp hT (show zKc (gK G u) = some "jdk/internal/misc/Unsafe" by rw [hk]; rfl)
  have hA : H[a]? = some (arrV (D.2 0) (gN G a) (fun j => zfv G a j .int)) := (hp.2.1 a).2.1 0 _ rfl h1
  have hf : s.vm.findClass "[I" = some (D.2 0) := (hT.1.2 0 _ (ztys_at (ty := .int) rfl)).2
  have hArr := (hT.1.2 0 _ (ztys_at (ty := .int) rfl)).1 (gN G a) (fun j => zfv G a j .int)
  obtain ⟨-, kA, hkA, comp, hkindA⟩ := hArr
  obtain ⟨mk, methM, hnamed, hmethM, hstM, habM⟩ := Cond.instanceMethod_spec (hts _ q535)
  obtain ⟨c9, r9, mm9, s1, s2, s3, s4, kk9, s5, s6⟩ := Cond.selects_spec (hts _ q536)
  have hfound : s.methodFound? "jdk/internal/misc/Unsafe" "getLong" "(Ljava/lang/Object;J)J" = some mk := State.methodFound?_of_named (x := zglN) hnamed (by decide)
  cases Option.some.inj (s3.symm.trans hnamed)
  cases Option.some.inj (s2.symm.trans hfound)
  cases Option.some.inj (s1.symm.trans u3)
  have hdesc : parseMethodDescriptor zglN.desc = some { parameters := [.object "java/lang/Object", .long], returnType := some .long } := by decide +kernel
  obtain ⟨mN, kN, xN, w1, w2, w3, N⟩ := NativeOf.of_instance (hts _ q537) (hts _ q535) hdesc
  cases Option.some.inj (w1.symm.trans hnamed)
  cases Option.some.inj (w2.symm.trans hmethM)
  have hcat := zcat hrest
  have hw6 : nativeFrameWords zglN.cls zglN.name 4 = 6 := by decide +kernel
  intro T hT' X
  obtain ⟨vm', X', step⟩ := X.invokevirtual ok.1 ok.2.2.2.1 (hts _ hlink) hnamed hmethM hstM s5 s6 (by decide) (a := u) (cell := cellU) (by rw [hT']; exact u1) (fun z h => by rw [h] at u2; cases u2) (by rw [Launch.admits_selectMethod X.admits]; exact s4) hmethM habM s5 s6 (g := F0 m pc ls ((vL off :: vR (some a) :: vR (some u) :: st).map zv)) rfl (argsL := [Value.ref a, Value.long off]) (rest := st.map zv) (by rw [N.sig]; rfl) rfl (by rw [ok.2.1]; exact hdg)
  have B : Back l R p e below s args zglN 3 8 (fun A a' => ∃ g : Unit, a' = #[Value.ref u, Value.ref a, Value.long off] ∧ A.U.heap[a]? = some (arrV (D.2 0) (gN G a) (fun j => zfv G a j .int)) ∧ A.U.vm.classes[D.2 0]?.map (fun k => k.kind) = some (.array comp .int)) (fun A a' v' B => B = A ∧ ∀ g : Unit, (a' = #[Value.ref u, Value.ref a, Value.long off] ∧ A.U.heap[a]? = some (arrV (D.2 0) (gN G a) (fun j => zfv G a j .int)) ∧ A.U.vm.classes[D.2 0]?.map (fun k => k.kind) = some (.array comp .int)) → v' = some (.long (zpk (gI G a ((off.toNatClampNeg - 16) / 4)) (gI G a ((off.toNatClampNeg - 16) / 4 + 1))))) :=
    Back.of_nativeQ (P := fun (_ : Unit) a' (U : State) => a' = #[Value.ref u, Value.ref a, Value.long off] ∧ U.heap[a]? = some (arrV (D.2 0) (gN G a) (fun j => zfv G a j .int)) ∧ U.vm.classes[D.2 0]?.map (fun k => k.kind) = some (.array comp .int)) (val := fun _ => some (.long (zpk (gI G a ((off.toNatClampNeg - 16) / 4)) (gI G a ((off.toNatClampNeg - 16) / 4 + 1))))) (words := 4) (zgl_row p) (nativeInstance (hts _ q537) (hts _ q535) hdesc) (by omega) (by rw [hw6]; omega) fun g U a' x _ hst hps hP => by
      obtain ⟨rfl, hA', hk'⟩ := hP
      obtain ⟨k, hk1, hk2⟩ := Option.map_eq_some_iff.mp hk'
      refine ⟨rfl, by simp [seenByNative, hst, hps, narrow], fun fs Q hq => ?_⟩
      show wp (do let v ← UnsafeMem.get .long (.ref a) off .plain; mark "nat.jdk_internal_misc_Unsafe.get"; Pure.pure (some v)) Q _ e false [] (U.setFrames fs)
      simp only [wp_bind']
      refine zu_get (s := U.setFrames fs) (A := arrV (D.2 0) (gN G a) (fun j => zfv G a j .int)) (k := k) (comp := comp) (i := (off.toNatClampNeg - 16) / 4) hA' rfl hk1 hk2 h2 (by omega) (arrV_read _ _ (by omega)) (arrV_read _ _ (by omega)) fun d' acts' => ?_
      simp
      exact hq _ _
  obtain ⟨kA', hkA', hkA2⟩ := X'.warmed.alike.2.2 _ _ hkA
  obtain ⟨v', B', XB, ⟨rfl, hval⟩, hsteps⟩ := B m meth c0 ⟨T.setVm vm', locs, gz G - gz F.2.1, gu G - gu F.2.1⟩ (F0 m pc ls (st.map zv)) (.invokevirtual index) mk #[Value.ref u, Value.ref a, Value.long off] X' rfl (by rw [ok.2.2.1]; exact hl.1) (by rw [ok.2.1]; exact hdg) (by show 2 * 0 + ((st.map zv).map fun v => v.category).sum ≤ 8; omega) (X'.named hnamed) ⟨(), rfl, by show T.heap[a]? = _; rw [hT']; exact hA, by show vm'.classes[D.2 0]?.map _ = _; rw [show vm'.classes[D.2 0]? = some kA' from hkA']; show some kA'.kind = _; rw [hkA2]; exact congrArg some hkindA⟩
  obtain rfl := hval () ⟨rfl, by show T.heap[a]? = _; rw [hT']; exact hA, by show vm'.classes[D.2 0]?.map _ = _; rw [show vm'.classes[D.2 0]? = some kA' from hkA']; show some kA'.kind = _; rw [hkA2]; exact congrArg some hkindA⟩
  obtain ⟨t, a1, b1⟩ := k0 (T.setVm vm') hT' X'
  exact ⟨t, step t fun acts => by rw [doInvoke_state]; exact hsteps.trans a1, b1⟩
theorem j_f2d {x : UInt32} (hdg : decode M.1 pc = .ok (.f2d, 1)) (hv : zn64 (FP.f2d x)) (kk : J M F G (pc + 1) lv (vD (FP.f2d x) :: st)) : J M F G pc lv (vF x :: st) := by
  refine J.st2 (fun {p l e R s m args below meth c0 D H locs cells slots Q ls} ok hp k0 => ?_) kk
  intro T hT' X
  obtain ⟨t, a1, b1⟩ := k0 T hT' X
  refine ⟨t, ?_, b1⟩
  have hd' : decode c0.code pc = .ok (.f2d, 1) := by rw [ok.2.1]; exact hdg
  jvm_step X.here [ok.1, hd', f2d.wp_number (e := e) (s := T) (f := F0 m pc ls (zv (vF x) :: st.map zv)) (x := x) (rest := st.map zv) X.here.top rfl hv]
  exact a1
end zRowsA
