/-! ===== the one lambda (its class's facts after the worked example of a captured receiver) ===== -/
theorem zinv15 {α : Type} {x : Array Nat} {f : Nat → Nat → Nat → Option α} {r : α} (h : Lambda.shapeOf?.match_15 (fun _ => Option α) x f (fun _ => none) = some r) : ∃ a0 a1 a2, f a0 a1 a2 = some r := by
  rcases x with ⟨L⟩
  match L, h with
  | [], h => cases h
  | [_], h => cases h
  | [_, _], h => cases h
  | [a, b, c], h => exact ⟨a, b, c, h⟩
  | _ :: _ :: _ :: _ :: _, h => cases h
theorem zshape {cf : ClassFile} {index : Nat} {σ : Lambda.Shape} (h : Lambda.shapeOf? cf index = some σ) :
    ∃ (b nt : Nat) (desc : String) (site : MethodDescriptor), cf.constantPool[index]? = some (.invokeDynamic b nt) ∧ cf.constantPool.nameAndType? nt = some (σ.name, desc) ∧ parseMethodDescriptor desc = some site ∧ site.parameters = σ.captured := by
  unfold Lambda.shapeOf? at h
  split at h
  next b nt hc =>
    obtain ⟨entries, -, h⟩ := Option.bind_eq_some_iff.mp h
    obtain ⟨bm, -, h⟩ := Option.bind_eq_some_iff.mp h
    split at h
    next =>
      obtain ⟨_, -, h⟩ := Option.bind_eq_some_iff.mp h
      obtain ⟨a0, a1, a2, h⟩ := zinv15 h
      · split at h
        next =>
          split at h
          next =>
            split at h
            next =>
              obtain ⟨⟨name, desc⟩, hnt, h⟩ := Option.bind_eq_some_iff.mp h
              obtain ⟨site, hsite, h⟩ := Option.bind_eq_some_iff.mp h
              split at h
              next =>
                obtain ⟨⟨implClass, implName, implDesc, implItf⟩, -, h⟩ := Option.bind_eq_some_iff.mp h
                obtain ⟨x1, -, h⟩ := Option.bind_eq_some_iff.mp h
                obtain ⟨x2, -, h⟩ := Option.bind_eq_some_iff.mp h
                obtain ⟨x3, -, h⟩ := Option.bind_eq_some_iff.mp h
                obtain ⟨x4, -, h⟩ := Option.bind_eq_some_iff.mp h
                obtain ⟨x5, -, h⟩ := Option.bind_eq_some_iff.mp h
                cases h
                exact ⟨b, nt, desc, site, hc, hnt, hsite, rfl⟩
              next => cases h
            next => cases h
          next => cases h
        next => cases h
    next => cases h
  next => cases h
def zLD : ClassFile := (zσ.file "SelahGenerator$Sets").getD { minorVersion := 0, majorVersion := 0, constantPool := #[], accessFlags := 0, thisClass := 0, superClass := 0, interfaces := #[], fields := #[], methods := #[], attributes := #[] }
def zLfw : Method := ((layoutMethods zLD).bind (·[1]?)).getD default
def zLly : Array Field × Array FieldType × Array FieldType := (layoutFields zLD 0).getD (#[], #[], #[])
theorem zLfile : zσ.file "SelahGenerator$Sets" = some zLD := by
  have h : (zσ.file "SelahGenerator$Sets").isSome = true := by decide +kernel
  obtain ⟨x, hx⟩ := Option.isSome_iff_exists.mp h
  simp [zLD, hx]
theorem zLsecond : ∀ ms, layoutMethods zLD = some ms → ms[1]? = some zLfw := by
  intro ms hms
  have h : ((layoutMethods zLD).bind (·[1]?)).isSome = true := by decide +kernel
  obtain ⟨x, hx⟩ := Option.isSome_iff_exists.mp h
  have hf : zLfw = x := by simp [zLfw, hx]
  rw [hms] at hx
  rw [hf]
  exact hx
theorem zLlaid : layoutFields zLD 0 = some zLly := by
  have h : (layoutFields zLD 0).isSome = true := by decide +kernel
  obtain ⟨x, hx⟩ := Option.isSome_iff_exists.mp h
  simp [zLly, hx]
def zLcode : ByteArray := ⟨#[0x2a, 0xb4, 0x00, 0x0f, 0x1b, 0xb6, 0x00, 0x16, 0xac]⟩
theorem zLd0 : decode zLcode 0 = .ok (.aload_n 0, 1) := by decide +kernel
theorem zLd1 : decode zLcode 1 = .ok (.getfield 15, 3) := by decide +kernel
theorem zLd4 : decode zLcode 4 = .ok (.iload_n 1, 1) := by decide +kernel
theorem zLd5 : decode zLcode 5 = .ok (.invokevirtual 22, 3) := by decide +kernel
theorem zLd8 : decode zLcode 8 = .ok (.ireturn, 1) := by decide +kernel
theorem zLfc : (zLfw.code.map fun c => (c.code.data, c.maxLocals)) = some (zLcode.data, 2) := by decide +kernel
theorem zLff : (zLfw.accessFlags, zLfw.name, zLfw.sig.returnType) = (0x0001, "holds", some FieldType.boolean) := by decide +kernel
theorem zLeM : zLD.constantPool[22]? = some (.methodref 19 21) ∧ zLD.constantPool.className? 19 = some "SelahGenerator$Sets" ∧ zLD.constantPool.nameAndType? 21 = some ("lambda$new$0", "(I)Z") := by decide +kernel
theorem zLeC : zLD.constantPool[19]? = some (.class_ 18) ∧ zLD.constantPool.string? 18 = some "SelahGenerator$Sets" ∧ 19 ≠ zLD.thisClass := by decide +kernel
theorem zLeF : zLD.constantPool[15]? = some (.fieldref 2 14) ∧ zLD.constantPool.nameAndType? 14 = some ("arg$1", "LSelahGenerator$Sets;") ∧ zLly.1.findIdx? (·.name == "arg$1") = some 0 ∧ (zLly.1[0]?).map (fun f => (f.isStatic, f.slot)) = some (false, 0) := by decide +kernel
theorem zLtypes : zLly.2.1 = #[FieldType.object "SelahGenerator$Sets"] := by decide +kernel
/-- what is known of the lambda's class -/
theorem zLmade {vm : Vm} {d c : ClassId} {dk : Class} (hd : vm.classes[d]? = some dk) (hname : dk.name = "SelahGenerator$Sets") (h : Lambda.isMade { classPath := fun _ => none } vm d zσ c = true)
    (hO : ∀ o ok, vm.findClass "java/lang/Object" = some o → vm.classes[o]? = some ok → ok.instanceTypes.size = 0) :
    ∃ (k tk : Class) (file : ClassFile) (methk : Method) (ck : Code) (toy iface : ClassId) (t found : MethodId) (f0 : Field),
      vm.classes[c]? = some k ∧ k.name = "SelahGenerator$Sets$$Lambda" ∧ k.cf = some file ∧ file.constantPool = zLD.constantPool ∧
      vm.method? ⟨c, 1⟩ = some methk ∧ methk.code = some ck ∧ ck.code = zLcode ∧ ck.maxLocals = 2 ∧ methk.locks = false ∧ methk.accessFlags = 0x0001 ∧ methk.sig.returnType = some .boolean ∧
      vm.findClass "SelahGenerator$Sets" = some toy ∧ vm.classes[toy]? = some tk ∧ tk.isInterface = false ∧ ((methodIn toy "lambda$new$0" "(I)Z" tk.isInterface none).ask { classPath := fun _ => none } vm).1 = .ok t ∧
      vm.methodReady c 22 t ∧ vm.classReady c 19 toy ∧ vm.fieldReady c 15 c f0 ∧ f0.isStatic = false ∧ f0.slot = 0 ∧ k.instanceTypes = #[FieldType.object "SelahGenerator$Sets"] ∧ k.kind = .ordinary ∧
      vm.findClass "SelahGenerator$Test" = some iface ∧ ((methodIn iface "holds" zσ.sam.toString true none).ask { classPath := fun _ => none } vm).1 = .ok found ∧ selectMethod {} vm c found = .method ⟨c, 1⟩ := by
  obtain ⟨dk', k, ok, tk, file, cf, object, iface, toy, lay, methods, target, found, hd', hk, hfile, hcf, hobj, hif, hok, hlay, hms, ht, htk, hg, hfo, hrec, -, -, -, hitf, hpool, hmeth, hfields, hty, hres, hsel⟩ := Lambda.isMade_spec h
  cases hd.symm.trans hd'
  rw [hname, zLfile] at hcf
  cases hcf
  have hsz := hO object ok hobj hok
  rw [hsz, zLlaid] at hlay
  cases hlay
  obtain ⟨b, hb, hsame⟩ := hmeth 1 zLfw (zLsecond methods hms)
  obtain ⟨hn, -, hsig, hfl, x, y, hx, hy, -, hml, hcode, -⟩ := Lambda.sameMethod_spec hsame
  have fc := zLfc
  have ff := zLff
  simp only [Prod.mk.injEq] at ff
  obtain ⟨g0, hg0, hp0⟩ := Option.map_eq_some_iff.mp zLeF.2.2.2
  simp only [Prod.mk.injEq] at hp0
  rw [hx] at fc
  simp only [Option.map_some, Option.some.injEq, Prod.mk.injEq] at fc
  have hemp : ok.instanceTypes = #[] := Array.eq_empty_of_size_eq_zero hsz
  refine ⟨k, tk, file, b, y, toy, iface, target, found, g0, hk, by rw [hrec.1, hname]; rfl, hfile, hpool.2.1, by simp [Vm.method?, hk, hb], hy, by rw [hcode]; exact ByteArray.ext fc.1, by rw [hml]; exact fc.2, ?_, by rw [hfl]; exact ff.1, by rw [hsig]; exact ff.2.2, ht, htk, hitf, hg,
    ⟨k, hk, hres 22 _ (Lambda.resolvedOf_method zLeM.1 zLeM.2.1 ht htk zLeM.2.2 hg)⟩, ⟨k, hk, hres 19 _ (Lambda.resolvedOf_class zLeC.1 zLeC.2.2 zLeC.2.1 ht)⟩,
    ⟨k, 0, k, hk, hres 15 _ (Lambda.resolvedOf_field zLeF.1 zLeF.2.1 zLeF.2.2.1), hk, hfields 0 _ hg0⟩, hp0.1, hp0.2, by rw [hty.1, hemp, zLtypes]; simp, hrec.2.1, hif, hfo, hsel⟩
  simp [Method.locks, Method.isSynchronized, hfl, ff.1, hasFlag, Acc.synchronized]

theorem zHp.newG {D : zD} {G G' : GS} {U : State} {H H' : Heap} (h : zHp D G U H) (hz : gz G' = gz G + 1) (hS : gS G' = gS G) (hG : ∀ b, b ≠ gz G → gK G' b = gK G b ∧ gN G' b = gN G b ∧ ∀ k ty, zfv G' b k ty = zfv G b k ty) (hs : H'.size = H.size + 1) (hH : ∀ b, b < H.size → H'[b]? = H[b]?) (ha : zAt D U G' (gz G) H') : zHp D G' U H' := by
  have hk : ∀ q, q < H.size → ¬ zfree G q → H'[q]? = H[q]? ∧ ¬ zfree G' q := fun q hq hf => ⟨hH q hq, by
    have e : gK G' q = gK G q := (hG q (by rw [← h.1]; omega)).1
    unfold zfree
    rw [e]
    exact hf⟩
  refine ⟨by rw [hs, h.1, hz], fun b => ?_, fun q hq => (h.2.2.1 q hq).to (zsts_congr hS q hq) hk, h.2.2.2.1.to hk, h.2.2.2.2.1.to hk, by rw [hS]; exact h.2.2.2.2.2.1, by rw [hS]; exact h.2.2.2.2.2.2⟩
  by_cases hb : b = gz G
  · subst hb; exact ha
  · obtain ⟨g1, g2, g3⟩ := hG b hb
    by_cases hl : b < H.size
    · exact (h.2.1 b).congr g1 g2 g3 (hH b hl)
    · have hn : H[b]? = none := by
        rw [Array.getElem?_eq_none]
        omega
      have hn' : H'[b]? = none := by
        rw [Array.getElem?_eq_none]
        rw [hs]
        have := h.1
        omega
      exact (h.2.1 b).congr g1 g2 g3 (by rw [hn, hn'])
section zRows9
variable {M : zM} {F : zF} {G G1 : GS} {n pc : Nat} {lv : List (Nat × zV)} {st rest : List zV} {d : Nat}
theorem zobj0 {args : Array Value} {s U : State} (hW : s.WarmedH U.vm) (hts : ∀ w ∈ lw_all, w.before args s = true) : ∀ o ok, U.vm.findClass "java/lang/Object" = some o → U.vm.classes[o]? = some ok → ok.instanceTypes.size = 0 := by
  intro o ok h1 h2
  have hO : (Cond.instantiable "java/lang/Object" 0).before args U = true := word_at hW (Or.inl rfl) (hts _ q3333)
  obtain ⟨cO, kO, hfO, hkO, -, -, -, hsz⟩ := Cond.instantiable_spec hO
  cases hfO.symm.trans h1
  cases hkO.symm.trans h2
  exact hsz
theorem j_lam {b : Nat} (hM : M.2.1 = "SelahGenerator$Sets" ∧ M.2.2.2.2.1 = "<init>" ∧ M.2.2.2.2.2.2 = "(Ljava/util/List;)V") (hk : gK G b = 5) (hd : 49 ≤ F.2.2.2) (hrest : (st.map zc).sum ≤ 8) (hdg : decode M.1 49 = .ok (.invokedynamic 31, 5)) (kk : J M F (sR (al G 64 0 1) (gz G) 0 (some b)) 54 lv (vR (some (gz G)) :: st)) : J M F G 49 lv (vR (some b) :: st) := by
  have hle : zle G (sR (al G 64 0 1) (gz G) 0 (some b)) := zle_trans zle_al zle_sR
  refine ⟨zle_trans hle kk.1, fun h0 p l e R s m args below meth c0 D Q H locs ls ok hp hs hl => ?_⟩
  have k0 := kk.2 (zle_trans h0 hle) p l e R s m args below meth c0 D Q
  have hT := zok_tb ok
  have hts := ok.2.2.2.2.1
  have hRr := ok.2.2.2.2.2.2.2.2.2.1
  have hz : H.size = gz G := hp.1
  obtain ⟨m', k, cf, i0, p0, hm, hkS, hcf, hsh, hfind, hmade, hcall⟩ := hT.2.2.2.2.2.2.2.1
  have hn := ok.2.2.2.2.2.2.2.1.2
  rw [hM.1, hM.2.1, hM.2.2] at hn
  cases Option.some.inj (hn.symm.trans hm)
  obtain ⟨bsm, nt, desc, site, hc, hnt, hsite, hpar⟩ := zshape hsh
  obtain ⟨kS', hkS', hnameS⟩ := Vm.findClass_spec ok.2.2.2.1
  cases Option.some.inj (hkS.symm.trans hkS')
  obtain ⟨kK, tk, file, methk, ck, toy, iface, t9, found, f0, hkK, -, -, -, -, -, -, -, -, -, -, -, -, -, -, -, -, -, -, -, hty, hkind, -⟩ := zLmade hkS (hnameS.trans hM.1) hmade (zobj0 (State.WarmedH.refl s) hts)
  obtain ⟨r1, r2, r3, r4⟩ := zcells (n := 1) h0 kk.1 rfl rfl hRr
  have hsl : ((kK.instanceTypes.toList.zip [Value.ref b]).map fun (t, v) => narrow t v) = [Value.ref b] := by rw [hty]; rfl
  intro T hT' X
  have hcat := zcat hrest
  obtain ⟨X₁, st1⟩ := X.lambdaMakes ok.1 (g := F0 m 49 ls ((vR (some b) :: st).map zv)) rfl (by rw [ok.2.2.1]; exact hl.1) (by rw [ok.2.1]; exact hdg) (vals := [Value.ref b]) (rest := st.map zv) hkS hfind hcf hc hnt (parseLong_of_parse hsite) (by rw [hpar]; rfl) rfl hkK (by
      have hw : e.platform.lambdaLinkWords = 3072 := by rw [X.admits.platform]
      rw [hw]
      show 2 * 0 + (1 + ((st.map zv).map fun v => v.category).sum) + 3072 ≤ R.locals
      omega) r1 (by rw [hsl]; exact r2) (fun i v hv => by
      rw [hsl] at hv
      match i, hv with
      | 0, hv => simp at hv; subst hv; simp [State.fitsSlot, State.slotType?, hkK, hkind, hty, fits]
      | i + 1, hv => simp at hv)
  rw [hsl] at X₁ st1
  have hheap : (T.pushCell { cls := D.2 9, slots := [Value.ref b].toArray, vm := .none }).heap = H.push { cls := D.2 9, slots := [Value.ref b].toArray, vm := .none } := by rw [← hT']; rfl
  generalize hH1 : H.push ({ cls := D.2 9, slots := [Value.ref b].toArray, vm := .none } : Cell) = H1 at hheap
  have z1 : H1.size = H.size + 1 := by rw [← hH1, Array.size_push]
  have e1 : H1[H.size]? = some { cls := D.2 9, slots := [Value.ref b].toArray, vm := .none } := by rw [← hH1, Array.getElem?_push_size]
  have o1 : ∀ q : Nat, q < H.size → H1[q]? = H[q]? := fun q hq => by rw [← hH1, Array.getElem?_push, if_neg (Nat.ne_of_lt hq)]
  have hb : b < gz G := by
    obtain ⟨cell, w1, -⟩ := zrecv hp hT (show zKc (gK G b) = some "SelahGenerator$Sets" by rw [hk]; rfl)
    rw [← hz]
    exact (Array.getElem?_eq_some_iff.mp w1).1
  have hp1 : zHp D (sR (al G 64 0 1) (gz G) 0 (some b)) s H1 := by
    refine hp.newG rfl rfl (fun q hq => ⟨by rw [gK_sR, gK_al, if_neg hq], by rw [gN_sR, gN_al, if_neg hq], zfv_congr (fun k => by rw [gI_sR, gI_al, if_neg hq]) (fun k => by rw [gL_sR, gL_al, if_neg hq]) (fun k => by rw [gR_sR, if_neg (fun h => hq h.1), gR_al, if_neg hq])⟩) z1 o1 ?_
    have hK : gK (sR (al G 64 0 1) (gz G) 0 (some b)) (gz G) = 64 := by rw [gK_sR, gK_al, if_pos rfl]
    refine ⟨fun c' r' hc' hk' => ?_, fun t' ty' ht' hk' => ?_, fun hk' => ?_, fun hk' => ?_, fun hk' => ?_, fun hk' => ?_, fun hk' => ?_, fun hk' => ?_⟩
    · have := zcl_lt hc'
      omega
    · have := zar_lt ht'
      omega
    · omega
    · omega
    · omega
    · omega
    · rw [← hz, e1, gR_sR, if_pos ⟨rfl, rfl⟩]
      rfl
    · omega
  have hXs : Stand p l e R s m args below meth c0 (T.pushCell { cls := D.2 9, slots := [Value.ref b].toArray, vm := .none }) locs (gz (sR (al G 64 0 1) (gz G) 0 (some b)) - gz F.2.1) (gu (sR (al G 64 0 1) (gz G) 0 (some b)) - gu F.2.1) := by
    have r3' : gz (sR (al G 64 0 1) (gz G) 0 (some b)) - gz F.2.1 = gz G - gz F.2.1 + 1 := r3
    have r4' : gu (sR (al G 64 0 1) (gz G) 0 (some b)) - gu F.2.1 = gu G - gu F.2.1 + 1 := r4
    rw [r3', r4']
    exact X₁
  obtain ⟨t2, a1, b1⟩ := k0 H1 locs ls ok hp1 (hs.new z1 o1) hl _ hheap hXs
  refine ⟨t2, st1 t2 ?_, b1⟩
  have hTz : T.heap.size = gz G := by rw [hT', hz]
  rw [hTz]
  exact a1
theorem zrLm {b c index count : Nat} {v r : Int32} (hlink : Cond.methodLink M.2.1 index ⟨"SelahGenerator$Test", "holds", "(I)Z"⟩ ∈ lw_all) (hdecl : Cond.declares ⟨"SelahGenerator$Test", "holds", "(I)Z"⟩ ∈ zxs) (hR : zRuns yX5_lambda_new_0 (ws_ yX5_lambda_new_0 cX5_lambda_new_0 2 (some .boolean)) [vR (some c), vI v] (.inl (some (vI r)), G, G, d)) (hb : zbb r) (hd : d + 2 ≤ F.2.2.2) (hk : gK G b = 64) (hcap : gR G b 0 = some c) (hkc : gK G c = 5) (hst : st = vI v :: vR (some b) :: rest) (hrest : (rest.map zc).sum ≤ 8) (hdg : decode M.1 pc = .ok (.invokeinterface index count, 5)) : zRun M F G 5 pc lv st rest (.inl (some (vI r))) G d := by
  refine ⟨zle_rfl, fun h0 h1 p l e R s m args below meth c0 D Q H locs ls ok hp hl => ⟨#[], ?_⟩⟩
  subst hst
  have hT := zok_tb ok
  have hts := ok.2.2.2.2.1
  have hRr := ok.2.2.2.2.2.2.2.2.2.1
  have hfl := ok.2.2.2.2.2.2.2.2.2.2.1
  have hM := hR.2 l D hfl
  have hcell : H[b]? = some { cls := D.2 9, slots := #[va_rf (gR G b 0)], vm := .none } := (hp.2.1 b).2.2.2.2.2.2.1 hk
  have hrs := lv_room (m := m) (pc := pc) (ls := ls) (rest := rest.map zv) (zcat hrest)
  intro T hT' X
  -- the interface's own method, and the lambda's
  obtain ⟨r0, rr, hn0, hrm0, hst0, hsig0⟩ := Cond.declares_spec (va_Nw.use (A := args) rfl (hT.2.1 _ hdecl))
  obtain ⟨cL, kL, r1', hcL, hkL, hiL, hfoundL, hn1⟩ := Cond.interfaceMethod_spec hT.2.2.2.2.2.2.1.2.2.2
  cases Option.some.inj (hn0.symm.trans hn1)
  have hr0cls : r0.cls = cL := Option.some.inj ((findClass_of_methodNamed hn0).symm.trans hcL)
  obtain ⟨hnameR, hdescR⟩ := name_of_methodNamed hn0 hrm0
  obtain ⟨m', kS, cf, i0, p0, hm, hkS, hcf, hsh, hfind, hmade, hcall⟩ := hT.2.2.2.2.2.2.2.1
  obtain ⟨kS', hkS', hnameS⟩ := className_of_methodNamed hm
  cases Option.some.inj (hkS.symm.trans hkS')
  obtain ⟨kK, tk, file, methk, ck, toy, iface, t9, found, f0, hkK, hnmK, -, -, hmk, hck, hbytes, hml, hlk, hflk, hretk, -, -, -, -, -, -, -, -, -, -, -, hif, hfo, hsel⟩ := zLmade hkS hnameS hmade (zobj0 (State.WarmedH.refl s) hts)
  cases Option.some.inj (hcL.symm.trans hif)
  have hfr : found = r0 := by
    have h1 : s.methodFound? "SelahGenerator$Test" "holds" "(I)Z" = some r0 := hfoundL
    simp only [State.methodFound?, hcL, hkL, hiL, Option.bind_eq_bind, Option.bind_some] at h1
    have hfo' : ((methodIn cL "holds" "(I)Z" true none).ask { classPath := fun _ => none } s.vm).1 = .ok found := hfo
    rw [hfo'] at h1
    exact Option.some.inj h1
  subst hfr
  obtain ⟨i2, hi2, hasg, hway⟩ := State.lambdaCallable_spec hcall
  cases Option.some.inj (hcL.symm.trans hi2)
  have hlen0 : [Value.int v].length = rr.sig.parameters.length := by
    have e1 : (parseMethodDescriptor "(I)Z").map (fun d => d.parameters.length) = some 1 := by decide +kernel
    have e2 : parseMethodDescriptor "(I)Z" = some rr.sig := hsig0
    rw [e2] at e1
    exact (Option.some.inj e1).symm
  obtain ⟨vm₁, X₁, hstep₁⟩ := X.invokeinterface ok.1 ok.2.2.2.1 (hts _ hlink) hn0 hrm0 hst0 (by rw [hr0cls]; exact hkL) hiL (by decide) (a := b) (cell := { cls := D.2 9, slots := #[va_rf (gR G b 0)], vm := .none }) (kcell := kK) (by rw [hT']; exact hcell) (fun z h => by cases h) hkK (by rw [hr0cls]; exact hasg) (m' := ⟨D.2 9, 1⟩) (meth' := methk) (by rw [Launch.admits_selectMethod X.admits]; exact hsel) hmk (by rw [hnameR, hdescR]; exact hway) (by rw [hflk]; decide) (by simp [Method.isAbstract, hflk, hasFlag, Acc.abstract])
    (g := F0 m pc ls ((vI v :: vR (some b) :: rest).map zv)) rfl (argsL := [Value.int v]) (rest := rest.map zv) hlen0 rfl (by rw [ok.2.1]; exact hdg)
  generalize hV : T.setVm vm₁ = V at X₁ hstep₁
  have hVh : V.heap = H := by rw [← hV, ← hT']; rfl
  have hWV : s.WarmedH V.vm := X₁.warmed
  -- the same facts under the warmer tables
  obtain ⟨m9, kS9, cf9, i9, p9, hm9, hkS9, hcf9, hsh9, hfind9, hmade9, hcall9⟩ := hT.2.2.2.2.2.2.2.1.warm hWV
  obtain ⟨kS9', hkS9', hnameS9⟩ := className_of_methodNamed hm9
  cases Option.some.inj (hkS9.symm.trans hkS9')
  obtain ⟨kK9, tk9, file9, methk9, ck9, toy9, iface9, t99, found9, f9, hkK9, hnmK9, hfile9, hpool9, hmk9, hck9, hbytes9, hml9, hlk9, hflk9, hretk9, htoy9, htk9, hitf9, hask9, hmr9, hcr9, hfr9, hfs9, hfslot9, -⟩ := zLmade hkS9 hnameS9 hmade9 (zobj0 hWV hts)
  have htsV : ∀ w ∈ lw_all, w.before #[] V = true := fun w hw => word_at hWV (lw_self w hw).2 (hts w hw)
  obtain ⟨mk, methM, hnamed, hmethM, hstM, habM⟩ := Cond.instanceMethod_spec (htsV _ q457)
  obtain ⟨c9, r9, mm9, s1, s2, s3, s4, kk9, s5, s6⟩ := Cond.selects_spec (htsV _ qs1)
  have hfound9 : V.methodFound? "SelahGenerator$Sets" "lambda$new$0" "(I)Z" = some mk := State.methodFound?_of_named (x := yX5_lambda_new_0) hnamed (by decide)
  have hmkcls : mk.cls = toy9 := Option.some.inj ((findClass_of_methodNamed hnamed).symm.trans htoy9)
  have ht9 : t99 = mk := by
    have h1 := hfound9
    simp only [State.methodFound?, htoy9, htk9, hitf9, Option.bind_eq_bind, Option.bind_some] at h1
    have hask : ((methodIn toy9 "lambda$new$0" "(I)Z" false none).ask { classPath := fun _ => none } V.vm).1 = .ok t99 := by
      have h2 := hask9
      rw [hitf9] at h2
      exact h2
    rw [hask] at h1
    exact Option.some.inj h1
  subst ht9
  cases Option.some.inj (s3.symm.trans hnamed)
  cases Option.some.inj (s2.symm.trans hfound9)
  have hcellC : ∃ cellC : Cell, H[c]? = some cellC ∧ cellC.vm.isStatics = false ∧ s.vm.findClass "SelahGenerator$Sets" = some cellC.cls := zrecv hp hT (by rw [hkc]; rfl)
  obtain ⟨cellC, y1, y2, y3⟩ := hcellC
  have hc9 : c9 = cellC.cls := by
    have : V.vm.findClass "SelahGenerator$Sets" = some cellC.cls := by rw [hWV.alike.findClass]; exact y3
    exact Option.some.inj (s1.symm.trans this)
  -- into the forwarder
  obtain ⟨Y₀, hin⟩ := X₁.into (g := F0 m pc ls (rest.map zv)) rfl (by rw [ok.2.2.1]; exact hl.1) (ig := .invokeinterface index count) (len := 5) (by rw [ok.2.1]; exact hdg) #[.ref b, .int v] (R' := { frames := d + 1, locals := 64 * d + 64 + 30, cells := 0, slots := 0 }) hmk9 hck9 hlk9 (fun k' hk' => by
      cases Option.some.inj (hkK9.symm.trans hk')
      exact plain_of_name (by rw [hnmK9]; decide)) (by show d + 1 + 1 ≤ R.frames; omega) (by
      rw [hml9]
      have := zcat hrest
      show 2 * 0 + ((rest.map zv).map fun v => v.category).sum + (2 + 11) + (64 * d + 64 + 30) ≤ R.locals
      omega) (by have := h0.1; have := h1.1; show _ + 0 ≤ _; omega) (by have := h0.2.1; have := h1.2.1; show _ + 0 ≤ _; omega)
  generalize hU : (V.setTop (F0 m pc ls (rest.map zv))).pushFrame (.java (entryFrame ⟨D.2 9, 1⟩ #[.ref b, .int v] ck9.maxLocals)) = U at Y₀ hin
  have hUvm : U.vm = V.vm := by rw [← hU]; rfl
  have hUheap : U.heap = H := by rw [← hVh, ← hU]; rfl
  have hWU : s.WarmedH U.vm := by rw [hUvm]; exact hWV
  have hwsC : ∀ w ∈ lw_all, w.before #[.ref b, .int v] (V.calling (F0 m pc ls (rest.map zv)) ⟨D.2 9, 1⟩ #[.ref b, .int v]) = true := fun w hw => word_at (U := V.calling (F0 m pc ls (rest.map zv)) ⟨D.2 9, 1⟩ #[.ref b, .int v]) hWV (lw_self w hw).2 (hts w hw)
  have K : vx_Back l { frames := d + 1, locals := 64 * d + 64 + 30, cells := 0, slots := 0 } p e (.java (F0 m pc ls (rest.map zv)) :: below) (V.calling (F0 m pc ls (rest.map zv)) ⟨D.2 9, 1⟩ #[.ref b, .int v]) #[.ref b, .int v] yX5_lambda_new_0 3 8 _ _ _ := vx_back (bytes := cX5_lambda_new_0) (maxL := 2) (ret := some .boolean) hM zblind rfl rfl (Nat.le_refl _) (by show 8 + (2 + 11) + (64 * d + 64) ≤ 64 * d + 64 + 30; omega) (pay_in hwsC (lw_meth q458)) List.mem_cons_self (fun a' U' hW' => word_at hW' (Or.inl rfl) (hwsC _ q151))
  have hpar : [Value.int v].length = methM.sig.parameters.length := by
    obtain ⟨mth, cc, w1, w2, -, -, -, -, -, w9⟩ := Cond.code_spec hnamed (htsV _ q458)
    cases Option.some.inj (w1.symm.trans hmethM)
    have e1 : (parseMethodDescriptor "(I)Z").map (fun d => d.parameters.length) = some 1 := by decide +kernel
    have e2 : parseMethodDescriptor "(I)Z" = some methM.sig := w9
    rw [e2] at e1
    exact (Option.some.inj e1).symm
  have hTU : zTb D U := hT.warm hWU
  have hpU : zHp D G U U.heap := by rw [hUheap]; exact hp.moved hWU.alike
  have hdk : decode ck9.code 5 = .ok (.invokevirtual 22, 3) := by rw [hbytes9]; exact zLd5
  have hke := K ⟨D.2 9, 1⟩ methk9 ck9 ⟨U, [], 0, 0⟩ { method := ⟨D.2 9, 1⟩, pc := 5, locals := #[.val (.ref b), .val (.int v)], stack := [], locked := none } (.invokevirtual 22) t99 #[.ref c, .int v] Y₀ rfl (by rw [hml9]; rfl) hdk (Nat.zero_le _) (by
    have : V.methodNamed? yX5_lambda_new_0 = some t99 := hnamed
    rw [show U.methodNamed? yX5_lambda_new_0 = V.methodNamed? yX5_lambda_new_0 from by
      have e := State.methodNamed?_setVm (s := U) (vm' := V.vm) (by rw [hUvm]; exact Vm.Alike.refl _) yX5_lambda_new_0
      exact e.symm.trans rfl]
    exact this) ⟨by show 0 + (gz G - gz G) ≤ 0; omega, by show 0 + (gu G - gu G) ≤ 0; omega, rfl, hTU, hpU⟩
  rcases hke with ⟨v', B, Yb, ⟨g', mk', t', L, e1, e2, ⟨⟨w, hw1, hw2⟩, hw3, hw4⟩, eL, hL, ec, es⟩, hsteps⟩ | ⟨q, B, Yb, ⟨g', mk', t', L, E, ce, e1, e2, ⟨hw1, -⟩, -⟩, -⟩
  · cases hw1
    obtain rfl : v' = some (.int r) := Outcome.returned.inj hw2
    obtain ⟨fs, hleave, -, hended, hWe, hsame⟩ := Yb.leave (v := some (.int r)) (fun h => by rw [hretk9] at h; cases h) hlk9
    obtain ⟨T', X', hW', hsame', ht⟩ := X₁.outOf (g := F0 m pc ls (rest.map zv)) rfl (ig := .invokeinterface index count) (len := 5) (by rw [ok.2.1]; exact hdg) hended hWe hsame
    have hTh : T'.heap = t'.heap := by
      have e : (B.U.setFrames fs).heap = (T'.setTop { (F0 m pc ls (rest.map zv)) with pc := pc + 5, stack := (some (Value.int r)).toList ++ rest.map zv }).heap := congrArg State.heap ht
      exact e.symm.trans e1
    have hTv : T'.vm = t'.vm := by
      have e : (B.U.setFrames fs).vm = (T'.setTop { (F0 m pc ls (rest.map zv)) with pc := pc + 5, stack := (some (Value.int r)).toList ++ rest.map zv }).vm := congrArg State.vm ht
      exact e.symm.trans e2
    have eL' : B.locs = L := by rw [eL]; rfl
    have ec' : B.cells = gz G - gz G := by rw [ec]; exact Nat.zero_add _
    have es' : B.slots = gu G - gu G := by rw [es]; exact Nat.zero_add _
    rw [eL', ec', es'] at X'
    refine Or.inl ⟨some (.int r), _, t', T', L, ?_, X', hL, hTh, hTv, ⟨⟨_, rfl, rfl⟩, hw3, hw4⟩, fun target hrest => ?_⟩
    · exact hUheap
    · refine hstep₁ target (fun acts => ?_)
      have hin' := hin acts
      rw [show (Value.ref b :: [Value.int v]).toArray = #[Value.ref b, Value.int v] from rfl]
      refine Steps.trans (s₂ := T'.setTop { (F0 m pc ls (rest.map zv)) with pc := pc + 5, stack := (some (Value.int r)).toList ++ rest.map zv }) ?_ hrest
      show Steps p.tables e below (doInvoke e (V.setTop (F0 m pc ls (rest.map zv))) acts ⟨D.2 9, 1⟩ #[Value.ref b, Value.int v]).1 _
      rw [hin', ← ht]
      refine Steps.weaken (mid := [.java (F0 m pc ls (rest.map zv))]) ?_
      have hloc : entryFrame ⟨D.2 9, 1⟩ #[Value.ref b, Value.int v] ck9.maxLocals = { method := ⟨D.2 9, 1⟩, pc := 0, locals := #[.val (.ref b), .val (.int v)], stack := [], locked := none } := by rw [hml9]; rfl
      rw [hloc]
      have hs : U.topJava?.isSome := Y₀.here.top
      have hcellU : U.heap[b]? = some { cls := D.2 9, slots := #[va_rf (gR G b 0)], vm := .none } := by rw [hUheap]; exact hcell
      have hslot : ({ cls := D.2 9, slots := #[va_rf (gR G b 0)], vm := .none } : Cell).slots[f9.slot]? = some (.ref c) := by rw [hfslot9, hcap]; rfl
      obtain ⟨b9, hmem⟩ := memberRef_ask' (e := e) (vm := V.vm) (d := D.2 9) (index := 22) hkK9 hfile9 (Or.inl (by rw [hpool9]; exact zLeM.1)) (by rw [hpool9]; exact zLeM.2.2)
      have hnamesU : namesAClass U (D.2 9) 22 := ⟨kK9, file9, 19, 21, toy9, tk9, by rw [hUvm]; exact hkK9, hfile9, by rw [hpool9]; exact zLeM.1, by rw [hUvm]; exact hcr9, by rw [hUvm]; exact htk9, hitf9⟩
      jvm_step Y₀.here [ok.1, hbytes9, zLd0, Value.isRef]
      jvm_step Y₀.here [ok.1, hbytes9, zLd1, getfield.wp_ready (e := e) (s := U) (c := D.2 9) (field := f9) (a := b) (rest := []) (cell := { cls := D.2 9, slots := #[va_rf (gR G b 0)], vm := .none }) (v := .ref c)
        (f := { method := ⟨D.2 9, 1⟩, pc := 1, locals := #[.val (.ref b), .val (.int v)], stack := [.ref b], locked := none }) hs (by rw [hUvm]; exact hfr9) hfs9 rfl hcellU (fun h => by cases h) hslot]
      jvm_step Y₀.here [ok.1, hbytes9, zLd4]
      jvm_step Y₀.here [ok.1, hbytes9, zLd5, invokevirtual.wp_ready (e := e) (s := U) (r := t99) (m := t99) (k := tk9) (mk := tk9) (rmeth := methM) (meth := methM) (a := c) (args := [.int v]) (rest := []) (cell := cellC)
        (f := { method := ⟨D.2 9, 1⟩, pc := 5, locals := #[.val (.ref b), .val (.int v)], stack := [.int v, .ref c], locked := none }) hs hnamesU (by rw [hUvm]; exact hmr9) (by rw [hUvm, hmkcls]; exact htk9) (by rw [hUvm]; exact hmethM) (by
          obtain ⟨kq, hkq1, hkq2⟩ := className_of_methodNamed hnamed
          have : kq = tk9 := by
            rw [hmkcls] at hkq1
            exact Option.some.inj (hkq1.symm.trans htk9)
          subst this
          simp [signaturePolymorphic, hkq2, yX5_lambda_new_0, RX5]) hstM hpar rfl
        (by rw [hUheap]; exact y1) (fun z h => by rw [h] at y2; cases y2) (by rw [hUvm, Launch.admits_selectMethod X.admits, ← hc9]; exact s4) (by rw [hUvm]; exact hmethM) habM (by rw [hUvm, hmkcls]; exact htk9) hitf9]
      intro acts'
      refine Steps.trans (by rw [doInvoke_state]; exact hsteps) ?_
      show Steps p.tables e (.java (F0 m pc ls (rest.map zv)) :: below) (B.U.setTop { method := ⟨D.2 9, 1⟩, pc := 8, locals := #[.val (.ref b), .val (.int v)], stack := [.int r], locked := none }) _
      jvm_step Yb.here [Yb.here.top, ok.1, hbytes9, zLd8, Yb.method', hretk9, zbb_n hb]
      intro acts''
      rw [hleave { method := ⟨D.2 9, 1⟩, pc := 8, locals := #[.val (.ref b), .val (.int v)], stack := [], locked := none } acts'' rfl rfl rfl]
      exact Steps.refl _
  · cases hw1
end zRows9
