/-! ===== references in arrays, casts, constants, interfaces, nest mates ===== -/
abbrev zRw : Type := String × u_T × Nat × (Nat → FieldType)
section zRefs
variable {M : zM} {F : zF} {G G1 : GS} {n pc : Nat} {lv : List (Nat × zV)} {st rest : List zV} {d : Nat}
theorem j_anewa {t index : Nat} {C : String} {n : Int32} {G' : GS} (ht : zar[t]? = some (.object C)) (hC : C = "java/lang/Object" ∨ C = "SelahGenerator$Strings") (hlink : Cond.classLink M.2.1 index C ∈ lw_all) (hG : zna G (50 + t) n = some G') (hdg : decode M.1 pc = .ok (.anewarray index, 3)) (kk : J M F G' (pc + 3) lv (vR (some (gz G)) :: st)) : J M F G pc lv (vI n :: st) := by
  obtain ⟨⟨h1, h2⟩, rfl⟩ := ite_some hG
  refine ⟨zle_trans zle_al kk.1, fun h0 p l e R s m args below meth c0 D Q H locs ls ok hp hs hl => ?_⟩
  have k0 := kk.2 (zle_trans h0 zle_al) p l e R s m args below meth c0 D Q
  have hT := zok_tb ok
  have hts := ok.2.2.2.2.1
  have hAO : va_AO C s := by
    rcases hC with rfl | rfl
    · exact hT.2.2.2.1
    · exact hT.2.2.2.2.1
  obtain ⟨r1, r2, r3, r4⟩ := zcells (n := n.toNatClampNeg) h0 kk.1 rfl rfl ok.2.2.2.2.2.2.2.2.2.1
  have hz : H.size = gz G := hp.1
  refine W.anew ok.1 ok.2.1 ok.2.2.2.1 (hts _ hlink) (va_AO.use hAO) rfl hdg rfl (fun q => absurd q (by grind)) (by omega) r1 r2 fun cA kA comp f1 f2 f3 f4 => ?_
  generalize hH1 : H.push ({ cls := cA, slots := Array.replicate n.toNatClampNeg .null, vm := .none } : Cell) = H1
  have z1 : H1.size = H.size + 1 := by rw [← hH1, Array.size_push]
  have e1 : H1[H.size]? = some (arrV cA n.toNatClampNeg (fun _ => .null)) := by rw [← hH1, Array.getElem?_push_size, ← arrV_new]
  have o1 : ∀ q : Nat, q < H.size → H1[q]? = H[q]? := fun q hq => by rw [← hH1, Array.getElem?_push, if_neg (Nat.ne_of_lt hq)]
  rw [← r3, ← r4]
  obtain ⟨kA', comp', k1, k2, k3, k4⟩ := (hT.1.2 t _ (ztys_at ht)).2
  have hcA : cA = D.2 t := Option.some.inj (f1.symm.trans k4)
  subst hcA
  rw [hz] at e1 ⊢
  refine k0 H1 _ ls ok (hp.new z1 o1 (zAt.ofArr ht (by rw [gK_al, if_pos rfl]) ?_)) (hs.new z1 o1) hl
  rw [e1, gN_al, if_pos rfl]
  congr 2
  funext j
  show Value.null = va_rf _
  rw [gR_al, if_pos rfl]
  rfl
/-- a reference goes into an array: null, or a thing that may stand there -/
theorem j_aast {t : Nat} {a : Nat} {C : String} {j : Int32} {v : Option Nat} {Ks : List Nat} {G' : GS} (ht : zar[t]? = some (.object C)) (hv : zsR G (50 + t) a j v Ks = some G') (hKs : ∀ k, Ks.contains k = true → ∃ E, zKc k = some E ∧ (Cond.castable E C ∈ zxs ∨ (E = C ∧ ∃ (c : Nat) (r : zRw), zcl[c]? = some r ∧ r.1 = E))) (hdg : decode M.1 pc = .ok (.aastore, 1)) (kk : J M F G' (pc + 1) lv st) : J M F G pc lv (vR v :: vI j :: vR (some a) :: st) := by
  obtain ⟨⟨h1, h2, h3⟩, rfl⟩ := ite_some hv
  have hU := zUpd_R (G := G) (a := a) (k := j.toNatClampNeg) (v := v) (ty := .object C) (fun _ _ _ => rfl)
  refine ⟨zle_trans hU.le kk.1, fun h0 p l e R s m args below meth c0 D Q H locs ls ok hp hs hl => ?_⟩
  have k0 := kk.2 (zle_trans h0 hU.le) p l e R s m args below meth c0 D Q
  have hj := zin_spec h2
  have hlt : j.toNatClampNeg < gN G a := Nat.not_le.mp fun q => hj (Or.inr q)
  have hT := zok_tb ok
  have hc := (hp.2.1 a).2.1 t _ ht h1
  have ha : a < gz G := by rw [← hp.1]; exact (Array.getElem?_eq_some_iff.mp hc).1
  have hfr : zfree G a := ⟨by omega, by have := zar_lt ht; omega⟩
  have hAa : zA F a := Or.inl (zfree_le (zle_trans hU.le kk.1) ha hfr)
  obtain ⟨u1, u2, u3, u4, u5, u6, u7, u8⟩ := hU
  have fin : ∀ H' : Heap, H'[a]? = some ((arrV (D.2 t) (gN G a) (fun j => zfv G a j (.object C))).setSlot j.toNatClampNeg (va_rf v)) → H'.size = H.size → (∀ q, q ≠ a → H'[q]? = H[q]?) → W p l e R s m args below meth c0 H' (locs ++ [⟨a, j.toNatClampNeg⟩]) (gz G - gz F.2.1) (gu G - gu F.2.1) Q (F0 m (pc + 1) ls (st.map zv)) := by
    intro H' e1 e2 e3
    rw [← u1, ← u2]
    refine k0 H' _ ls ok (hp.upd u1 u3 u4 u5 u6 hfr e2 e3 (zAt.ofArr ht (by rw [u4]; exact h1) ?_)) (hs.put e2 e3 hAa) hl
    rw [e1, arrV_store, u5]
    congr 2
    funext q
    by_cases hq : q = j.toNatClampNeg
    · subst hq
      rw [u8]
      simp [updV, zv]
    · rw [u7 q _ hq]
      simp [updV, hq]
  have hArr := (hT.1.2 t _ (ztys_at ht)).1
  cases v with
  | none => exact va_WaastN (C := C) ok.1 ok.2.1 hc (hArr _ _) (fun h => by cases h) (by rw [arrV_size]; exact hj) rfl rfl hdg fin
  | some b =>
    obtain ⟨E, hKE, hE⟩ := hKs _ h3
    obtain ⟨cell, g1, g2, g3⟩ := zrecv hp hT hKE
    obtain ⟨kA, comp, q1, q2, q3, q4⟩ := (hT.1.2 t _ (ztys_at ht)).2
    obtain ⟨kE, hkE, -⟩ := Vm.findClass_spec g3
    obtain ⟨kC, hkC, -⟩ := Vm.findClass_spec q3
    have hasg : s.vm.assignable cell.cls comp = true := by
      rcases hE with h | h
      · obtain ⟨c1, c2, f1, f2, f3⟩ := Cond.castable_spec (va_Nw.use (A := args) rfl (hT.2.1 _ h))
        cases Option.some.inj (f1.symm.trans g3)
        cases Option.some.inj (f2.symm.trans q3)
        exact f3
      · obtain ⟨h, hx⟩ := h
        subst h
        cases Option.some.inj (q3.symm.trans g3)
        obtain ⟨c, r, hr, rfl⟩ := hx
        have hcl := hT.1.1 c _ (zvcl_at hr)
        have : cell.cls = D.1.1 c := Option.some.inj (g3.symm.trans hcl.2.1)
        rw [this]
        exact va_assign hcl.2
    exact W.aast ok.1 ok.2.1 hc (fun q h => by cases h) (fun h => by cases h) q1 q2 rfl hkC ⟨fun q => hj (Or.inl q), by rw [arrV_size]; exact hlt⟩ g1 (fun q h => by rw [h] at g2; cases g2) hkE hasg rfl rfl hdg fin
/-- checkcast of a thing of a known class -/
theorem j_cast {b index : Nat} {C E : String} (hk : zKc (gK G b) = some E) (hlink : Cond.classLink M.2.1 index C ∈ lw_all) (hE : Cond.castable E C ∈ zxs) (hdg : decode M.1 pc = .ok (.checkcast index, 3)) (kk : J M F G (pc + 3) lv (vR (some b) :: st)) : J M F G pc lv (vR (some b) :: st) :=
  J.st2 (fun ok hp k => va_castY ok.1 ok.2.1 ok.2.2.2.1 (ok.2.2.2.2.1 _ hlink) ((zok_tb ok).2.1 _ hE) (zrecv hp (zok_tb ok) hk) hdg k) kk
theorem j_castS {b index : Nat} {E : String} (hk : zKc (gK G b) = some E) (hc : ∃ (c : Nat) (r : zRw), zcl[c]? = some r ∧ r.1 = E) (hlink : Cond.classLink M.2.1 index E ∈ lw_all) (hdg : decode M.1 pc = .ok (.checkcast index, 3)) (kk : J M F G (pc + 3) lv (vR (some b) :: st)) : J M F G pc lv (vR (some b) :: st) := by
  obtain ⟨c, r, hr, rfl⟩ := hc
  exact J.st2 (fun {p l e R s m args below meth c0 D H locs cells slots Q ls} ok hp k => va_castS ok.1 ok.2.1 ok.2.2.2.1 (ok.2.2.2.2.1 _ hlink) ((zok_tb ok).1.1 c _ (zvcl_at hr)).2 (zrecv hp (zok_tb ok) hk) hdg k) kk
theorem j_inst {b index : Nat} {C E : String} (hk : zKc (gK G b) = some E) (hlink : Cond.classLink M.2.1 index C ∈ lw_all) (hE : Cond.castable E C ∈ zxs) (hdg : decode M.1 pc = .ok (.instanceof index, 3)) (kk : J M F G (pc + 3) lv (vI 1 :: st)) : J M F G pc lv (vR (some b) :: st) :=
  J.st2 (fun ok hp k => va_instY ok.1 ok.2.1 ok.2.2.2.1 (ok.2.2.2.2.1 _ hlink) ((zok_tb ok).2.1 _ hE) (zrecv hp (zok_tb ok) hk) hdg k) kk
/-- a constant of the machine -/
theorem j_gets {index i : Nat} {q : String × String × String × (GS → Value)} {x : zV} (hq : zsts[i]? = some q) (hx : q.2.2.2 G = zv x) (hlink : Cond.fieldLink M.2.1 index q.1 q.2.1 q.2.2.1 ∈ lw_all) (hdg : decode M.1 pc = .ok (.getstatic index, 3)) (kk : J M F G (pc + 3) lv (x :: st)) : J M F G pc lv st := by
  refine J.st2 (fun {p l e R s m args below meth c0 D H locs cells slots Q ls} ok hp k0 => ?_) kk
  obtain ⟨cf, kf, fi, f, a, cell, h1, h2, h3, h4, h5, h6, h7, h8⟩ := hp.2.2.1 q (List.mem_of_getElem? hq)
  exact W.gets ok.1 ok.2.1 ok.2.2.2.1 (ok.2.2.2.2.1 _ hlink) h1 h2 h3 h4 h5 (fun h => by rw [h] at h6; cases h6) (v := zv x) (by rw [h7, hx]) rfl hdg k0
/-! interfaces, nest mates, inherited -/
def zSF (own : String) (index : Nat) (C : String) (x y : MethodName) (b : ByteArray) (L : Nat) (r : Option FieldType) (k : Nat) : Prop :=
  GoodIn lw_all (va_wsF own index C x y (ws_ y b L r)) ∧ (C, x, y) ∈ zfs ∧ (∃ (c : Nat) (q : zRw), zcl[c]? = some q ∧ q.1 = C) ∧ (x.cls ≠ "java/lang/invoke/MethodHandle" ∧ x.cls ≠ "java/lang/invoke/VarHandle" ∧ (parseMethodDescriptor x.desc).map (fun d => d.parameters.length) = some k) ∧ L ≤ 45
theorem lw_F {own : String} {idx : Nat} {C : String} {x y : MethodName} {b : ByteArray} {L : Nat} {r : Option FieldType} (h1 : Cond.methodLink own idx x ∈ lw_all) (h2 : Cond.selects C x y ∈ lw_all) (h3 : Cond.instanceMethod y ∈ lw_all) (h4 : Cond.initialized y.cls ∈ lw_all) (h5 : Cond.code y b L r ∈ lw_all) : GoodIn lw_all (va_wsF own idx C x y (ws_ y b L r)) := by
  refine lw_app ?_ (lw_meth h5)
  intro w hw
  simp only [List.mem_cons, List.not_mem_nil, or_false] at hw
  rcases hw with e | e | e | e
  · rw [e]; exact h1
  · rw [e]; exact h2
  · rw [e]; exact h3
  · rw [e]; exact h4
theorem zrF {index k b L count : Nat} {C : String} {x y : MethodName} {code : ByteArray} {r : Option FieldType} {As : List zV} {o : zO} (hS : zSF M.2.1 index C x y code L r k) (hR : zRuns y (ws_ y code L r) (vR (some b) :: As) (o, G, G1, d)) (hd : d + 1 ≤ F.2.2.2) (hk : zKc (gK G b) = some C) (hst : st = As.reverse ++ vR (some b) :: rest) (hn : As.length = k) (hrest : (rest.map zc).sum ≤ 8) (hdg : decode M.1 pc = .ok (.invokeinterface index count, 5)) : zRun M F G 5 pc lv st rest o G1 d := by
  refine ⟨hR.1, fun h0 h1 p l e R s m args below meth c D Q H locs ls ok hp hl => ?_⟩
  have hT := zok_tb ok
  have hRr := ok.2.2.2.2.2.2.2.2.2.1
  have hfl := ok.2.2.2.2.2.2.2.2.2.2.1
  obtain ⟨s1, s2, ⟨ci, q, hq, hqC⟩, s4, s5⟩ := hS
  subst hst
  have hat : ClassAt s C (D.1.1 ci) := by rw [← hqC]; exact (hT.1.1 ci _ (zvcl_at hq)).2
  exact ⟨_, vx_runF (As := As.map zv) (b := b) (C := C) (rest := rest.map zv) hat (zfixOk ok) (hR.2 l D hfl) (va_cwF k ok.2.2.2.2.1 s1 rfl rfl rfl (hT.2.2.1 _ s2) s4 (zroomR hd s5 hRr)) ⟨zblind, zrecv hp hT hk, fun U hU hW => ⟨rfl, hT.warm hW, by rw [hU]; exact hp.moved hW.alike⟩⟩ rfl (by rw [List.length_map]; exact hn) hl.1 (by simp [zv, va_rf]) (lv_room (zcat hrest)) hdg (zroomC h0 hR.1 h1 hRr)⟩
def zSN (own : String) (index : Nat) (y : MethodName) (host : String) (b : ByteArray) (L : Nat) (r : Option FieldType) (k : Nat) : Prop :=
  Cond.code y b L r ∈ lw_all ∧ Cond.initialized y.cls ∈ lw_all ∧ Cond.methodLinkNest own index y host ∈ zxs ∧ (y.cls ≠ "java/lang/invoke/MethodHandle" ∧ y.cls ≠ "java/lang/invoke/VarHandle" ∧ (parseMethodDescriptor y.desc).map (fun d => d.parameters.length) = some k) ∧ L ≤ 45
theorem zrVN {index k b L : Nat} {C host : String} {y : MethodName} {code : ByteArray} {r : Option FieldType} {As : List zV} {o : zO} (hS : zSN M.2.1 index y host code L r k) (hi : Cond.instanceMethod y ∈ lw_all ∧ Cond.selects C y y ∈ lw_all) (hR : zRuns y (ws_ y code L r) (vR (some b) :: As) (o, G, G1, d)) (hd : d + 1 ≤ F.2.2.2) (hk : zKc (gK G b) = some C) (hst : st = As.reverse ++ vR (some b) :: rest) (hn : As.length = k) (hrest : (rest.map zc).sum ≤ 8) (hdg : decode M.1 pc = .ok (.invokevirtual index, 3)) : zRun M F G 3 pc lv st rest o G1 d := by
  refine ⟨hR.1, fun h0 h1 p l e R s m args below meth c D Q H locs ls ok hp hl => ?_⟩
  have hT := zok_tb ok
  have hts := ok.2.2.2.2.1
  have hRr := ok.2.2.2.2.2.2.2.2.2.1
  have hfl := ok.2.2.2.2.2.2.2.2.2.2.1
  obtain ⟨s1, s2, s3, s4, s5⟩ := hS
  subst hst
  exact ⟨_, vx_runVN (As := As.map zv) (b := b) (C := C) (rest := rest.map zv) (zfixOk ok) (hR.2 l D hfl) ⟨va_cnB k hts (lw_meth s1) rfl rfl rfl (hT.2.1 _ s3) (hts _ s2) s4 (zroomR hd s5 hRr), hts _ hi.1, hts _ hi.2⟩ ⟨zblind, zrecv hp hT hk, fun U hU hW => ⟨rfl, hT.warm hW, by rw [hU]; exact hp.moved hW.alike⟩⟩ rfl (by rw [List.length_map]; exact hn) hl.1 (by simp [zv, va_rf]) (lv_room (zcat hrest)) hdg (zroomC h0 hR.1 h1 hRr)⟩
theorem zrSN {index k L : Nat} {host : String} {y : MethodName} {code : ByteArray} {r : Option FieldType} {As : List zV} {o : zO} (hS : zSN M.2.1 index y host code L r k) (hi : Cond.static y ∈ lw_all) (hR : zRuns y (ws_ y code L r) As (o, G, G1, d)) (hd : d + 1 ≤ F.2.2.2) (hst : st = As.reverse ++ rest) (hn : As.length = k) (hrest : (rest.map zc).sum ≤ 8) (hdg : decode M.1 pc = .ok (.invokestatic index, 3)) : zRun M F G 3 pc lv st rest o G1 d := by
  refine ⟨hR.1, fun h0 h1 p l e R s m args below meth c D Q H locs ls ok hp hl => ?_⟩
  have hT := zok_tb ok
  have hts := ok.2.2.2.2.1
  have hRr := ok.2.2.2.2.2.2.2.2.2.1
  have hfl := ok.2.2.2.2.2.2.2.2.2.2.1
  obtain ⟨s1, s2, s3, s4, s5⟩ := hS
  subst hst
  exact ⟨_, vx_runSN (As := As.map zv) (rest := rest.map zv) (zfixOk ok) (hR.2 l D hfl) ⟨va_cnB k hts (lw_meth s1) rfl rfl rfl (hT.2.1 _ s3) (hts _ s2) s4 (zroomR hd s5 hRr), hts _ hi, trivial⟩ ⟨zblind, fun U hU hW => ⟨rfl, hT.warm hW, by rw [hU]; exact hp.moved hW.alike⟩⟩ rfl (by rw [List.length_map]; exact hn) hl.1 (by simp) (lv_room (zcat hrest)) hdg (zroomC h0 hR.1 h1 hRr)⟩
theorem zrIN {index k b L : Nat} {host : String} {y : MethodName} {code : ByteArray} {As : List zV} {o : zO} (hS : zSN M.2.1 index y host code L none k) (hi : y.name = "<init>" ∧ Cond.instanceMethod y ∈ lw_all) (hR : zRuns y (ws_ y code L none) (vR (some b) :: As) (o, G, G1, d)) (hd : d + 1 ≤ F.2.2.2) (hst : st = As.reverse ++ vR (some b) :: rest) (hn : As.length = k) (hrest : (rest.map zc).sum ≤ 8) (hdg : decode M.1 pc = .ok (.invokespecial index, 3)) : zRun M F G 3 pc lv st rest o G1 d := by
  refine ⟨hR.1, fun h0 h1 p l e R s m args below meth c D Q H locs ls ok hp hl => ?_⟩
  have hT := zok_tb ok
  have hts := ok.2.2.2.2.1
  have hRr := ok.2.2.2.2.2.2.2.2.2.1
  have hfl := ok.2.2.2.2.2.2.2.2.2.2.1
  obtain ⟨s1, s2, s3, s4, s5⟩ := hS
  subst hst
  exact ⟨_, vx_runIN (As := As.map zv) (b := b) (rest := rest.map zv) (zfixOk ok) (hR.2 l D hfl) ⟨va_cnB k hts (lw_meth s1) rfl rfl rfl (hT.2.1 _ s3) (hts _ s2) s4 (zroomR hd s5 hRr), hi.1, hts _ hi.2⟩ ⟨zblind, fun U hU hW => ⟨rfl, hT.warm hW, by rw [hU]; exact hp.moved hW.alike⟩⟩ rfl (by rw [List.length_map]; exact hn) hl.1 (by simp [zv, va_rf]) (lv_room (zcat hrest)) hdg (zroomC h0 hR.1 h1 hRr)⟩
/-- Object's own constructor -/
theorem j_objinit {b index : Nat} (hlink : Cond.methodLink M.2.1 index objectInit ∈ lw_all) (hin : Cond.instanceMethod objectInit ∈ lw_all) (hcode : Cond.code objectInit ⟨#[0xb1]⟩ 1 none ∈ lw_all) (hd : 1 ≤ F.2.2.2) (hrest : (st.map zc).sum ≤ 8) (hdg : decode M.1 pc = .ok (.invokespecial index, 3)) (kk : J M F G (pc + 3) lv st) : J M F G pc lv (vR (some b) :: st) := by
  refine ⟨kk.1, fun h0 p l e R s m args below meth c D Q H locs ls ok hp hs hl => ?_⟩
  have k0 := kk.2 h0 p l e R s m args below meth c D Q H locs ls ok hp hs hl
  have hts := ok.2.2.2.2.1
  have hRr := ok.2.2.2.2.2.2.2.2.2.1
  have hml := ok.2.2.1
  have hr := lv_room (m := m) (pc := pc) (ls := ls) (rest := (vR (some b) :: st).map zv) (zcat hrest)
  refine W.objInit ok.1 ok.2.1 ok.2.2.2.1 (hts _ hlink) (hts _ hin) (hts _ hcode) rfl (by rw [hml]; exact hl.1) rfl hdg (by omega) (by omega) ?_
  exact k0
end zRefs
