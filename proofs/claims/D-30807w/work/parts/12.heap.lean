/-! ===== rows that read and write worlds ===== -/
def zin (j : Int32) (n : Nat) : Bool := decide (0 ≤ j) && decide (j.toNatClampNeg < n)
theorem zin_spec {j : Int32} {n : Nat} (h : zin j n = true) : ¬ (j < 0 ∨ n ≤ j.toNatClampNeg) := by
  simp only [zin, Bool.and_eq_true, decide_eq_true_eq] at h
  rintro (q | q)
  · exact absurd q (by have := h.1; grind)
  · omega
def zgI (G : GS) (K a k : Nat) : Option Int32 := if gK G a = K then some (gI G a k) else none
def zgL (G : GS) (K a k : Nat) : Option Int64 := if gK G a = K then some (gL G a k) else none
def zgR (G : GS) (K a k : Nat) : Option (Option Nat) := if gK G a = K then some (gR G a k) else none
def zpI (G : GS) (K a k : Nat) (v : Int32) : Option GS := if gK G a = K then some (sI G a k v) else none
def zpZ (G : GS) (K a k : Nat) (v : Int32) : Option GS := if gK G a = K ∧ (v = 0 ∨ v = 1) then some (sI G a k v) else none
def zpB (G : GS) (K a k : Nat) (v : Int32) : Option GS := if gK G a = K ∧ v.toInt8.toInt32 = v ∧ (-128 ≤ v ∧ v ≤ 127) then some (sI G a k v) else none
def zpR (G : GS) (K a k : Nat) (v : Option Nat) : Option GS := if gK G a = K then some (sR G a k v) else none
def zaI (G : GS) (K a : Nat) (j : Int32) : Option Int32 := if gK G a = K ∧ zin j (gN G a) = true then some (gI G a j.toNatClampNeg) else none
def zaL (G : GS) (K a : Nat) (j : Int32) : Option Int64 := if gK G a = K ∧ zin j (gN G a) = true then some (gL G a j.toNatClampNeg) else none
def zaR (G : GS) (K a : Nat) (j : Int32) : Option (Option Nat) := if gK G a = K ∧ zin j (gN G a) = true then some (gR G a j.toNatClampNeg) else none
def zsI (G : GS) (K a : Nat) (j v : Int32) : Option GS := if gK G a = K ∧ zin j (gN G a) = true then some (sI G a j.toNatClampNeg v) else none
def zsZ (G : GS) (K a : Nat) (j v : Int32) : Option GS := if gK G a = K ∧ zin j (gN G a) = true then some (sI G a j.toNatClampNeg (v &&& 1)) else none
def zsB (G : GS) (K a : Nat) (j v : Int32) : Option GS := if gK G a = K ∧ zin j (gN G a) = true then some (sI G a j.toNatClampNeg v.toInt8.toInt32) else none
def zsL (G : GS) (K a : Nat) (j : Int32) (v : Int64) : Option GS := if gK G a = K ∧ zin j (gN G a) = true then some (sL G a j.toNatClampNeg v) else none
/-- the class of a kind -/
def zKc (k : Nat) : Option String := if k = 61 then some "java/lang/Integer" else if k = 65 then some "jdk/internal/misc/Unsafe" else if k = 0 then none else (zcl[k - 1]?).map (fun r => r.1)
/-- a store into an array of references of a thing of one of the kinds Ks, or of null -/
def zsR (G : GS) (K a : Nat) (j : Int32) (v : Option Nat) (Ks : List Nat) : Option GS := if gK G a = K ∧ zin j (gN G a) = true ∧ (match v with | none => true | some b => Ks.contains (gK G b)) = true then some (sR G a j.toNatClampNeg v) else none
def zln (G : GS) (a : Nat) : Option Int32 := if (50 ≤ gK G a ∧ gK G a ≤ 55) ∨ gK G a = 60 ∨ gK G a = 62 ∨ gK G a = 63 then some (nI (gN G a)) else none
def zna (G : GS) (K : Nat) (n : Int32) : Option GS := if 0 ≤ n ∧ n.toNatClampNeg ≤ 60000 then some (al G K n.toNatClampNeg n.toNatClampNeg) else none
theorem ite_some {α : Type} {c : Prop} [Decidable c] {x y : α} (h : (if c then some x else none) = some y) : c ∧ x = y := by
  by_cases hc : c
  · rw [if_pos hc] at h
    exact ⟨hc, Option.some.inj h⟩
  · rw [if_neg hc] at h
    cases h
/-- a field, as the code of 'own' names it by its entry 'index' -/
def zFP (own : String) (index c k : Nat) (ty : FieldType) (fin : Bool) : Prop :=
  ∃ r : String × u_T × Nat × (Nat → FieldType), zcl[c]? = some r ∧ k < r.2.2.1 ∧ (∀ w ∈ u_ws r.1 r.2.1 r.2.2.1, w ∈ lw_all) ∧ (∀ j, j < r.2.2.1 → parseFieldDescriptor (r.2.1 j).2.2.1 = some (r.2.2.2 j)) ∧ (∀ a, a < r.2.2.1 → ∀ b, b < r.2.2.1 → a ≠ b → (r.2.1 a).2.1 ≠ (r.2.1 b).2.1) ∧ r.2.2.2 k = ty ∧ (r.2.1 k).2.2.2 = fin ∧ (fin = true → (r.2.1 k).1 = own) ∧
  ∃ ref : String, (ref = (r.2.1 k).1 ∨ Cond.sameField ref (r.2.1 k).1 (r.2.1 k).2.1 (r.2.1 k).2.2.1 ∈ lw_all) ∧ Cond.fieldLink own index ref (r.2.1 k).2.1 (r.2.1 k).2.2.1 ∈ lw_all
/-- .. to be read, perhaps of a nest mate -/
def zFG (own : String) (index c k : Nat) (ty : FieldType) : Prop :=
  ∃ r : String × u_T × Nat × (Nat → FieldType), zcl[c]? = some r ∧ k < r.2.2.1 ∧ (∀ w ∈ u_ws r.1 r.2.1 r.2.2.1, w ∈ lw_all) ∧ r.2.2.2 k = ty ∧
  ∃ ref : String, (ref = (r.2.1 k).1 ∨ Cond.sameField ref (r.2.1 k).1 (r.2.1 k).2.1 (r.2.1 k).2.2.1 ∈ lw_all) ∧ (Cond.fieldLink own index ref (r.2.1 k).2.1 (r.2.1 k).2.2.1 ∈ lw_all ∨ ∃ host : String, Cond.fieldLinkNest own index ref (r.2.1 k).2.1 (r.2.1 k).2.2.1 host ∈ zxs)
theorem zFP.get {own : String} {index c k : Nat} {ty : FieldType} {fin : Bool} (h : zFP own index c k ty fin) : zFG own index c k ty := by
  obtain ⟨r, h1, h2, h3, h4, h5, h6, h7, h8, ref, h9, h10⟩ := h
  exact ⟨r, h1, h2, h3, h6, ref, h9, Or.inl h10⟩
theorem zxs_tab : ∀ w ∈ zxs, w.onTables = true := by decide +kernel
section zHeap
variable {M : zM} {F : zF} {G G1 : GS} {pc : Nat} {lv : List (Nat × zV)} {st : List zV}
theorem zvcl_at {c : Nat} {r : String × u_T × Nat × (Nat → FieldType)} (h : zcl[c]? = some r) : zvcl[c]? = some (r.1, r.2.1, r.2.2.1) := by rw [zvcl_eq, List.getElem?_map, h]; rfl
theorem zfound {own ref f : String} {T1 : String} {d : String} {s : State} {args : Array Value} (hs : ref = T1 ∨ Cond.sameField ref T1 f d ∈ lw_all) (hts : ∀ w ∈ lw_all, w.before args s = true) (x : ClassId × Class × Nat × Field) (h : s.fieldFound? T1 f d = some x) : s.fieldFound? ref f d = some x := by
  rcases hs with e | e
  · rw [e]; exact h
  · exact u_same (hts _ e) x h
/-- a field's value comes onto the stack -/
theorem j_get {a c k index : Nat} {ty : FieldType} {x : zV} (hf : zFG M.2.1 index c k ty) (hdg : decode M.1 pc = .ok (.getfield index, 3)) (hk : gK G a = c + 1) (hx : zfv G a k ty = zv x) (kk : J M F G (pc + 3) lv (x :: st)) : J M F G pc lv (vR (some a) :: st) := by
  refine J.st2 (fun {p l e R s m args below meth c0 D H locs cells slots Q ls} ok hp k0 => ?_) kk
  obtain ⟨r, hc, hkN, hin, ht, ref, hs, hl⟩ := hf
  have hTb : zTb D s := ok.2.2.2.2.2.2.2.2.2.2.2.2.2.2.2
  obtain ⟨hx1, hb1, -, hown, hts, -⟩ := ok
  obtain ⟨cell, q1, q2, q3, q4⟩ := (hp.2.1 a).1 c r hc hk
  obtain ⟨hS, hfc, kC, hkC, hkind⟩ := hTb.1.1 c _ (zvcl_at hc)
  obtain ⟨cf, kf, fi, f, hi, hsl⟩ := hS k hkN
  have hst := (u_facts hfc hkC (u_lays hts hin hkN) hi).1
  have hv : cell.slots[f.slot]? = some (zv x) := by rw [hsl, q4 k hkN, ← hx, ← ht]
  rcases hl with hl | ⟨host, hl⟩
  · exact W.getf hx1 hb1 hown (hts _ hl) (zfound (own := M.2.1) hs hts _ hi) hst q1 (by rw [q3]; exact fun h => by cases h) hv rfl rfl hdg k0
  · exact va_Wgetf hx1 hb1 hown (va_Nw.use (zxs_tab _ hl) (hTb.2.1 _ hl)) (zfound (own := M.2.1) hs hts _ hi) hst q1 (by rw [q3]; exact fun h => by cases h) hv rfl rfl hdg k0
/-- a change of one place -/
def zUpd (G G' : GS) (a k : Nat) (ty : FieldType) (v : zV) : Prop := gz G' = gz G ∧ gu G' = gu G ∧ gS G' = gS G ∧ gK G' = gK G ∧ gN G' = gN G ∧ (∀ b, b ≠ a → ∀ j t, zfv G' b j t = zfv G b j t) ∧ (∀ j t, j ≠ k → zfv G' a j t = zfv G a j t) ∧ zfv G' a k ty = zv v
theorem zUpd_I {G : GS} {a k : Nat} {v : Int32} {ty : FieldType} (h : ∀ (G : GS) (a k : Nat), zfv G a k ty = .int (gI G a k)) : zUpd G (sI G a k v) a k ty (vI v) := by
  refine ⟨rfl, rfl, rfl, rfl, rfl, fun b hb j t => ?_, fun j t hj => ?_, ?_⟩
  · exact zfv_congr (G := G) (G' := sI G a k v) (fun k' => by rw [gI_sI G a k b k' v, if_neg (fun q => hb q.1)]) (fun _ => rfl) (fun _ => rfl) j t
  · cases t <;> simp only [zfv, gI_sI, gL_sI, gR_sI] <;> simp [hj]
  · rw [h, gI_sI, if_pos ⟨rfl, rfl⟩]
    rfl
theorem zUpd_L {G : GS} {a k : Nat} {v : Int64} : zUpd G (sL G a k v) a k .long (vL v) := by
  refine ⟨rfl, rfl, rfl, rfl, rfl, fun b hb j t => ?_, fun j t hj => ?_, ?_⟩
  · exact zfv_congr (G := G) (G' := sL G a k v) (fun _ => rfl) (fun k' => by rw [gL_sL G a k b k' v, if_neg (fun q => hb q.1)]) (fun _ => rfl) j t
  · cases t <;> simp only [zfv, gI_sL, gL_sL, gR_sL] <;> simp [hj]
  · show Value.long _ = _
    rw [gL_sL, if_pos ⟨rfl, rfl⟩]
    rfl
theorem zUpd_R {G : GS} {a k : Nat} {v : Option Nat} {ty : FieldType} (h : ∀ (G : GS) (a k : Nat), zfv G a k ty = va_rf (gR G a k)) : zUpd G (sR G a k v) a k ty (vR v) := by
  refine ⟨rfl, rfl, rfl, rfl, rfl, fun b hb j t => ?_, fun j t hj => ?_, ?_⟩
  · exact zfv_congr (G := G) (G' := sR G a k v) (fun _ => rfl) (fun _ => rfl) (fun k' => by rw [gR_sR G a k b k' v, if_neg (fun q => hb q.1)]) j t
  · cases t <;> simp only [zfv, gI_sR, gL_sR, gR_sR] <;> simp [hj]
  · rw [h, gR_sR, if_pos ⟨rfl, rfl⟩]
    rfl
theorem zUpd.le {G G' : GS} {a k : Nat} {ty : FieldType} {v : zV} (h : zUpd G G' a k ty v) : zle G G' := by
  obtain ⟨h1, h2, h3, h4, h5, -⟩ := h
  exact ⟨by rw [h1]; exact Nat.le_refl _, by rw [h2]; exact Nat.le_refl _, h3, fun b _ => by rw [h4, h5]; exact ⟨rfl, rfl⟩⟩
theorem zfree_le {G G' : GS} {a : Nat} (h : zle G G') (ha : a < gz G) (hf : zfree G a) : zfree G' a := by
  unfold zfree at *
  rw [(h.2.2.2 a ha).1]
  exact hf
/-- a place of a made thing is written -/
theorem j_put {a c k index : Nat} {ty : FieldType} {fin : Bool} {v : zV} {G' : GS} (hf : zFP M.2.1 index c k ty fin) (hfin : fin = false ∨ M.2.2.2.2.1 = "<init>") (hdg : decode M.1 pc = .ok (.putfield index, 3)) (hk : gK G a = c + 1) (hn : narrow ty (zv v) = zv v) (hfit : fits ty (zv v) = true) (hU : zUpd G G' a k ty v) (kk : J M F G' (pc + 3) lv st) : J M F G pc lv (v :: vR (some a) :: st) := by
  refine ⟨zle_trans hU.le kk.1, fun h0 p l e R s m args below meth c0 D Q H locs ls ok hp hs hl => ?_⟩
  have k0 := kk.2 (zle_trans h0 hU.le) p l e R s m args below meth c0 D Q
  obtain ⟨r, hc, hkN, hin, hty, hnm, ht, hfn, hown2, ref, hsm, hlk⟩ := hf
  have hx1 := ok.1
  have hb1 := ok.2.1
  have hown := ok.2.2.2.1
  have hts := ok.2.2.2.2.1
  have hmn := ok.2.2.2.2.2.2.2.1.1
  have hTb : zTb D s := ok.2.2.2.2.2.2.2.2.2.2.2.2.2.2.2
  have hOB := (hp.2.1 a).1 c r hc hk
  obtain ⟨cell, q1, q2, q3, q4⟩ := hOB
  obtain ⟨hS, hfc, kC, hkC, hkind⟩ := hTb.1.1 c _ (zvcl_at hc)
  have hap : ∀ x y, x < r.2.2.1 → y < r.2.2.1 → x ≠ y → D.1.2 c x ≠ D.1.2 c y := va_apart (own := M.2.1) hts hin r.2.2.2 hty hnm hTb.1 (zvcl_at hc)
  obtain ⟨cf, kf, fi, f, hi, hsl⟩ := hS k hkN
  have hlay := hts _ (hin _ (u_in_lay hkN))
  have hst := (u_facts hfc hkC (u_lays hts hin hkN) hi).1
  have ha : a < gz G := by rw [← hp.1]; exact (Array.getElem?_eq_some_iff.mp q1).1
  have hfr : zfree G a := ⟨by omega, by have := zcl_lt hc; omega⟩
  have hAa : zA F a := Or.inl (zfree_le (zle_trans hU.le kk.1) ha hfr)
  obtain ⟨u1, u2, u3, u4, u5, u6, u7, u8⟩ := hU
  have fin2 : ∀ H' : Heap, H'[a]? = some (cell.setSlot f.slot (zv v)) → H'.size = H.size → (∀ q, q ≠ a → H'[q]? = H[q]?) → W p l e R s m args below meth c0 H' (locs ++ [⟨a, f.slot⟩]) (gz G - gz F.2.1) (gu G - gu F.2.1) Q (F0 m (pc + 3) ls (st.map zv)) := by
    intro H' e1 e2 e3
    rw [← u1, ← u2]
    refine k0 H' _ ls ok (hp.upd u1 u3 u4 u5 u6 hfr e2 e3 (zAt.ofObj hc (by rw [u4]; exact hk) ?_)) (hs.put e2 e3 hAa) hl
    refine ⟨_, e1, q2, q3, fun j hj => ?_⟩
    have h9 := t_set (V := fun j => zfv G a j (r.2.2.2 j)) q4 hap hkN (zv v) j hj
    rw [hsl, h9]
    by_cases hjk : j = k
    · subst hjk
      show some (updV _ _ _ _) = some (zfv G' a j (r.2.2.2 j))
      rw [ht, u8]
      simp [updV]
    · show some (updV _ _ _ _) = some (zfv G' a j (r.2.2.2 j))
      rw [u7 j _ hjk]
      simp [updV, hjk]
  unfold u_lay at hlay
  cases hfb : fin with
  | false =>
    rw [if_neg (by rw [hfn, hfb]; decide)] at hlay
    have h6 := u_store hfc hkC hkind hlay hi (by rw [← ht]; exact hty k hkN) hn hfit
    exact W.putK hx1 hb1 (f := f) ⟨hown, hts _ hlk, ⟨_, _, _, zfound (own := M.2.1) hsm hts _ hi⟩, hst⟩ (by rw [q2]; exact h6) q1 q3 (by rw [hsl]; exact k2_hasslot (q4 k hkN)) rfl rfl hdg fin2
  | true =>
    rw [if_pos (by rw [hfn, hfb])] at hlay
    have hin2 : meth.name = "<init>" := by
      rcases hfin with h | h
      · rw [hfb] at h; cases h
      · rw [hmn]; exact h
    have hcf : m.cls = cf := by
      obtain ⟨_, _, c', _, _, _, -, -, hf', -, -, -, hown3, -⟩ := Cond.laysFinal_spec hlay
      have e1 : c' = cf := by have := hi.symm.trans hf'; simp at this; exact this.1.symm
      rw [hown2 hfb] at hown3
      rw [← e1]; exact Option.some.inj (hown.symm.trans hown3)
    have h6 := u_fits hfc hkC hkind (Or.inr hlay) hi (by rw [← ht]; exact hty k hkN) hn hfit
    exact W.putFinK hx1 hb1 hown (hts _ hlk) (zfound (own := M.2.1) hsm hts _ hi) hst hcf hin2 (by rw [q2]; exact h6) q1 q3 (by rw [hsl]; exact k2_hasslot (q4 k hkN)) rfl rfl hdg fin2
theorem zLA.of {D : zD} {s : State} {G : GS} {a t : Nat} {ty : FieldType} {H : Heap} (hp : zHp D G s H) (hT : zTb D s) (ht : zar[t]? = some ty) (hk : gK G a = 50 + t) : zLA s G a ty H :=
  ⟨_, (hp.2.1 a).2.1 t ty ht hk, (hT.1.2 t _ (ztys_at ht)).1 _ _, (fun h => by cases h), arrV_size _ _ _, fun j hj => arrV_read _ _ hj⟩
theorem zok_tb {F : zF} {p : Program} {l : Launch} {R : Room} {s : State} {m : MethodId} {args : Array Value} {below : List Frame} {meth : Method} {c : Code} {D : zD} {Q : State → Prop} (ok : zOk M F p l R s m args below meth c D Q) : zTb D s := ok.2.2.2.2.2.2.2.2.2.2.2.2.2.2.2
theorem j_alen {a : Nat} {x : Int32} (hv : zln G a = some x) (hdg : decode M.1 pc = .ok (.arraylength, 1)) (kk : J M F G (pc + 1) lv (vI x :: st)) : J M F G pc lv (vR (some a) :: st) := by
  refine J.st2 (fun {p l e R s m args below meth c0 D H locs cells slots Q ls} ok hp k0 => ?_) kk
  obtain ⟨h1, rfl⟩ := ite_some hv
  have key : ∀ ty, zLA s G a ty H → W p l e R s m args below meth c0 H locs cells slots Q (F0 m pc ls ((vR (some a) :: st).map zv)) := fun ty h => by
    obtain ⟨cell, g1, g2, g3, g4, g5⟩ := h
    exact W.alen (n := nI (gN G a)) ok.1 ok.2.1 g1 g2 (by rw [g4]; rfl) rfl rfl hdg k0
  have hT := zok_tb ok
  rcases (by omega : gK G a = 50 + 0 ∨ gK G a = 50 + 1 ∨ gK G a = 50 + 2 ∨ gK G a = 50 + 3 ∨ gK G a = 50 + 4 ∨ gK G a = 50 + 5 ∨ gK G a = 60 ∨ gK G a = 62 ∨ gK G a = 63) with h | h | h | h | h | h | h | h | h
  · exact key _ (zLA.of hp hT (ty := .int) rfl h)
  · exact key _ (zLA.of hp hT (ty := .long) rfl h)
  · exact key _ (zLA.of hp hT (ty := .boolean) rfl h)
  · exact key _ (zLA.of hp hT (ty := .byte) rfl h)
  · exact key _ (zLA.of hp hT (ty := .object "java/lang/Object") rfl h)
  · exact key _ (zLA.of hp hT (ty := .object "SelahGenerator$Strings") rfl h)
  · exact key _ ((hp.2.1 a).2.2.1 h)
  · exact key _ ((hp.2.1 a).2.2.2.2.1 h).1
  · exact key _ ((hp.2.1 a).2.2.2.2.2.1 h)
theorem j_iald {K a : Nat} {j : Int32} {x : Int32} (hK : K = 50 ∨ K = 60) (hv : zaI G K a j = some x) (hdg : decode M.1 pc = .ok (.iaload, 1)) (kk : J M F G (pc + 1) lv (vI x :: st)) : J M F G pc lv (vI j :: vR (some a) :: st) := by
  refine J.st2 (fun {p l e R s m args below meth c0 D H locs cells slots Q ls} ok hp k0 => ?_) kk
  obtain ⟨⟨h1, h2⟩, rfl⟩ := ite_some hv
  have hj := zin_spec h2
  have hlt : j.toNatClampNeg < gN G a := Nat.not_le.mp fun q => hj (Or.inr q)
  have key : ∀ ty : FieldType, ty = .int → zLA s G a ty H → W p l e R s m args below meth c0 H locs cells slots Q (F0 m pc ls ((vI j :: vR (some a) :: st).map zv)) := fun ty hty h => by
    obtain ⟨cell, g1, g2, g3, g4, g5⟩ := h
    subst hty
    exact W.iald (v := .int (gI G a j.toNatClampNeg)) ok.1 ok.2.1 g1 g2 g3 (by rw [g4]; exact hj) (g5 _ hlt) rfl rfl hdg k0
  have hT := zok_tb ok
  rcases hK with rfl | rfl
  · exact key _ rfl (zLA.of hp hT (t := 0) (ty := .int) rfl h1)
  · exact key _ rfl ((hp.2.1 a).2.2.1 h1)
theorem j_zald {K a : Nat} {j : Int32} {x : Int32} (hK : K = 52) (hv : zaI G K a j = some x) (hdg : decode M.1 pc = .ok (.baload, 1)) (kk : J M F G (pc + 1) lv (vI x :: st)) : J M F G pc lv (vI j :: vR (some a) :: st) := by
  refine J.st2 (fun {p l e R s m args below meth c0 D H locs cells slots Q ls} ok hp k0 => ?_) kk
  obtain ⟨⟨h1, h2⟩, rfl⟩ := ite_some hv
  have hj := zin_spec h2
  have hlt : j.toNatClampNeg < gN G a := Nat.not_le.mp fun q => hj (Or.inr q)
  have key : ∀ ty : FieldType, ty = .boolean → zLA s G a ty H → W p l e R s m args below meth c0 H locs cells slots Q (F0 m pc ls ((vI j :: vR (some a) :: st).map zv)) := fun ty hty h => by
    obtain ⟨cell, g1, g2, g3, g4, g5⟩ := h
    subst hty
    exact W.zald (v := .int (gI G a j.toNatClampNeg)) ok.1 ok.2.1 g1 g2 g3 (by rw [g4]; exact hj) (g5 _ hlt) rfl rfl hdg k0
  have hT := zok_tb ok
  subst hK
  exact key _ rfl (zLA.of hp hT (t := 2) (ty := .boolean) rfl h1)
theorem j_bald {K a : Nat} {j : Int32} {x : Int32} (hK : K = 53) (hv : zaI G K a j = some x) (hdg : decode M.1 pc = .ok (.baload, 1)) (kk : J M F G (pc + 1) lv (vI x :: st)) : J M F G pc lv (vI j :: vR (some a) :: st) := by
  refine J.st2 (fun {p l e R s m args below meth c0 D H locs cells slots Q ls} ok hp k0 => ?_) kk
  obtain ⟨⟨h1, h2⟩, rfl⟩ := ite_some hv
  have hj := zin_spec h2
  have hlt : j.toNatClampNeg < gN G a := Nat.not_le.mp fun q => hj (Or.inr q)
  have key : ∀ ty : FieldType, ty = .byte → zLA s G a ty H → W p l e R s m args below meth c0 H locs cells slots Q (F0 m pc ls ((vI j :: vR (some a) :: st).map zv)) := fun ty hty h => by
    obtain ⟨cell, g1, g2, g3, g4, g5⟩ := h
    subst hty
    exact W.bald (v := .int (gI G a j.toNatClampNeg)) ok.1 ok.2.1 g1 g2 g3 (by rw [g4]; exact hj) (g5 _ hlt) rfl rfl hdg k0
  have hT := zok_tb ok
  subst hK
  exact key _ rfl (zLA.of hp hT (t := 3) (ty := .byte) rfl h1)
theorem j_lald {K a : Nat} {j : Int32} {x : Int64} (hK : K = 51) (hv : zaL G K a j = some x) (hdg : decode M.1 pc = .ok (.laload, 1)) (kk : J M F G (pc + 1) lv (vL x :: st)) : J M F G pc lv (vI j :: vR (some a) :: st) := by
  refine J.st2 (fun {p l e R s m args below meth c0 D H locs cells slots Q ls} ok hp k0 => ?_) kk
  obtain ⟨⟨h1, h2⟩, rfl⟩ := ite_some hv
  have hj := zin_spec h2
  have hlt : j.toNatClampNeg < gN G a := Nat.not_le.mp fun q => hj (Or.inr q)
  have key : ∀ ty : FieldType, ty = .long → zLA s G a ty H → W p l e R s m args below meth c0 H locs cells slots Q (F0 m pc ls ((vI j :: vR (some a) :: st).map zv)) := fun ty hty h => by
    obtain ⟨cell, g1, g2, g3, g4, g5⟩ := h
    subst hty
    exact W.lald (v := .long (gL G a j.toNatClampNeg)) ok.1 ok.2.1 g1 g2 g3 (by rw [g4]; exact hj) (g5 _ hlt) rfl rfl hdg k0
  have hT := zok_tb ok
  subst hK
  exact key _ rfl (zLA.of hp hT (t := 1) (ty := .long) rfl h1)
theorem j_aald {K a : Nat} {j : Int32} {x : Option Nat} (hK : K = 54 ∨ K = 55 ∨ K = 62 ∨ K = 63) (hv : zaR G K a j = some x) (hdg : decode M.1 pc = .ok (.aaload, 1)) (kk : J M F G (pc + 1) lv (vR x :: st)) : J M F G pc lv (vI j :: vR (some a) :: st) := by
  refine J.st2 (fun {p l e R s m args below meth c0 D H locs cells slots Q ls} ok hp k0 => ?_) kk
  obtain ⟨⟨h1, h2⟩, rfl⟩ := ite_some hv
  have hj := zin_spec h2
  have hlt : j.toNatClampNeg < gN G a := Nat.not_le.mp fun q => hj (Or.inr q)
  have key : ∀ ty : FieldType, (∃ C, ty = .object C) → zLA s G a ty H → W p l e R s m args below meth c0 H locs cells slots Q (F0 m pc ls ((vI j :: vR (some a) :: st).map zv)) := fun ty hty h => by
    obtain ⟨cell, g1, g2, g3, g4, g5⟩ := h
    obtain ⟨C, rfl⟩ := hty
    exact W.aald (ty := .object C) (v := va_rf (gR G a j.toNatClampNeg)) ok.1 ok.2.1 g1 g2 rfl g3 (by rw [g4]; exact hj) (g5 _ hlt) rfl rfl hdg k0
  have hT := zok_tb ok
  rcases hK with rfl | rfl | rfl | rfl
  · exact key _ ⟨_, rfl⟩ (zLA.of hp hT (t := 4) (ty := .object "java/lang/Object") rfl h1)
  · exact key _ ⟨_, rfl⟩ (zLA.of hp hT (t := 5) (ty := .object "SelahGenerator$Strings") rfl h1)
  · exact key _ ⟨_, rfl⟩ ((hp.2.1 a).2.2.2.2.1 h1).1
  · exact key _ ⟨_, rfl⟩ ((hp.2.1 a).2.2.2.2.2.1 h1)
theorem j_iast {a : Nat} {j : Int32} {x : Int32} {G' : GS} (hv : zsI G 50 a j x = some G') (hdg : decode M.1 pc = .ok (.iastore, 1)) (kk : J M F G' (pc + 1) lv st) : J M F G pc lv (vI x :: vI j :: vR (some a) :: st) := by
  obtain ⟨⟨h1, h2⟩, rfl⟩ := ite_some hv
  have hU := zUpd_I (G := G) (a := a) (k := j.toNatClampNeg) (v := x) (ty := .int) (fun _ _ _ => rfl)
  refine ⟨zle_trans hU.le kk.1, fun h0 p l e R s m args below meth c0 D Q H locs ls ok hp hs hl => ?_⟩
  have k0 := kk.2 (zle_trans h0 hU.le) p l e R s m args below meth c0 D Q
  have hj := zin_spec h2
  have hlt : j.toNatClampNeg < gN G a := Nat.not_le.mp fun q => hj (Or.inr q)
  have hT := zok_tb ok
  have hc := (hp.2.1 a).2.1 0 .int rfl h1
  have ha : a < gz G := by rw [← hp.1]; exact (Array.getElem?_eq_some_iff.mp hc).1
  have hfr : zfree G a := ⟨by omega, by omega⟩
  have hAa : zA F a := Or.inl (zfree_le (zle_trans hU.le kk.1) ha hfr)
  obtain ⟨u1, u2, u3, u4, u5, u6, u7, u8⟩ := hU
  refine W.iast ok.1 ok.2.1 hc ((hT.1.2 0 _ (ztys_at (ty := .int) rfl)).1 _ _) (fun h => by cases h) (by rw [arrV_size]; exact hj) rfl rfl hdg fun H' e1 e2 e3 => ?_
  rw [← u1, ← u2]
  refine k0 H' _ ls ok (hp.upd u1 u3 u4 u5 u6 hfr e2 e3 (zAt.ofArr (t := 0) (ty := .int) rfl (by rw [u4]; exact h1) ?_)) (hs.put e2 e3 hAa) hl
  rw [e1, arrV_store, u5]
  congr 2
  funext q
  by_cases hq : q = j.toNatClampNeg
  · subst hq
    rw [u8]
    simp [updV, zv, narrow]
  · rw [u7 q _ hq]
    simp [updV, hq]
theorem j_zast {a : Nat} {j : Int32} {x : Int32} {G' : GS} (hv : zsZ G 52 a j x = some G') (hdg : decode M.1 pc = .ok (.bastore, 1)) (kk : J M F G' (pc + 1) lv st) : J M F G pc lv (vI x :: vI j :: vR (some a) :: st) := by
  obtain ⟨⟨h1, h2⟩, rfl⟩ := ite_some hv
  have hU := zUpd_I (G := G) (a := a) (k := j.toNatClampNeg) (v := x &&& 1) (ty := .boolean) (fun _ _ _ => rfl)
  refine ⟨zle_trans hU.le kk.1, fun h0 p l e R s m args below meth c0 D Q H locs ls ok hp hs hl => ?_⟩
  have k0 := kk.2 (zle_trans h0 hU.le) p l e R s m args below meth c0 D Q
  have hj := zin_spec h2
  have hlt : j.toNatClampNeg < gN G a := Nat.not_le.mp fun q => hj (Or.inr q)
  have hT := zok_tb ok
  have hc := (hp.2.1 a).2.1 2 .boolean rfl h1
  have ha : a < gz G := by rw [← hp.1]; exact (Array.getElem?_eq_some_iff.mp hc).1
  have hfr : zfree G a := ⟨by omega, by omega⟩
  have hAa : zA F a := Or.inl (zfree_le (zle_trans hU.le kk.1) ha hfr)
  obtain ⟨u1, u2, u3, u4, u5, u6, u7, u8⟩ := hU
  refine W.zast ok.1 ok.2.1 hc ((hT.1.2 2 _ (ztys_at (ty := .boolean) rfl)).1 _ _) (fun h => by cases h) (by rw [arrV_size]; exact hj) rfl rfl hdg fun H' e1 e2 e3 => ?_
  rw [← u1, ← u2]
  refine k0 H' _ ls ok (hp.upd u1 u3 u4 u5 u6 hfr e2 e3 (zAt.ofArr (t := 2) (ty := .boolean) rfl (by rw [u4]; exact h1) ?_)) (hs.put e2 e3 hAa) hl
  rw [e1, arrV_store, u5]
  congr 2
  funext q
  by_cases hq : q = j.toNatClampNeg
  · subst hq
    rw [u8]
    simp [updV, zv, narrow]
  · rw [u7 q _ hq]
    simp [updV, hq]
theorem j_bast {a : Nat} {j : Int32} {x : Int32} {G' : GS} (hv : zsB G 53 a j x = some G') (hdg : decode M.1 pc = .ok (.bastore, 1)) (kk : J M F G' (pc + 1) lv st) : J M F G pc lv (vI x :: vI j :: vR (some a) :: st) := by
  obtain ⟨⟨h1, h2⟩, rfl⟩ := ite_some hv
  have hU := zUpd_I (G := G) (a := a) (k := j.toNatClampNeg) (v := x.toInt8.toInt32) (ty := .byte) (fun _ _ _ => rfl)
  refine ⟨zle_trans hU.le kk.1, fun h0 p l e R s m args below meth c0 D Q H locs ls ok hp hs hl => ?_⟩
  have k0 := kk.2 (zle_trans h0 hU.le) p l e R s m args below meth c0 D Q
  have hj := zin_spec h2
  have hlt : j.toNatClampNeg < gN G a := Nat.not_le.mp fun q => hj (Or.inr q)
  have hT := zok_tb ok
  have hc := (hp.2.1 a).2.1 3 .byte rfl h1
  have ha : a < gz G := by rw [← hp.1]; exact (Array.getElem?_eq_some_iff.mp hc).1
  have hfr : zfree G a := ⟨by omega, by omega⟩
  have hAa : zA F a := Or.inl (zfree_le (zle_trans hU.le kk.1) ha hfr)
  obtain ⟨u1, u2, u3, u4, u5, u6, u7, u8⟩ := hU
  refine W.bast ok.1 ok.2.1 hc ((hT.1.2 3 _ (ztys_at (ty := .byte) rfl)).1 _ _) (fun h => by cases h) (by rw [arrV_size]; exact hj) rfl rfl hdg fun H' e1 e2 e3 => ?_
  rw [← u1, ← u2]
  refine k0 H' _ ls ok (hp.upd u1 u3 u4 u5 u6 hfr e2 e3 (zAt.ofArr (t := 3) (ty := .byte) rfl (by rw [u4]; exact h1) ?_)) (hs.put e2 e3 hAa) hl
  rw [e1, arrV_store, u5]
  congr 2
  funext q
  by_cases hq : q = j.toNatClampNeg
  · subst hq
    rw [u8]
    simp [updV, zv, narrow]
  · rw [u7 q _ hq]
    simp [updV, hq]
theorem j_last {a : Nat} {j : Int32} {x : Int64} {G' : GS} (hv : zsL G 51 a j x = some G') (hdg : decode M.1 pc = .ok (.lastore, 1)) (kk : J M F G' (pc + 1) lv st) : J M F G pc lv (vL x :: vI j :: vR (some a) :: st) := by
  obtain ⟨⟨h1, h2⟩, rfl⟩ := ite_some hv
  have hU := zUpd_L (G := G) (a := a) (k := j.toNatClampNeg) (v := x)
  refine ⟨zle_trans hU.le kk.1, fun h0 p l e R s m args below meth c0 D Q H locs ls ok hp hs hl => ?_⟩
  have k0 := kk.2 (zle_trans h0 hU.le) p l e R s m args below meth c0 D Q
  have hj := zin_spec h2
  have hlt : j.toNatClampNeg < gN G a := Nat.not_le.mp fun q => hj (Or.inr q)
  have hT := zok_tb ok
  have hc := (hp.2.1 a).2.1 1 .long rfl h1
  have ha : a < gz G := by rw [← hp.1]; exact (Array.getElem?_eq_some_iff.mp hc).1
  have hfr : zfree G a := ⟨by omega, by omega⟩
  have hAa : zA F a := Or.inl (zfree_le (zle_trans hU.le kk.1) ha hfr)
  obtain ⟨u1, u2, u3, u4, u5, u6, u7, u8⟩ := hU
  refine W.last ok.1 ok.2.1 hc ((hT.1.2 1 _ (ztys_at (ty := .long) rfl)).1 _ _) (fun h => by cases h) (by rw [arrV_size]; exact hj) rfl rfl hdg fun H' e1 e2 e3 => ?_
  rw [← u1, ← u2]
  refine k0 H' _ ls ok (hp.upd u1 u3 u4 u5 u6 hfr e2 e3 (zAt.ofArr (t := 1) (ty := .long) rfl (by rw [u4]; exact h1) ?_)) (hs.put e2 e3 hAa) hl
  rw [e1, arrV_store, u5]
  congr 2
  funext q
  by_cases hq : q = j.toNatClampNeg
  · subst hq
    rw [u8]
    simp [updV, zv, narrow]
  · rw [u7 q _ hq]
    simp [updV, hq]
theorem zcells {G G' : GS} {F : zF} {R : Room} {n : Nat} (h0 : zle F.2.1 G) (h1 : zle G' F.2.2.1) (hz : gz G' = gz G + 1) (hu : gu G' = gu G + n) (hR : F.2.2.2 ≤ R.frames ∧ 64 * F.2.2.2 + 64 ≤ R.locals ∧ gz F.2.2.1 - gz F.2.1 ≤ R.cells ∧ gu F.2.2.1 - gu F.2.1 ≤ R.slots) :
    gz G - gz F.2.1 + 1 ≤ R.cells ∧ gu G - gu F.2.1 + n ≤ R.slots ∧ gz G' - gz F.2.1 = gz G - gz F.2.1 + 1 ∧ gu G' - gu F.2.1 = gu G - gu F.2.1 + n := by
  have a1 := h0.1
  have a2 := h0.2.1
  have a3 := h1.1
  have a4 := h1.2.1
  omega
theorem va_S.new {A : Nat → Prop} {H0 H H1 : Heap} {locs : List Loc} (h : va_S A H0 H locs) (z : H1.size = H.size + 1) (o : ∀ q : Nat, q < H.size → H1[q]? = H[q]?) : va_S A H0 H1 locs :=
  ⟨by rw [z]; exact Nat.le_succ_of_le h.1, fun q h1 h2 => (o q (Nat.lt_of_lt_of_le h1 h.1)).trans (h.2.1 q h1 h2), h.2.2⟩
/-- a new thing of the table's row c -/
theorem j_new {c n index : Nat} {r : String × u_T × Nat × (Nat → FieldType)} (hc : zcl[c]? = some r) (hn : r.2.2.1 = n) (hin : ∀ w ∈ u_ws r.1 r.2.1 r.2.2.1, w ∈ lw_all) (hty : ∀ j, j < r.2.2.1 → parseFieldDescriptor (r.2.1 j).2.2.1 = some (r.2.2.2 j)) (hdv : ∀ (G : GS) (a j : Nat), gI G a j = 0 → gL G a j = 0 → gR G a j = none → j < r.2.2.1 → defaultValue (r.2.2.2 j) = zfv G a j (r.2.2.2 j)) (hlink : Cond.classLink M.2.1 index r.1 ∈ lw_all) (hins : Cond.instantiable r.1 n ∈ lw_all) (hini : Cond.initialized r.1 ∈ lw_all) (hdg : decode M.1 pc = .ok (.new index, 3)) (kk : J M F (al G (c + 1) 0 n) (pc + 3) lv (vR (some (gz G)) :: st)) : J M F G pc lv st := by
  refine ⟨zle_trans zle_al kk.1, fun h0 p l e R s m args below meth c0 D Q H locs ls ok hp hs hl => ?_⟩
  have k0 := kk.2 (zle_trans h0 zle_al) p l e R s m args below meth c0 D Q
  have hT := zok_tb ok
  have hts := ok.2.2.2.2.1
  obtain ⟨r1, r2, r3, r4⟩ := zcells (n := n) h0 kk.1 rfl rfl ok.2.2.2.2.2.2.2.2.2.1
  have hKn := hT.1.1 c _ (zvcl_at hc)
  refine W.newcK ok.1 ok.2.1 ok.2.2.2.1 (hts _ hlink) (hts _ hins) (hts _ hini) rfl hdg r1 r2 hKn.2.1 rfl fun H1 kC hkC e1 z1 o1 => ?_
  rw [← r3, ← r4]
  have hz : H.size = gz G := hp.1
  rw [hz] at e1 ⊢
  refine k0 H1 _ ls ok (hp.new z1 o1 (zAt.ofObj hc (by rw [gK_al, if_pos rfl]) ?_)) (hs.new z1 o1) hl
  exact (u_born r.2.2.2 hts hin hKn hkC e1 hty).to (fun j hj => hdv _ _ j (by rw [gI_al, if_pos rfl]) (by rw [gL_al, if_pos rfl]) (by rw [gR_al, if_pos rfl]) hj)
/-- a new array of numbers -/
theorem j_newa {t : Nat} {ty : FieldType} {atype : ArrayType} {n : Int32} {G' : GS} (hty : newarray.typeOf atype = ty) (ht : zar[t]? = some ty) (hw : Cond.arrayClass ty ∈ lw_all) (hdv : ∀ (G : GS) (a j : Nat), gI G a j = 0 → gL G a j = 0 → gR G a j = none → defaultValue ty = zfv G a j ty) (hb8 : componentBytes ty ≤ 8) (hra : ∀ (U : State) (cA : ClassId), va_RA U cA ty → U.vm.findClass ("[" ++ ty.toString) = some cA) (hG : zna G (50 + t) n = some G') (hdg : decode M.1 pc = .ok (.newarray atype, 2)) (kk : J M F G' (pc + 2) lv (vR (some (gz G)) :: st)) : J M F G pc lv (vI n :: st) := by
  obtain ⟨⟨h1, h2⟩, rfl⟩ := ite_some hG
  subst hty
  refine ⟨zle_trans zle_al kk.1, fun h0 p l e R s m args below meth c0 D Q H locs ls ok hp hs hl => ?_⟩
  have k0 := kk.2 (zle_trans h0 zle_al) p l e R s m args below meth c0 D Q
  have hT := zok_tb ok
  have hts := ok.2.2.2.2.1
  obtain ⟨r1, r2, r3, r4⟩ := zcells (n := n.toNatClampNeg) h0 kk.1 rfl rfl ok.2.2.2.2.2.2.2.2.2.1
  have hz : H.size = gz G := hp.1
  refine va_newaK ok.1 ok.2.1 (hts _ hw) rfl hdg rfl (fun q => absurd q (by grind)) rfl (by
    have := Nat.mul_le_mul h2 hb8
    omega) r1 r2 hz fun H1 cA e1 z1 o1 hAr hNm => ?_
  rw [← r3, ← r4]
  have hcA : cA = D.2 t := Option.some.inj (hNm.symm.trans (hra _ _ (hT.1.2 t _ (ztys_at ht)).2))
  subst hcA
  refine k0 H1 _ ls ok (hp.new (by rw [z1, hz]) (fun q hq => o1 q (by rw [← hz]; exact hq)) (zAt.ofArr ht (by rw [gK_al, if_pos rfl]) ?_)) (hs.new (by rw [z1, hz]) (fun q hq => o1 q (by rw [← hz]; exact hq))) hl
  rw [e1, gN_al, if_pos rfl]
  congr 2
  funext j
  exact hdv _ _ j (by rw [gI_al, if_pos rfl]) (by rw [gL_al, if_pos rfl]) (by rw [gR_al, if_pos rfl])
end zHeap
