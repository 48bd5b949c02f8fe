/-! ===== ends by type, entries, more calls, references ===== -/
section zEnds
variable {M : zM} {F : zF} {G : GS} {pc : Nat} {lv : List (Nat × zV)}
theorem j_iret {v : Int32} (hF : F.1 = .inl (some (vI v))) (hG : F.2.2.1 = G) (hr : M.2.2.2.1 = some .int) (hdg : decode M.1 pc = .ok (.ireturn, 1)) : J M F G pc lv [vI v] :=
  j_ret hF hG.symm rfl (fun hx hb hr' hlk hq hf => W.iret hx hb (hr'.trans hr) hq hf hdg hlk)
theorem j_zret {v : Int32} {ty : FieldType} (hF : F.1 = .inl (some (vI v))) (hG : F.2.2.1 = G) (hr : M.2.2.2.1 = some ty) (hn : narrow ty (.int v) = .int v) (hdg : decode M.1 pc = .ok (.ireturn, 1)) : J M F G pc lv [vI v] :=
  j_ret hF hG.symm rfl (fun hx hb hr' hlk hq hf => W.zret hx hb (hr'.trans hr) hn hq hf hdg hlk)
theorem j_lret {v : Int64} (hF : F.1 = .inl (some (vL v))) (hG : F.2.2.1 = G) (hr : M.2.2.2.1 = some .long) (hdg : decode M.1 pc = .ok (.lreturn, 1)) : J M F G pc lv [vL v] :=
  j_ret hF hG.symm rfl (fun hx hb hr' hlk hq hf => W.lret hx hb (hr'.trans hr) hq hf hdg hlk)
theorem j_fret {v : UInt32} (hF : F.1 = .inl (some (vF v))) (hG : F.2.2.1 = G) (hr : M.2.2.2.1 = some .float) (hdg : decode M.1 pc = .ok (.freturn, 1)) : J M F G pc lv [vF v] :=
  j_ret hF hG.symm rfl (fun hx hb hr' hlk hq hf => W.fret hx hb (hr'.trans hr) hq hf hdg hlk)
theorem j_dret {v : UInt64} (hF : F.1 = .inl (some (vD v))) (hG : F.2.2.1 = G) (hr : M.2.2.2.1 = some .double) (hdg : decode M.1 pc = .ok (.dreturn, 1)) : J M F G pc lv [vD v] :=
  j_ret hF hG.symm rfl (fun hx hb hr' hlk hq hf => W.dret hx hb (hr'.trans hr) hq hf hdg hlk)
theorem j_vret (hF : F.1 = .inl none) (hG : F.2.2.1 = G) (hr : M.2.2.2.1 = none) (hdg : decode M.1 pc = .ok (.return_, 1)) : J M F G pc lv [] :=
  j_ret hF hG.symm rfl (fun hx hb hr' hlk hq hf => W.vret hx hb (hr'.trans hr) hq hf hdg hlk)
theorem j_aret {v : Option Nat} {rt : FieldType} (hF : F.1 = .inl (some (vR v))) (hG : F.2.2.1 = G) (hr : M.2.2.2.1 = some rt) (hrt : (∃ n, rt = .object n) ∨ ∃ t, rt = .array t) (hdg : decode M.1 pc = .ok (.areturn, 1)) : J M F G pc lv [vR v] :=
  j_ret hF hG.symm rfl (fun hx hb hr' hlk hq hf => W.aret hx hb (hr'.trans hr) hrt (by cases v with | none => exact Or.inl rfl | some a => exact Or.inr ⟨a, rfl⟩) hq hf hdg hlk)
/-! entries -/
def zargs : Nat → List zV → List (Nat × zV)
  | _, [] => []
  | i, v :: vs => (i, v) :: zargs (i + zc v) vs
theorem zargs_eq (As : List zV) : ∀ i, zL (zargs i As) = lv_args i (As.map zv) := by
  induction As with
  | nil => intro i; rfl
  | cons v vs ih =>
    intro i
    show (i, zv v) :: zL (zargs (i + zc v) vs) = (i, zv v) :: lv_args (if (zv v).category = 2 then i + 2 else i + 1) (vs.map zv)
    rw [ih]
    congr 2
    rw [zv_cat]
    unfold zc
    cases zw v <;> rfl
theorem zargs_len (As : List zV) : (lg_sl (As.map zv)).length = (As.map zc).sum := by
  induction As with
  | nil => rfl
  | cons v vs ih =>
    have e : lg_sl ((v :: vs).map zv) = (if (zv v).category = 2 then [.val (zv v), .second] else [.val (zv v)]) ++ lg_sl (vs.map zv) := rfl
    rw [e, List.length_append, ih, zv_cat]
    show _ = zc v + (vs.map zc).sum
    unfold zc
    cases zw v <;> rfl
theorem zex {D : zD} {s : State} {o : zO} {G' : GS} {d : Nat} (hp : zHp D G s s.heap) (hle : zle G G') : vx_Zq Bundle.tN "UNASSIGNED_STACK" Bundle.steD (zA (o, G, G', d)) s s.heap ∧ vx_Zq Bundle.tN "SUPPRESSED_SENTINEL" Bundle.listD (zA (o, G, G', d)) s s.heap := by
  have hk : ∀ a, a < s.heap.size → ¬ zfree G a → s.heap[a]? = s.heap[a]? ∧ ¬ zA (o, G, G', d) a := fun a ha hf => ⟨rfl, fun h => by
    rcases h with h | h
    · have e : gK G' a = gK G a := (hle.2.2.2 a (by rw [← hp.1]; exact ha)).1
      have h : zfree G' a := h
      unfold zfree at h hf
      rw [e] at h
      exact hf h
    · have h : gz G ≤ a := h
      have := hp.1
      omega⟩
  exact ⟨hp.2.2.2.1.to hk, hp.2.2.2.2.1.to hk⟩
theorem zofW {l : Launch} {y : MethodName} {ws ws' : List Cond} {rm : Room} {Pc : Array Value → State → Prop} {Qc : Array Value → State → Outcome → State → Prop} {XC : String → State → State → Prop} {mc ms : Nat} {free : Addr → Prop} {cc : ByteArray} {maxL : Nat} {ret : Option FieldType}
    (hy : plainFor y = true) (hw : ws = Cond.code y cc maxL ret :: ws')
    (body : ∀ p e s m args below meth c s₁, BodyLoose p l y (headSpec ws rm) cc maxL ret e s m args below meth c s₁ → c.maxLocals = maxL → (∀ x ∈ c.exceptionTable.toList, False) → Pc args s →
      W p l e (headSpec ws rm).room s m args below meth c s.heap [] 0 0 (vx_MQ below Qc XC args s mc ms free) (entryFrame m args maxL)) : vx_Met l y ws rm Pc Qc XC mc ms free := by
  refine MetFree.of_bodySF (code := cc) (maxLocals := maxL) (ret := ret) hy ?_ ?_
  · intro args s m h hn
    obtain ⟨meth, c, h1, h2, h3, h4, h5, h6, -, -⟩ := Cond.code_spec hn (atoms_spec (ws := ws) h _ (by rw [hw]; exact List.mem_cons_self))
    exact ⟨meth, c, h1, h2, h3, h4, h5, h6⟩
  · intro p e s m args below meth c s₁ B hml hP _
    have hh0 : s₁.heap = s.heap := by rw [B.state]; rfl
    have ht : ∀ x ∈ c.exceptionTable.toList, False := by
      obtain ⟨meth9, c9, h1, h2, -, -, -, -, h7, -⟩ := Cond.code_spec B.named (atoms_spec (ws := ws) B.pre _ (by rw [hw]; exact List.mem_cons_self))
      cases Option.some.inj (h1.symm.trans B.method)
      cases Option.some.inj (h2.symm.trans (Stand.of_body B).code)
      intro x hx
      rw [Array.isEmpty_iff.mp h7] at hx
      cases hx
    obtain ⟨t, a1, o, b1, b2, b3⟩ := body p e s m args below meth c s₁ B hml ht hP s₁ hh0 (Stand.of_body B)
    exact ⟨t, o, a1, b1, b2, b3⟩
theorem zentry {M : zM} {y : MethodName} {As : List zV} {o : zO} {G G' : GS} {d : Nat} (hy : plainFor y = true) (hM : M.2.1 = y.cls ∧ M.2.2.2.2.1 = y.name ∧ M.2.2.2.2.2.1 = [] ∧ M.2.2.2.2.2.2 = y.desc) (hA : (As.map zc).sum ≤ M.2.2.1) (hk : J M (o, G, G', d) G 0 (zargs 0 As) []) : zRuns y (ws_ y M.1 M.2.2.1 M.2.2.2.1) As (o, G, G', d) := by
  refine ⟨hk.1, fun l D hfl => zofW (cc := M.1) (maxL := M.2.2.1) (ret := M.2.2.2.1) hy rfl ?_⟩
  intro p e s m args below meth c s₁ B hml htab hv
  obtain ⟨rfl, hT, hp⟩ := hv
  have hts := atoms_spec (ws := ws_ y M.1 M.2.2.1 M.2.2.2.1) B.pre
  have hE := zex (o := o) (d := d) hp hk.1
  have hl := lv_entry (As.map zv) (n := M.2.2.1) (by rw [zargs_len]; exact hA)
  rw [← zargs_eq] at hl
  rw [lg_entry_eq]
  have k0 := hk.2 zle_rfl p l e (zrm (o, G, G', d)) s m (As.map zv).toArray below meth c D _ s.heap [] _ ⟨B.exec, B.bytes, hml, by rw [hM.1]; exact findClass_of_methodNamed B.named, fun w h => hts w (List.mem_cons_of_mem _ h), B.returns, B.notSynchronized, ⟨by rw [hM.2.1]; exact (name_of_methodNamed B.named B.method).1, by rw [hM.1, hM.2.1, hM.2.2.2]; exact B.named⟩, by
    rw [hM.2.2.1]
    cases h : c.exceptionTable.toList with
    | nil => rfl
    | cons x xs => exact (htab x (by rw [h]; exact List.mem_cons_self)).elim, ⟨Nat.le_refl _, Nat.le_refl _, Nat.le_refl _, Nat.le_refl _⟩, hfl, fun t h => h, hE.1, hE.2, hp.1, hT⟩ hp va_S.rf hl
  have e1 : gz G - gz G = 0 := Nat.sub_self _
  have e2 : gu G - gu G = 0 := Nat.sub_self _
  have k1 : W p l e (zrm (o, G, G', d)) s m (As.map zv).toArray below meth c s.heap [] (gz G - gz G) (gu G - gu G) (vx_MQ below (zQc D (o, G, G', d)) (zXC D (o, G, G', d)) (As.map zv).toArray s (gz G' - gz G) (gu G' - gu G) (zA (o, G, G', d))) _ := k0
  rw [e1, e2] at k1
  exact k1
theorem zentryW {M : zM} {y : MethodName} {As : List zV} {o : zO} {G G' : GS} {d : Nat} (hy : plainName y.cls = true) (hM : M.2.1 = y.cls ∧ M.2.2.2.2.1 = y.name ∧ M.2.2.2.2.2.2 = y.desc) (hA : (As.map zc).sum ≤ M.2.2.1) (hk : J M (o, G, G', d) G 0 (zargs 0 As) []) : zRuns y (wsW_ y M.1 M.2.2.1 M.2.2.2.1 M.2.2.2.2.2.1) As (o, G, G', d) := by
  refine ⟨hk.1, fun l D hfl => vx_ofWH (cc := M.1) (maxL := M.2.2.1) (ret := M.2.2.2.1) (hh := M.2.2.2.2.2.1) hy rfl ?_⟩
  intro p e s m args below meth c s₁ B hml hv
  obtain ⟨rfl, hT, hp⟩ := hv
  have hts := atoms_spec (ws := wsW_ y M.1 M.2.2.1 M.2.2.2.1 M.2.2.2.2.2.1) B.pre
  have hE := zex (o := o) (d := d) hp hk.1
  have hl := lv_entry (As.map zv) (n := M.2.2.1) (by rw [zargs_len]; exact hA)
  rw [← zargs_eq] at hl
  rw [lg_entry_eq]
  have k0 := hk.2 zle_rfl p l e (zrm (o, G, G', d)) s m (As.map zv).toArray below meth c D _ s.heap [] _ ⟨B.exec, B.bytes, hml, by rw [hM.1]; exact findClass_of_methodNamed B.named, fun w h => hts w (List.mem_cons_of_mem _ h), B.returns, B.notSynchronized, ⟨by rw [hM.2.1]; exact (name_of_methodNamed B.named B.method).1, by rw [hM.1, hM.2.1, hM.2.2]; exact B.named⟩, vx_table (x := y) B (hts _ List.mem_cons_self), ⟨Nat.le_refl _, Nat.le_refl _, Nat.le_refl _, Nat.le_refl _⟩, hfl, fun t h => h, hE.1, hE.2, hp.1, hT⟩ hp va_S.rf hl
  have e1 : gz G - gz G = 0 := Nat.sub_self _
  have e2 : gu G - gu G = 0 := Nat.sub_self _
  have k1 : W p l e (zrm (o, G, G', d)) s m (As.map zv).toArray below meth c s.heap [] (gz G - gz G) (gu G - gu G) (vx_MQ below (zQc D (o, G, G', d)) (zXC D (o, G, G', d)) (As.map zv).toArray s (gz G' - gz G) (gu G' - gu G) (zA (o, G, G', d))) _ := k0
  rw [e1, e2] at k1
  exact k1
end zEnds
/-! loops and bindings of the functions -/
def zlN {σ ρ : Type} (body : σ → Option (σ ⊕ ρ)) : Nat → σ → Option ρ
  | 0, _ => none
  | n + 1, s => match body s with
    | none => none
    | some (.inr r) => some r
    | some (.inl s') => zlN body n s'
noncomputable def zloop {σ ρ : Type} (body : σ → Option (σ ⊕ ρ)) (s : σ) : Option ρ := @dite _ (∃ r, ∃ n, zlN body n s = some r) (Classical.propDecidable _) (fun h => some h.choose) (fun _ => none)
theorem zlN_mono {σ ρ : Type} {body : σ → Option (σ ⊕ ρ)} : ∀ {n : Nat} {s : σ} {r : ρ}, zlN body n s = some r → ∀ m, n ≤ m → zlN body m s = some r
  | 0, _, _, h, _, _ => by cases h
  | n + 1, s, r, h, 0, hm => absurd hm (by omega)
  | n + 1, s, r, h, m + 1, hm => by
    unfold zlN at h ⊢
    split at h
    · cases h
    · exact h
    · exact zlN_mono h m (by omega)
theorem zlN_det {σ ρ : Type} {body : σ → Option (σ ⊕ ρ)} {n m : Nat} {s : σ} {r r' : ρ} (h : zlN body n s = some r) (h' : zlN body m s = some r') : r = r' := by
  have h1 := zlN_mono h (max n m) (Nat.le_max_left _ _)
  have h2 := zlN_mono h' (max n m) (Nat.le_max_right _ _)
  exact Option.some.inj (h1.symm.trans h2)
theorem zloop_some {σ ρ : Type} {body : σ → Option (σ ⊕ ρ)} {s : σ} {r : ρ} : zloop body s = some r ↔ ∃ n, zlN body n s = some r := by
  unfold zloop
  constructor
  · intro h
    split at h
    next hh =>
      cases h
      exact hh.choose_spec
    next => cases h
  · rintro ⟨n, h⟩
    have hh : ∃ r, ∃ n, zlN body n s = some r := ⟨r, n, h⟩
    rw [dif_pos hh]
    obtain ⟨m, hm⟩ := hh.choose_spec
    rw [zlN_det hm h]
/-- one round of a loop -/
theorem zloop_inl {σ ρ : Type} {body : σ → Option (σ ⊕ ρ)} {s s' : σ} (h : body s = some (.inl s')) : zloop body s = zloop body s' := by
  apply Option.ext
  intro r
  rw [zloop_some, zloop_some]
  constructor
  · rintro ⟨n, hn⟩
    cases n with
    | zero => cases hn
    | succ n =>
      unfold zlN at hn
      rw [h] at hn
      exact ⟨n, hn⟩
  · rintro ⟨n, hn⟩
    refine ⟨n + 1, ?_⟩
    unfold zlN
    rw [h]
    exact hn
theorem zloop_inr {σ ρ : Type} {body : σ → Option (σ ⊕ ρ)} {s : σ} {r : ρ} (h : body s = some (.inr r)) : zloop body s = some r := by
  rw [zloop_some]
  refine ⟨1, ?_⟩
  unfold zlN
  rw [h]
def zcase {σ ρ : Type} (P : σ → Prop) (K : ρ → Prop) : σ ⊕ ρ → Prop
  | .inl s => P s
  | .inr r => K r
/-- a walk of a loop, out of the walk of its body -/
theorem zloop_walk {σ ρ : Type} {body : σ → Option (σ ⊕ ρ)} {P : σ → Prop} {K : ρ → Prop} (hb : ∀ s b, body s = some b → zcase P K b → P s) (s : σ) (r : ρ) (h : zloop body s = some r) (hr : K r) : P s := by
  obtain ⟨n, hn⟩ := zloop_some.mp h
  induction n generalizing s with
  | zero => cases hn
  | succ n ih =>
    unfold zlN at hn
    split at hn
    next => cases hn
    next r' e =>
      cases hn
      exact hb s _ e hr
    next s' e => exact hb s _ e (ih s' (zloop_some.mpr ⟨n, hn⟩) hn)
/-- what a loop comes to: by an invariant and a measure that falls -/
theorem zloop_ind {σ ρ : Type} {body : σ → Option (σ ⊕ ρ)} (I : σ → Prop) (μ : σ → Nat) (P : ρ → Prop) (hs : ∀ s, I s → (∃ s', body s = some (.inl s') ∧ I s' ∧ μ s' < μ s) ∨ ∃ r, body s = some (.inr r) ∧ P r) : ∀ s, I s → ∃ r, zloop body s = some r ∧ P r := by
  intro s hI
  generalize hn : μ s = n
  induction n using Nat.strongRecOn generalizing s with
  | ind n ih =>
    rcases hs s hI with ⟨s', e, hI', hlt⟩ | ⟨r, e, hP⟩
    · obtain ⟨r, h1, h2⟩ := ih (μ s') (by omega) s' hI' rfl
      exact ⟨r, (zloop_inl e).trans h1, h2⟩
    · exact ⟨r, zloop_inr e, hP⟩
def zl {α β : Type} (x : α) (k : α → Option β) : Option β := k x
theorem zlE {α β : Type} {x : α} {k : α → Option β} {b : β} (h : zl x k = some b) : ∃ y, y = x ∧ k y = some b := ⟨x, rfl, h⟩
theorem zbE {α β : Type} {o : Option α} {k : α → Option β} {b : β} (h : o.bind k = some b) : ∃ a, o = some a ∧ k a = some b := Option.bind_eq_some_iff.mp h
def zb2 {α β γ : Type} (o : Option (α × γ)) (k : α → γ → Option β) : Option β := o.bind fun r => k r.1 r.2
theorem zb2E {α β γ : Type} {o : Option (α × γ)} {k : α → γ → Option β} {b : β} (h : zb2 o k = some b) : ∃ a g, o = some (a, g) ∧ k a g = some b := by
  obtain ⟨⟨a, g⟩, h1, h2⟩ := zbE h
  exact ⟨a, g, h1, h2⟩
theorem zb2_some {α β γ : Type} {a : α} {g : γ} {k : α → γ → Option β} : zb2 (some (a, g)) k = k a g := rfl
/-- a call that may throw -/
def zb3 {α β γ : Type} (o : Option ((α ⊕ String) × γ)) (k : α → γ → Option β) (kx : String → γ → Option β) : Option β := o.bind fun r => match r.1 with
  | .inl a => k a r.2
  | .inr E => kx E r.2
theorem zb3E {α β γ : Type} {o : Option ((α ⊕ String) × γ)} {k : α → γ → Option β} {kx : String → γ → Option β} {b : β} (h : zb3 o k kx = some b) : (∃ a g, o = some (.inl a, g) ∧ k a g = some b) ∨ ∃ E g, o = some (.inr E, g) ∧ kx E g = some b := by
  obtain ⟨⟨a | E, g⟩, h1, h2⟩ := zbE h
  · exact Or.inl ⟨a, g, h1, h2⟩
  · exact Or.inr ⟨E, g, h1, h2⟩
theorem zb3_inl {α β γ : Type} {a : α} {g : γ} {k : α → γ → Option β} {kx : String → γ → Option β} : zb3 (some (.inl a, g)) k kx = k a g := rfl
theorem zb3_inr {α β γ : Type} {E : String} {g : γ} {k : α → γ → Option β} {kx : String → γ → Option β} : zb3 (some (.inr E, g)) k kx = kx E g := rfl
/-- the answer of an outer context -/
def zo {σ α : Type} (x : Option α) : Option (σ ⊕ α) := x.map Sum.inr
theorem zoE {σ α : Type} {x : Option α} {b : σ ⊕ α} (h : zo x = some b) : ∃ a, x = some a ∧ b = .inr a := by
  cases x with
  | none => cases h
  | some a => exact ⟨a, rfl, (Option.some.inj h).symm⟩
theorem zo_some {σ α : Type} {a : α} : (zo (some a) : Option (σ ⊕ α)) = some (.inr a) := rfl
/-- a kind is one of a list -/
def zk {β : Type} (Ks : List Nat) (G : GS) (b : Nat) (x : Option β) : Option β := if Ks.contains (gK G b) = true then x else none
theorem zkE {β : Type} {Ks : List Nat} {G : GS} {b : Nat} {x : Option β} {r : β} (h : zk Ks G b x = some r) : Ks.contains (gK G b) = true ∧ x = some r := by
  unfold zk at h
  split at h
  next hc => exact ⟨hc, h⟩
  next => cases h
theorem zk_eq {β : Type} {K : Nat} {G : GS} {b : Nat} {x : Option β} (h : gK G b = K) : zk [K] G b x = x := by
  unfold zk
  rw [h, if_pos (by simp)]
def zcond {β : Type} (c : Prop) [Decidable c] (x : Option β) : Option β := if c then x else none
theorem zcondE {β : Type} {c : Prop} [Decidable c] {x : Option β} {r : β} (h : zcond c x = some r) : c ∧ x = some r := by
  unfold zcond at h
  split at h
  next hc => exact ⟨hc, h⟩
  next => cases h
theorem zcond_pos {β : Type} {c : Prop} [Decidable c] {x : Option β} (h : c) : zcond c x = x := if_pos h
theorem zKc_one {K k : Nat} (h : [K].contains k = true) : k = K := by simpa using h
