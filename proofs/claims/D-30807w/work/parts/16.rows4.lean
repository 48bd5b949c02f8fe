/-! ===== rows in the shapes that the program prints ===== -/
theorem zxw {w : Cond} (i : Nat) (h : zxs[i]? = some w) : w ∈ zxs := List.mem_of_getElem? h
theorem zfw {w : String × MethodName × MethodName} (i : Nat) (h : zfs[i]? = some w) : w ∈ zfs := List.mem_of_getElem? h
def zKI (F : zF) (a : Int32 × GS) : Prop := F.1 = .inl (some (vI a.1)) ∧ F.2.2.1 = a.2
def zKL (F : zF) (a : Int64 × GS) : Prop := F.1 = .inl (some (vL a.1)) ∧ F.2.2.1 = a.2
def zKF (F : zF) (a : UInt32 × GS) : Prop := F.1 = .inl (some (vF a.1)) ∧ F.2.2.1 = a.2
def zKD (F : zF) (a : UInt64 × GS) : Prop := F.1 = .inl (some (vD a.1)) ∧ F.2.2.1 = a.2
def zKR (F : zF) (a : (Option Nat) × GS) : Prop := F.1 = .inl (some (vR a.1)) ∧ F.2.2.1 = a.2
def zKV (F : zF) (a : GS) : Prop := F.1 = .inl none ∧ F.2.2.1 = a
def zKPI (F : zF) (G : GS) (a : Int32) : Prop := F.1 = .inl (some (vI a)) ∧ F.2.2.1 = G
def zKPL (F : zF) (G : GS) (a : Int64) : Prop := F.1 = .inl (some (vL a)) ∧ F.2.2.1 = G
def zKPF (F : zF) (G : GS) (a : UInt32) : Prop := F.1 = .inl (some (vF a)) ∧ F.2.2.1 = G
def zKPD (F : zF) (G : GS) (a : UInt64) : Prop := F.1 = .inl (some (vD a)) ∧ F.2.2.1 = G
def zKPR (F : zF) (G : GS) (a : Option Nat) : Prop := F.1 = .inl (some (vR a)) ∧ F.2.2.1 = G
def zopt {β : Type} (r : Option Nat) (A : Option β) (B : Nat → Option β) : Option β := match r with
  | none => A
  | some a => B a
theorem zopt_n {β : Type} {A : Option β} {B : Nat → Option β} {b : β} (h : zopt none A B = some b) : A = some b := h
theorem zopt_s {β : Type} {a : Nat} {A : Option β} {B : Nat → Option β} {b : β} (h : zopt (some a) A B = some b) : B a = some b := h
theorem zopt_none {β : Type} {A : Option β} {B : Nat → Option β} : zopt none A B = A := rfl
theorem zopt_some {β : Type} {a : Nat} {A : Option β} {B : Nat → Option β} : zopt (some a) A B = B a := rfl
/-- null, or a thing of one of the kinds -/
def zkm (Ks : List Nat) (G : GS) : Option Nat → Bool
  | none => true
  | some b => Ks.contains (gK G b)
def zkq {β : Type} (Ks : List Nat) (G : GS) (r : Option Nat) (x : Option β) : Option β := if zkm Ks G r = true then x else none
theorem zkqE {β : Type} {Ks : List Nat} {G : GS} {r : Option Nat} {x : Option β} {y : β} (h : zkq Ks G r x = some y) : (∀ b, r = some b → Ks.contains (gK G b) = true) ∧ x = some y := by
  by_cases hc : zkm Ks G r = true
  · unfold zkq at h
    rw [if_pos hc] at h
    exact ⟨fun b e => by subst e; exact hc, h⟩
  · unfold zkq at h
    rw [if_neg hc] at h
    cases h
theorem zkq_none {β : Type} {Ks : List Nat} {G : GS} {x : Option β} : zkq Ks G none x = x := rfl
theorem zkq_eq {β : Type} {K b : Nat} {G : GS} {x : Option β} (h : gK G b = K) : zkq [K] G (some b) x = x := by
  unfold zkq
  rw [if_pos]
  show [K].contains (gK G b) = true
  simp [h]
abbrev zbb (v : Int32) : Prop := v = 0 ∨ v = 1
abbrev zby (v : Int32) : Prop := v.toInt8.toInt32 = v
abbrev zch (v : Int32) : Prop := v.toUInt32.toUInt16.toUInt32.toInt32 = v
theorem zbb_n {v : Int32} (h : zbb v) : narrow .boolean (.int v) = .int v := by
  rcases h with rfl | rfl <;> rfl
theorem zby_n {v : Int32} (h : zby v) : narrow .byte (.int v) = .int v := by
  show Value.int _ = _
  rw [h]
theorem zch_n {v : Int32} (h : zch v) : narrow .char (.int v) = .int v := by
  show Value.int _ = _
  rw [h]
abbrev zn32 (v : UInt32) : Prop := v &&& 0x7fffffff ≤ 0x7f800000
abbrev zn64 (v : UInt64) : Prop := v &&& 0x7fffffffffffffff ≤ 0x7ff0000000000000
section zRows4
variable {M : zM} {F : zF} {G G1 : GS} {pc : Nat} {lv : List (Nat × zV)} {st : List zV}
theorem j_getI {a c k index : Nat} {ty : FieldType} {x : Int32} (hf : zFG M.2.1 index c k ty) (hty : ∀ (G : GS) (a k : Nat), zfv G a k ty = .int (gI G a k)) (hdg : decode M.1 pc = .ok (.getfield index, 3)) (hv : zgI G (c + 1) a k = some x) (kk : J M F G (pc + 3) lv (vI x :: st)) : J M F G pc lv (vR (some a) :: st) := by
  obtain ⟨h1, h2⟩ := ite_some hv
  exact j_get hf hdg h1 (by rw [hty, h2]; rfl) kk
theorem j_getL {a c k index : Nat} {ty : FieldType} {x : Int64} (hf : zFG M.2.1 index c k ty) (hty : ∀ (G : GS) (a k : Nat), zfv G a k ty = .long (gL G a k)) (hdg : decode M.1 pc = .ok (.getfield index, 3)) (hv : zgL G (c + 1) a k = some x) (kk : J M F G (pc + 3) lv (vL x :: st)) : J M F G pc lv (vR (some a) :: st) := by
  obtain ⟨h1, h2⟩ := ite_some hv
  exact j_get hf hdg h1 (by rw [hty, h2]; rfl) kk
theorem j_getR {a c k index : Nat} {ty : FieldType} {x : Option Nat} (hf : zFG M.2.1 index c k ty) (hty : ∀ (G : GS) (a k : Nat), zfv G a k ty = va_rf (gR G a k)) (hdg : decode M.1 pc = .ok (.getfield index, 3)) (hv : zgR G (c + 1) a k = some x) (kk : J M F G (pc + 3) lv (vR x :: st)) : J M F G pc lv (vR (some a) :: st) := by
  obtain ⟨h1, h2⟩ := ite_some hv
  exact j_get hf hdg h1 (by rw [hty, h2]; rfl) kk
def zgV (G : GS) (a : Nat) : Option Int32 := if [21, 61].contains (gK G a) = true then some (gI G a 0) else none
/-- the number in a boxed int, made or found -/
theorem j_getV {a index : Nat} {x : Int32} (hf : zFG M.2.1 index 20 0 .int) (hdg : decode M.1 pc = .ok (.getfield index, 3)) (hv : zgV G a = some x) (kk : J M F G (pc + 3) lv (vI x :: st)) : J M F G pc lv (vR (some a) :: st) := by
  obtain ⟨h1, h2⟩ := ite_some hv
  have h1 : gK G a = 21 ∨ gK G a = 61 := by simpa using h1
  rcases h1 with h1 | h1
  · exact j_get hf hdg (c := 20) h1 (by show Value.int _ = _; rw [h2]; rfl) kk
  · refine J.st2 (fun {p l e R s m args below meth c0 D H locs cells slots Q ls} ok hp k0 => ?_) kk
    obtain ⟨r, hc, hkN, hin, ht, ref, hs, hl⟩ := hf
    have hTb : zTb D s := zok_tb ok
    have hts := ok.2.2.2.2.1
    have hr : r = (RJ26, TJ26, 1, tyJ26) := Option.some.inj (hc.symm.trans rfl)
    subst hr
    obtain ⟨cf, k', i, f, cell, g1, g2, g3, g4, g5, g6, g7⟩ := (hp.2.1 a).2.2.2.1 h1
    have hi : s.fieldFound? ref "value" "I" = some (cf, k', i, f) := zfound (own := M.2.1) hs hts _ g1
    rcases hl with hl | ⟨host, hl⟩
    · exact W.getf ok.1 ok.2.1 ok.2.2.2.1 (hts _ hl) hi g2 g3 g4 (v := .int x) (by rw [g7, h2]) rfl rfl hdg k0
    · exact va_Wgetf ok.1 ok.2.1 ok.2.2.2.1 (va_Nw.use (zxs_tab _ hl) (hTb.2.1 _ hl)) hi g2 g3 g4 (v := .int x) (by rw [g7, h2]) rfl rfl hdg k0
theorem j_putI {a c k index : Nat} {ty : FieldType} {fin : Bool} {v : Int32} {G' : GS} (hf : zFP M.2.1 index c k ty fin) (hfin : fin = false ∨ M.2.2.2.2.1 = "<init>") (hty : ty = .int) (hdg : decode M.1 pc = .ok (.putfield index, 3)) (hv : zpI G (c + 1) a k v = some G') (kk : J M F G' (pc + 3) lv st) : J M F G pc lv (vI v :: vR (some a) :: st) := by
  subst hty
  obtain ⟨h1, rfl⟩ := ite_some hv
  exact j_put hf hfin hdg h1 rfl rfl (zUpd_I (fun _ _ _ => rfl)) kk
theorem j_putZ {a c k index : Nat} {ty : FieldType} {fin : Bool} {v : Int32} {G' : GS} (hf : zFP M.2.1 index c k ty fin) (hfin : fin = false ∨ M.2.2.2.2.1 = "<init>") (hty : ty = .boolean) (hdg : decode M.1 pc = .ok (.putfield index, 3)) (hv : zpZ G (c + 1) a k v = some G') (kk : J M F G' (pc + 3) lv st) : J M F G pc lv (vI v :: vR (some a) :: st) := by
  subst hty
  obtain ⟨⟨h1, h2⟩, rfl⟩ := ite_some hv
  exact j_put hf hfin hdg h1 (zbb_n h2) (by rcases h2 with rfl | rfl <;> rfl) (zUpd_I (fun _ _ _ => rfl)) kk
theorem j_putB {a c k index : Nat} {ty : FieldType} {fin : Bool} {v : Int32} {G' : GS} (hf : zFP M.2.1 index c k ty fin) (hfin : fin = false ∨ M.2.2.2.2.1 = "<init>") (hty : ty = .byte) (hdg : decode M.1 pc = .ok (.putfield index, 3)) (hv : zpB G (c + 1) a k v = some G') (kk : J M F G' (pc + 3) lv st) : J M F G pc lv (vI v :: vR (some a) :: st) := by
  subst hty
  obtain ⟨⟨h1, h2, h3⟩, rfl⟩ := ite_some hv
  exact j_put hf hfin hdg h1 (zby_n h2) (by show (decide _ && decide _) = true; simp [h3.1, h3.2]) (zUpd_I (fun _ _ _ => rfl)) kk
theorem j_putR {a c k index : Nat} {ty : FieldType} {fin : Bool} {v : Option Nat} {G' : GS} (hf : zFP M.2.1 index c k ty fin) (hfin : fin = false ∨ M.2.2.2.2.1 = "<init>") (hty : (∃ n, ty = .object n) ∨ ∃ t, ty = .array t) (hdg : decode M.1 pc = .ok (.putfield index, 3)) (hv : zpR G (c + 1) a k v = some G') (kk : J M F G' (pc + 3) lv st) : J M F G pc lv (vR v :: vR (some a) :: st) := by
  obtain ⟨h1, rfl⟩ := ite_some hv
  rcases hty with ⟨n, rfl⟩ | ⟨n, rfl⟩
  · exact j_put hf hfin hdg h1 (by cases v <;> rfl) (by cases v <;> rfl) (zUpd_R (fun _ _ _ => rfl)) kk
  · exact j_put hf hfin hdg h1 (by cases v <;> rfl) (by cases v <;> rfl) (zUpd_R (fun _ _ _ => rfl)) kk
theorem j_castq {pc' : Nat} {r : Option Nat} (h0 : J M F G pc' lv (vR none :: st) → J M F G pc lv (vR none :: st)) (h1 : ∀ b, r = some b → J M F G pc' lv (vR (some b) :: st) → J M F G pc lv (vR (some b) :: st)) (kk : J M F G pc' lv (vR r :: st)) : J M F G pc lv (vR r :: st) := by
  cases r with
  | none => exact h0 kk
  | some b => exact h1 b rfl kk
end zRows4
def zokT : FieldType → Bool
  | .float => false
  | .double => false
  | _ => true
theorem zdv {ty : FieldType} (h : zokT ty = true) (G : GS) (a j : Nat) (e1 : gI G a j = 0) (e2 : gL G a j = 0) (e3 : gR G a j = none) : defaultValue ty = zfv G a j ty := by
  cases ty <;> first | (simp [zokT] at h; done) | (simp only [zfv, e1, e2, e3] <;> rfl)
theorem nwX1 : ∀ (G : GS) (a j : Nat), gI G a j = 0 → gL G a j = 0 → gR G a j = none → j < 5 → defaultValue (tyX1 j) = zfv G a j (tyX1 j) := fun G a j e1 e2 e3 hj => zdv ((by decide : ∀ j, j < 5 → zokT (tyX1 j) = true) j hj) G a j e1 e2 e3
theorem nwX2 : ∀ (G : GS) (a j : Nat), gI G a j = 0 → gL G a j = 0 → gR G a j = none → j < 42 → defaultValue (tyX2 j) = zfv G a j (tyX2 j) := fun G a j e1 e2 e3 hj => zdv ((by decide : ∀ j, j < 42 → zokT (tyX2 j) = true) j hj) G a j e1 e2 e3
theorem nwX3 : ∀ (G : GS) (a j : Nat), gI G a j = 0 → gL G a j = 0 → gR G a j = none → j < 2 → defaultValue (tyX3 j) = zfv G a j (tyX3 j) := fun G a j e1 e2 e3 hj => zdv ((by decide : ∀ j, j < 2 → zokT (tyX3 j) = true) j hj) G a j e1 e2 e3
theorem nwX4 : ∀ (G : GS) (a j : Nat), gI G a j = 0 → gL G a j = 0 → gR G a j = none → j < 3 → defaultValue (tyX4 j) = zfv G a j (tyX4 j) := fun G a j e1 e2 e3 hj => zdv ((by decide : ∀ j, j < 3 → zokT (tyX4 j) = true) j hj) G a j e1 e2 e3
theorem nwX5 : ∀ (G : GS) (a j : Nat), gI G a j = 0 → gL G a j = 0 → gR G a j = none → j < 10 → defaultValue (tyX5 j) = zfv G a j (tyX5 j) := fun G a j e1 e2 e3 hj => zdv ((by decide : ∀ j, j < 10 → zokT (tyX5 j) = true) j hj) G a j e1 e2 e3
theorem nwX6 : ∀ (G : GS) (a j : Nat), gI G a j = 0 → gL G a j = 0 → gR G a j = none → j < 2 → defaultValue (tyX6 j) = zfv G a j (tyX6 j) := fun G a j e1 e2 e3 hj => zdv ((by decide : ∀ j, j < 2 → zokT (tyX6 j) = true) j hj) G a j e1 e2 e3
theorem nwX7 : ∀ (G : GS) (a j : Nat), gI G a j = 0 → gL G a j = 0 → gR G a j = none → j < 7 → defaultValue (tyX7 j) = zfv G a j (tyX7 j) := fun G a j e1 e2 e3 hj => zdv ((by decide : ∀ j, j < 7 → zokT (tyX7 j) = true) j hj) G a j e1 e2 e3
theorem nwX8 : ∀ (G : GS) (a j : Nat), gI G a j = 0 → gL G a j = 0 → gR G a j = none → j < 1 → defaultValue (tyX8 j) = zfv G a j (tyX8 j) := fun G a j e1 e2 e3 hj => zdv ((by decide : ∀ j, j < 1 → zokT (tyX8 j) = true) j hj) G a j e1 e2 e3
theorem nwX10 : ∀ (G : GS) (a j : Nat), gI G a j = 0 → gL G a j = 0 → gR G a j = none → j < 8 → defaultValue (tyX10 j) = zfv G a j (tyX10 j) := fun G a j e1 e2 e3 hj => zdv ((by decide : ∀ j, j < 8 → zokT (tyX10 j) = true) j hj) G a j e1 e2 e3
theorem nwX11 : ∀ (G : GS) (a j : Nat), gI G a j = 0 → gL G a j = 0 → gR G a j = none → j < 3 → defaultValue (tyX11 j) = zfv G a j (tyX11 j) := fun G a j e1 e2 e3 hj => zdv ((by decide : ∀ j, j < 3 → zokT (tyX11 j) = true) j hj) G a j e1 e2 e3
theorem nwX12 : ∀ (G : GS) (a j : Nat), gI G a j = 0 → gL G a j = 0 → gR G a j = none → j < 3 → defaultValue (tyX12 j) = zfv G a j (tyX12 j) := fun G a j e1 e2 e3 hj => zdv ((by decide : ∀ j, j < 3 → zokT (tyX12 j) = true) j hj) G a j e1 e2 e3
theorem nwJ2 : ∀ (G : GS) (a j : Nat), gI G a j = 0 → gL G a j = 0 → gR G a j = none → j < 3 → defaultValue (tyJ2 j) = zfv G a j (tyJ2 j) := fun G a j e1 e2 e3 hj => zdv ((by decide : ∀ j, j < 3 → zokT (tyJ2 j) = true) j hj) G a j e1 e2 e3
theorem nwJ19 : ∀ (G : GS) (a j : Nat), gI G a j = 0 → gL G a j = 0 → gR G a j = none → j < 4 → defaultValue (tyJ19 j) = zfv G a j (tyJ19 j) := fun G a j e1 e2 e3 hj => zdv ((by decide : ∀ j, j < 4 → zokT (tyJ19 j) = true) j hj) G a j e1 e2 e3
theorem nwJ20 : ∀ (G : GS) (a j : Nat), gI G a j = 0 → gL G a j = 0 → gR G a j = none → j < 3 → defaultValue (tyJ20 j) = zfv G a j (tyJ20 j) := fun G a j e1 e2 e3 hj => zdv ((by decide : ∀ j, j < 3 → zokT (tyJ20 j) = true) j hj) G a j e1 e2 e3
theorem nwJ32 : ∀ (G : GS) (a j : Nat), gI G a j = 0 → gL G a j = 0 → gR G a j = none → j < 4 → defaultValue (tyJ32 j) = zfv G a j (tyJ32 j) := fun G a j e1 e2 e3 hj => zdv ((by decide : ∀ j, j < 4 → zokT (tyJ32 j) = true) j hj) G a j e1 e2 e3
theorem nwJ22 : ∀ (G : GS) (a j : Nat), gI G a j = 0 → gL G a j = 0 → gR G a j = none → j < 9 → defaultValue (tyJ22 j) = zfv G a j (tyJ22 j) := fun G a j e1 e2 e3 hj => zdv ((by decide : ∀ j, j < 9 → zokT (tyJ22 j) = true) j hj) G a j e1 e2 e3
theorem nwJ30 : ∀ (G : GS) (a j : Nat), gI G a j = 0 → gL G a j = 0 → gR G a j = none → j < 6 → defaultValue (tyJ30 j) = zfv G a j (tyJ30 j) := fun G a j e1 e2 e3 hj => zdv ((by decide : ∀ j, j < 6 → zokT (tyJ30 j) = true) j hj) G a j e1 e2 e3
theorem nwJ31 : ∀ (G : GS) (a j : Nat), gI G a j = 0 → gL G a j = 0 → gR G a j = none → j < 1 → defaultValue (tyJ31 j) = zfv G a j (tyJ31 j) := fun G a j e1 e2 e3 hj => zdv ((by decide : ∀ j, j < 1 → zokT (tyJ31 j) = true) j hj) G a j e1 e2 e3
theorem nwJ35 : ∀ (G : GS) (a j : Nat), gI G a j = 0 → gL G a j = 0 → gR G a j = none → j < 4 → defaultValue (tyJ35 j) = zfv G a j (tyJ35 j) := fun G a j e1 e2 e3 hj => zdv ((by decide : ∀ j, j < 4 → zokT (tyJ35 j) = true) j hj) G a j e1 e2 e3
theorem nwJ28 : ∀ (G : GS) (a j : Nat), gI G a j = 0 → gL G a j = 0 → gR G a j = none → j < 4 → defaultValue (tyJ28 j) = zfv G a j (tyJ28 j) := fun G a j e1 e2 e3 hj => zdv ((by decide : ∀ j, j < 4 → zokT (tyJ28 j) = true) j hj) G a j e1 e2 e3
theorem nwJ26 : ∀ (G : GS) (a j : Nat), gI G a j = 0 → gL G a j = 0 → gR G a j = none → j < 1 → defaultValue (tyJ26 j) = zfv G a j (tyJ26 j) := fun G a j e1 e2 e3 hj => zdv ((by decide : ∀ j, j < 1 → zokT (tyJ26 j) = true) j hj) G a j e1 e2 e3
theorem nwJ4 : ∀ (G : GS) (a j : Nat), gI G a j = 0 → gL G a j = 0 → gR G a j = none → j < 4 → defaultValue (tyJ4 j) = zfv G a j (tyJ4 j) := fun G a j e1 e2 e3 hj => zdv ((by decide : ∀ j, j < 4 → zokT (tyJ4 j) = true) j hj) G a j e1 e2 e3
