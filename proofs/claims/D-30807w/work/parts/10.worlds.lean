/-! ===== worlds: a heap as functions; the judgement J ===== -/
abbrev zV : Type := Int32 ⊕ Int64 ⊕ Option Nat ⊕ UInt32 ⊕ UInt64
abbrev vI (x : Int32) : zV := Sum.inl x
abbrev vL (x : Int64) : zV := Sum.inr (Sum.inl x)
abbrev vR (x : Option Nat) : zV := Sum.inr (Sum.inr (Sum.inl x))
abbrev vF (x : UInt32) : zV := Sum.inr (Sum.inr (Sum.inr (Sum.inl x)))
abbrev vD (x : UInt64) : zV := Sum.inr (Sum.inr (Sum.inr (Sum.inr x)))
def zv : zV → Value
  | .inl x => .int x
  | .inr (.inl x) => .long x
  | .inr (.inr (.inl r)) => va_rf r
  | .inr (.inr (.inr (.inl f))) => .float f
  | .inr (.inr (.inr (.inr d))) => .double d
def zw : zV → Bool
  | .inl _ => false
  | .inr (.inl _) => true
  | .inr (.inr (.inl _)) => false
  | .inr (.inr (.inr (.inl _))) => false
  | .inr (.inr (.inr (.inr _))) => true
theorem zv_cat (v : zV) : (zv v).category = if zw v = true then 2 else 1 := by
  rcases v with x | x | r | x | x
  · rfl
  · rfl
  · cases r <;> rfl
  · rfl
  · rfl
/-- heap size, slots used, kinds, lengths, ints, longs, references, addresses of constants -/
abbrev GS : Type := Nat × Nat × (Nat → Nat) × (Nat → Nat) × (Nat → Nat → Int32) × (Nat → Nat → Int64) × (Nat → Nat → Option Nat) × (Nat → Nat)
def gz (G : GS) : Nat := G.1
def gu (G : GS) : Nat := G.2.1
def gK (G : GS) : Nat → Nat := G.2.2.1
def gN (G : GS) : Nat → Nat := G.2.2.2.1
def gI (G : GS) : Nat → Nat → Int32 := G.2.2.2.2.1
def gL (G : GS) : Nat → Nat → Int64 := G.2.2.2.2.2.1
def gR (G : GS) : Nat → Nat → Option Nat := G.2.2.2.2.2.2.1
def gS (G : GS) : Nat → Nat := G.2.2.2.2.2.2.2
def sI (G : GS) (a k : Nat) (v : Int32) : GS := (G.1, G.2.1, G.2.2.1, G.2.2.2.1, (fun b j => if b = a ∧ j = k then v else gI G b j), G.2.2.2.2.2.1, G.2.2.2.2.2.2.1, G.2.2.2.2.2.2.2)
def sL (G : GS) (a k : Nat) (v : Int64) : GS := (G.1, G.2.1, G.2.2.1, G.2.2.2.1, G.2.2.2.2.1, (fun b j => if b = a ∧ j = k then v else gL G b j), G.2.2.2.2.2.2.1, G.2.2.2.2.2.2.2)
def sR (G : GS) (a k : Nat) (v : Option Nat) : GS := (G.1, G.2.1, G.2.2.1, G.2.2.2.1, G.2.2.2.2.1, G.2.2.2.2.2.1, (fun b j => if b = a ∧ j = k then v else gR G b j), G.2.2.2.2.2.2.2)
/-- a new cell of kind K, length n, u slots, all of it zero -/
def al (G : GS) (K n u : Nat) : GS := (gz G + 1, gu G + u, (fun b => if b = gz G then K else gK G b), (fun b => if b = gz G then n else gN G b), (fun b j => if b = gz G then 0 else gI G b j), (fun b j => if b = gz G then 0 else gL G b j), (fun b j => if b = gz G then none else gR G b j), gS G)
/-- all ints of a cell at once -/
def sA (G : GS) (a : Nat) (f : Nat → Int32) : GS := (G.1, G.2.1, G.2.2.1, G.2.2.2.1, (fun b j => if b = a then f j else gI G b j), G.2.2.2.2.2.1, G.2.2.2.2.2.2.1, G.2.2.2.2.2.2.2)
def sB (G : GS) (a : Nat) (f : Nat → Option Nat) : GS := (G.1, G.2.1, G.2.2.1, G.2.2.2.1, G.2.2.2.2.1, G.2.2.2.2.2.1, (fun b j => if b = a then f j else gR G b j), G.2.2.2.2.2.2.2)
section zSimp
variable (G : GS) (a k b j n u K : Nat) (v : Int32) (w : Int64) (r : Option Nat) (f : Nat → Int32) (h : Nat → Option Nat)
theorem gz_sI : gz (sI G a k v) = gz G := rfl
theorem gu_sI : gu (sI G a k v) = gu G := rfl
theorem gK_sI : gK (sI G a k v) = gK G := rfl
theorem gN_sI : gN (sI G a k v) = gN G := rfl
theorem gL_sI : gL (sI G a k v) = gL G := rfl
theorem gR_sI : gR (sI G a k v) = gR G := rfl
theorem gS_sI : gS (sI G a k v) = gS G := rfl
theorem gI_sI : gI (sI G a k v) b j = if b = a ∧ j = k then v else gI G b j := rfl
theorem gz_sL : gz (sL G a k w) = gz G := rfl
theorem gu_sL : gu (sL G a k w) = gu G := rfl
theorem gK_sL : gK (sL G a k w) = gK G := rfl
theorem gN_sL : gN (sL G a k w) = gN G := rfl
theorem gI_sL : gI (sL G a k w) = gI G := rfl
theorem gR_sL : gR (sL G a k w) = gR G := rfl
theorem gS_sL : gS (sL G a k w) = gS G := rfl
theorem gL_sL : gL (sL G a k w) b j = if b = a ∧ j = k then w else gL G b j := rfl
theorem gz_sR : gz (sR G a k r) = gz G := rfl
theorem gu_sR : gu (sR G a k r) = gu G := rfl
theorem gK_sR : gK (sR G a k r) = gK G := rfl
theorem gN_sR : gN (sR G a k r) = gN G := rfl
theorem gI_sR : gI (sR G a k r) = gI G := rfl
theorem gL_sR : gL (sR G a k r) = gL G := rfl
theorem gS_sR : gS (sR G a k r) = gS G := rfl
theorem gR_sR : gR (sR G a k r) b j = if b = a ∧ j = k then r else gR G b j := rfl
theorem gz_al : gz (al G K n u) = gz G + 1 := rfl
theorem gu_al : gu (al G K n u) = gu G + u := rfl
theorem gS_al : gS (al G K n u) = gS G := rfl
theorem gK_al : gK (al G K n u) b = if b = gz G then K else gK G b := rfl
theorem gN_al : gN (al G K n u) b = if b = gz G then n else gN G b := rfl
theorem gI_al : gI (al G K n u) b j = if b = gz G then 0 else gI G b j := rfl
theorem gL_al : gL (al G K n u) b j = if b = gz G then 0 else gL G b j := rfl
theorem gR_al : gR (al G K n u) b j = if b = gz G then none else gR G b j := rfl
theorem gz_sA : gz (sA G a f) = gz G := rfl
theorem gu_sA : gu (sA G a f) = gu G := rfl
theorem gK_sA : gK (sA G a f) = gK G := rfl
theorem gN_sA : gN (sA G a f) = gN G := rfl
theorem gL_sA : gL (sA G a f) = gL G := rfl
theorem gR_sA : gR (sA G a f) = gR G := rfl
theorem gS_sA : gS (sA G a f) = gS G := rfl
theorem gI_sA : gI (sA G a f) b j = if b = a then f j else gI G b j := rfl
theorem gz_sB : gz (sB G a h) = gz G := rfl
theorem gu_sB : gu (sB G a h) = gu G := rfl
theorem gK_sB : gK (sB G a h) = gK G := rfl
theorem gN_sB : gN (sB G a h) = gN G := rfl
theorem gI_sB : gI (sB G a h) = gI G := rfl
theorem gL_sB : gL (sB G a h) = gL G := rfl
theorem gS_sB : gS (sB G a h) = gS G := rfl
theorem gR_sB : gR (sB G a h) b j = if b = a then h j else gR G b j := rfl
end zSimp
/-- kinds stay, the heap grows -/
def zle (G G1 : GS) : Prop := gz G ≤ gz G1 ∧ gu G ≤ gu G1 ∧ gS G1 = gS G ∧ ∀ a, a < gz G → gK G1 a = gK G a ∧ gN G1 a = gN G a
theorem zle_rfl {G : GS} : zle G G := ⟨Nat.le_refl _, Nat.le_refl _, rfl, fun _ _ => ⟨rfl, rfl⟩⟩
theorem zle_trans {A B C : GS} (h : zle A B) (k : zle B C) : zle A C :=
  ⟨Nat.le_trans h.1 k.1, Nat.le_trans h.2.1 k.2.1, k.2.2.1.trans h.2.2.1, fun a ha => ⟨(k.2.2.2 a (Nat.lt_of_lt_of_le ha h.1)).1.trans (h.2.2.2 a ha).1, (k.2.2.2 a (Nat.lt_of_lt_of_le ha h.1)).2.trans (h.2.2.2 a ha).2⟩⟩
theorem zle_al {G : GS} {K n u : Nat} : zle G (al G K n u) := by
  refine ⟨Nat.le_succ _, Nat.le_add_right _ _, rfl, fun a ha => ?_⟩
  rw [gK_al, gN_al, if_neg (Nat.ne_of_lt ha), if_neg (Nat.ne_of_lt ha)]
  exact ⟨rfl, rfl⟩
theorem zle_sI {G : GS} {a k : Nat} {v : Int32} : zle G (sI G a k v) := ⟨Nat.le_refl _, Nat.le_refl _, rfl, fun _ _ => ⟨rfl, rfl⟩⟩
theorem zle_sL {G : GS} {a k : Nat} {v : Int64} : zle G (sL G a k v) := ⟨Nat.le_refl _, Nat.le_refl _, rfl, fun _ _ => ⟨rfl, rfl⟩⟩
theorem zle_sR {G : GS} {a k : Nat} {v : Option Nat} : zle G (sR G a k v) := ⟨Nat.le_refl _, Nat.le_refl _, rfl, fun _ _ => ⟨rfl, rfl⟩⟩
theorem zle_sA {G : GS} {a : Nat} {f : Nat → Int32} : zle G (sA G a f) := ⟨Nat.le_refl _, Nat.le_refl _, rfl, fun _ _ => ⟨rfl, rfl⟩⟩
theorem zle_sB {G : GS} {a : Nat} {f : Nat → Option Nat} : zle G (sB G a f) := ⟨Nat.le_refl _, Nat.le_refl _, rfl, fun _ _ => ⟨rfl, rfl⟩⟩
/-! ===== what a heap holds of a world ===== -/
/-- the value of a place, by its type -/
def zfv (G : GS) (a k : Nat) : FieldType → Value
  | .long => .long (gL G a k)
  | .object _ => va_rf (gR G a k)
  | .array _ => va_rf (gR G a k)
  | .float => .float 0
  | .double => .double 0
  | .int => .int (gI G a k)
  | .byte => .int (gI G a k)
  | .char => .int (gI G a k)
  | .short => .int (gI G a k)
  | .boolean => .int (gI G a k)
/-- numbers of the kinds: a made thing of table row c has kind c + 1; an array of table row t has kind 50 + t; from 60 on what stood there before -/
def zcl : List (String × u_T × Nat × (Nat → FieldType)) := [(RX1, TX1, 5, tyX1), (RX2, TX2, 42, tyX2), (RX3, TX3, 2, tyX3), (RX4, TX4, 3, tyX4), (RX5, TX5, 10, tyX5), (RX6, TX6, 2, tyX6), (RX7, TX7, 7, tyX7), (RX8, TX8, 1, tyX8), (RX10, TX10, 8, tyX10), (RX11, TX11, 3, tyX11), (RX12, TX12, 3, tyX12), (RJ2, TJ2, 3, tyJ2), (RJ19, TJ19, 4, tyJ19), (RJ20, TJ20, 3, tyJ20), (RJ32, TJ32, 4, tyJ32), (RJ22, TJ22, 9, tyJ22), (RJ30, TJ30, 6, tyJ30), (RJ31, TJ31, 1, tyJ31), (RJ35, TJ35, 4, tyJ35), (RJ28, TJ28, 4, tyJ28), (RJ26, TJ26, 1, tyJ26), (RJ4, TJ4, 4, tyJ4)]
abbrev zvcl : List vw_C := [(RX1, TX1, 5), (RX2, TX2, 42), (RX3, TX3, 2), (RX4, TX4, 3), (RX5, TX5, 10), (RX6, TX6, 2), (RX7, TX7, 7), (RX8, TX8, 1), (RX10, TX10, 8), (RX11, TX11, 3), (RX12, TX12, 3), (RJ2, TJ2, 3), (RJ19, TJ19, 4), (RJ20, TJ20, 3), (RJ32, TJ32, 4), (RJ22, TJ22, 9), (RJ30, TJ30, 6), (RJ31, TJ31, 1), (RJ35, TJ35, 4), (RJ28, TJ28, 4), (RJ26, TJ26, 1), (RJ4, TJ4, 4)]
def zar : List FieldType := [.int, .long, .boolean, .byte, .object "java/lang/Object", .object "SelahGenerator$Strings"]
theorem zvcl_eq : zvcl = zcl.map (fun r => (r.1, r.2.1, r.2.2.1)) := rfl
/-- the numbers that the machine gives to classes, fields, arrays -/
abbrev zD : Type := va_G × (Nat → ClassId)
abbrev ztys (D : zD) : List (ClassId × FieldType) := [(D.2 0, .int), (D.2 1, .long), (D.2 2, .boolean), (D.2 3, .byte), (D.2 4, .object "java/lang/Object"), (D.2 5, .object "SelahGenerator$Strings")]
theorem ztys_at {D : zD} {t : Nat} {ty : FieldType} (h : zar[t]? = some ty) : (ztys D)[t]? = some (D.2 t, ty) := by
  match t, h with
  | 0, h => cases h; rfl
  | 1, h => cases h; rfl
  | 2, h => cases h; rfl
  | 3, h => cases h; rfl
  | 4, h => cases h; rfl
  | 5, h => cases h; rfl
  | t + 6, h => simp [zar] at h
/-- an array that stood there before -/
def zLA (U : State) (G : GS) (a : Nat) (ty : FieldType) (H : Heap) : Prop := ∃ cell : Cell, H[a]? = some cell ∧ U.isArrayOf cell ty ∧ cell.vm ≠ .unknown ∧ cell.slots.size = gN G a ∧ ∀ j : Nat, j < gN G a → cell.slots[j]? = some (zfv G a j ty)
/-- a boxed int that stood there before -/
def zLO (U : State) (G : GS) (a : Nat) (H : Heap) : Prop := ∃ (cf : ClassId) (k : Class) (i : Nat) (f : Field) (cell : Cell), U.fieldFound? "java/lang/Integer" "value" "I" = some (cf, k, i, f) ∧ f.isStatic = false ∧ H[a]? = some cell ∧ cell.vm ≠ .unknown ∧ cell.vm.isStatics = false ∧ U.vm.findClass "java/lang/Integer" = some cell.cls ∧ cell.slots[f.slot]? = some (.int (gI G a 0))
def zAt (D : zD) (U : State) (G : GS) (a : Nat) (H : Heap) : Prop :=
  (∀ (c : Nat) (r : String × u_T × Nat × (Nat → FieldType)), zcl[c]? = some r → gK G a = c + 1 → t_OB a (D.1.1 c) r.2.2.1 (D.1.2 c) H (fun j => zfv G a j (r.2.2.2 j))) ∧
  (∀ (t : Nat) (ty : FieldType), zar[t]? = some ty → gK G a = 50 + t → H[a]? = some (arrV (D.2 t) (gN G a) (fun j => zfv G a j ty))) ∧
  (gK G a = 60 → zLA U G a .int H) ∧ (gK G a = 61 → zLO U G a H) ∧ (gK G a = 62 → zLA U G a (.object "java/lang/Object") H ∧ ∀ cell : Cell, H[a]? = some cell → cell.cls = D.2 4) ∧ (gK G a = 63 → zLA U G a (.object "java/lang/Integer") H) ∧ (gK G a = 64 → H[a]? = some { cls := D.2 9, slots := #[va_rf (gR G a 0)], vm := .none }) ∧ (gK G a = 65 → ∃ cell : Cell, H[a]? = some cell ∧ cell.vm.isStatics = false ∧ U.vm.findClass "jdk/internal/misc/Unsafe" = some cell.cls)
/-- cells that we may write -/
def zfree (G : GS) : Nat → Prop := fun q => 0 < gK G q ∧ gK G q < 60
theorem zcl_lt {c : Nat} {r : String × u_T × Nat × (Nat → FieldType)} (h : zcl[c]? = some r) : c < 49 := by
  have h1 : c < zcl.length := (List.getElem?_eq_some_iff.mp h).1
  have h2 : zcl.length ≤ 49 := by decide
  omega
theorem zar_lt {t : Nat} {ty : FieldType} (h : zar[t]? = some ty) : t < 10 := by
  have h1 : t < zar.length := (List.getElem?_eq_some_iff.mp h).1
  have h2 : zar.length ≤ 10 := by decide
  omega
theorem zfv_congr {G G' : GS} {b : Nat} (hI : ∀ k, gI G' b k = gI G b k) (hL : ∀ k, gL G' b k = gL G b k) (hR : ∀ k, gR G' b k = gR G b k) (k : Nat) (ty : FieldType) : zfv G' b k ty = zfv G b k ty := by
  cases ty <;> simp only [zfv, hI, hL, hR]
theorem zLA.congr {U : State} {G G' : GS} {b : Nat} {ty : FieldType} {H H' : Heap} (h : zLA U G b ty H) (hN : gN G' b = gN G b) (hv : ∀ k ty, zfv G' b k ty = zfv G b k ty) (hH : H'[b]? = H[b]?) : zLA U G' b ty H' := by
  obtain ⟨cell, h1, h2, h3, h4, h5⟩ := h
  exact ⟨cell, by rw [hH]; exact h1, h2, h3, by rw [hN]; exact h4, fun j hj => by rw [hv]; exact h5 j (by rw [← hN]; exact hj)⟩
theorem zAt.congr {D : zD} {U : State} {G G' : GS} {b : Nat} {H H' : Heap} (h : zAt D U G b H) (hK : gK G' b = gK G b) (hN : gN G' b = gN G b) (hv : ∀ k ty, zfv G' b k ty = zfv G b k ty) (hH : H'[b]? = H[b]?) : zAt D U G' b H' := by
  obtain ⟨h1, h2, h3, h4, h5, h6, h7, h8⟩ := h
  refine ⟨fun c r hc hk => ?_, fun t ty ht hk => ?_, fun hk => ?_, fun hk => ?_, fun hk => ?_, fun hk => ?_, fun hk => ?_, fun hk => ?_⟩
  · exact ((h1 c r hc (hK.symm.trans hk)).kept hH).to (fun k _ => (hv k _).symm)
  · rw [hH, h2 t ty ht (hK.symm.trans hk), hN]
    congr 2
    funext j
    exact (hv j ty).symm
  · exact (h3 (hK.symm.trans hk)).congr hN hv hH
  · obtain ⟨cf, k, i, f, cell, g1, g2, g3, g4, g5, g6, g7⟩ := h4 (hK.symm.trans hk)
    have e : Value.int (gI G' b 0) = Value.int (gI G b 0) := hv 0 .int
    exact ⟨cf, k, i, f, cell, g1, g2, by rw [hH]; exact g3, g4, g5, g6, by rw [e]; exact g7⟩
  · exact ⟨(h5 (hK.symm.trans hk)).1.congr hN hv hH, fun cell hc => (h5 (hK.symm.trans hk)).2 cell (by rw [← hH]; exact hc)⟩
  · exact (h6 (hK.symm.trans hk)).congr hN hv hH
  · have e : va_rf (gR G' b 0) = va_rf (gR G b 0) := hv 0 (.object "")
    rw [hH, e]
    exact h7 (hK.symm.trans hk)
  · obtain ⟨cell, g1, g2, g3⟩ := h8 (hK.symm.trans hk)
    exact ⟨cell, by rw [hH]; exact g1, g2, g3⟩
theorem zAt.moved {D : zD} {u U : State} {G : GS} {a : Nat} {H : Heap} (hvm : u.vm.Alike U.vm) (h : zAt D u G a H) : zAt D U G a H := by
  obtain ⟨h1, h2, h3, h4, h5, h6, h7, h8⟩ := h
  have hA : ∀ ty, zLA u G a ty H → zLA U G a ty H := fun ty h => by
    obtain ⟨cell, g1, g2, g3⟩ := h
    exact ⟨cell, g1, State.isArrayOf_alike hvm g2, g3⟩
  refine ⟨h1, h2, fun hk => hA _ (h3 hk), fun hk => ?_, fun hk => ⟨hA _ (h5 hk).1, (h5 hk).2⟩, fun hk => hA _ (h6 hk), h7, fun hk => ?_⟩
  rotate_left
  · obtain ⟨cell, g1, g2, g3⟩ := h8 hk
    exact ⟨cell, g1, g2, by rw [hvm.findClass]; exact g3⟩
  obtain ⟨cf, k, i, f, cell, g1, g2, g3, g4, g5, g6, g7⟩ := h4 hk
  obtain ⟨k', hi', he⟩ := State.fieldFound?_setVm hvm g1
  exact ⟨cf, k', i, f, cell, hi', g2, g3, g4, g5, by rw [hvm.findClass]; exact g6, g7⟩
theorem zAt.ofObj {D : zD} {U : State} {G : GS} {a c : Nat} {r : String × u_T × Nat × (Nat → FieldType)} {H : Heap} (hc : zcl[c]? = some r) (hk : gK G a = c + 1) (h : t_OB a (D.1.1 c) r.2.2.1 (D.1.2 c) H (fun j => zfv G a j (r.2.2.2 j))) : zAt D U G a H := by
  have hl := zcl_lt hc
  refine ⟨fun c' r' hc' hk' => ?_, fun t ty ht hk' => ?_, fun hk' => ?_, fun hk' => ?_, fun hk' => ?_, fun hk' => ?_, fun hk' => ?_, fun hk' => ?_⟩
  · obtain rfl : c' = c := by omega
    cases hc.symm.trans hc'
    exact h
  · omega
  · omega
  · omega
  · omega
  · omega
  · omega
  · omega
theorem zAt.ofArr {D : zD} {U : State} {G : GS} {a t : Nat} {ty : FieldType} {H : Heap} (ht : zar[t]? = some ty) (hk : gK G a = 50 + t) (h : H[a]? = some (arrV (D.2 t) (gN G a) (fun j => zfv G a j ty))) : zAt D U G a H := by
  have hl := zar_lt ht
  refine ⟨fun c' r' hc' hk' => ?_, fun t' ty' ht' hk' => ?_, fun hk' => ?_, fun hk' => ?_, fun hk' => ?_, fun hk' => ?_, fun hk' => ?_, fun hk' => ?_⟩
  · have := zcl_lt hc'
    omega
  · obtain rfl : t' = t := by omega
    cases ht.symm.trans ht'
    exact h
  · omega
  · omega
  · omega
  · omega
  · omega
  · omega
theorem zAt.of0 {D : zD} {U : State} {G : GS} {a : Nat} {H : Heap} (hk : gK G a = 0) : zAt D U G a H := by
  refine ⟨fun c' r' hc' hk' => ?_, fun t' ty' ht' hk' => ?_, fun hk' => ?_, fun hk' => ?_, fun hk' => ?_, fun hk' => ?_, fun hk' => ?_, fun hk' => ?_⟩ <;> omega
/-- constants that the machine holds in its own cells -/
def zsts : List (String × String × String × (GS → Value)) := [("java/util/ArrayList", "DEFAULTCAPACITY_EMPTY_ELEMENTDATA", "[Ljava/lang/Object;", fun G => .ref (gS G 0)), ("java/util/ArrayList", "EMPTY_ELEMENTDATA", "[Ljava/lang/Object;", fun G => .ref (gS G 1)), ("java/lang/Integer$IntegerCache", "cache", "[Ljava/lang/Integer;", fun G => .ref (gS G 2)), ("jdk/internal/util/ArraysSupport", "U", "Ljdk/internal/misc/Unsafe;", fun G => .ref (gS G 3)), ("jdk/internal/util/Preconditions", "SIOOBE_FORMATTER", "Ljava/util/function/BiFunction;", fun G => .ref (gS G 4)), ("java/lang/Integer$IntegerCache", "high", "I", fun G => .int 127), ("java/lang/String", "COMPACT_STRINGS", "Z", fun G => .int 1), ("jdk/internal/misc/Unsafe", "ARRAY_INT_BASE_OFFSET", "I", fun G => .int 16), ("jdk/internal/misc/UnsafeConstants", "BIG_ENDIAN", "Z", fun G => .int 0), ("jdk/internal/util/ArraysSupport", "BIG_ENDIAN", "Z", fun G => .int 0), ("jdk/internal/util/ArraysSupport", "LOG2_ARRAY_INT_INDEX_SCALE", "I", fun G => .int 2), ("jdk/internal/util/ArraysSupport", "LOG2_ARRAY_LONG_INDEX_SCALE", "I", fun G => .int 3), ("jdk/internal/util/ArraysSupport", "LOG2_BYTE_BIT_SIZE", "I", fun G => .int 3)]
theorem zsts_congr {G G' : GS} (h : gS G' = gS G) : ∀ q ∈ zsts, q.2.2.2 G' = q.2.2.2 G := by
  intro q hq
  simp only [zsts, List.mem_cons, List.not_mem_nil, or_false] at hq
  rcases hq with rfl | rfl | rfl | rfl | rfl | rfl | rfl | rfl | rfl | rfl | rfl | rfl | rfl <;> first | rfl | simp only [h]
def zHp (D : zD) (G : GS) (U : State) (H : Heap) : Prop :=
  H.size = gz G ∧ (∀ a, zAt D U G a H) ∧ (∀ q ∈ zsts, va_Z q.1 q.2.1 q.2.2.1 (q.2.2.2 G) (zfree G) U H) ∧
  vx_Zq Bundle.tN "UNASSIGNED_STACK" Bundle.steD (zfree G) U H ∧ vx_Zq Bundle.tN "SUPPRESSED_SENTINEL" Bundle.listD (zfree G) U H ∧ va_Mi "java/util/ArrayList" (gS G 10) U ∧ va_Mi "[Ljava/lang/Object;" (gS G 11) U
theorem zHp.moved {D : zD} {u U : State} {G : GS} {H : Heap} (hvm : u.vm.Alike U.vm) (h : zHp D G u H) : zHp D G U H :=
  ⟨h.1, fun a => (h.2.1 a).moved hvm, fun q hq => va_Z.moved hvm (h.2.2.1 q hq), vx_Zq.moved hvm h.2.2.2.1, vx_Zq.moved hvm h.2.2.2.2.1, va_Mi.moved hvm h.2.2.2.2.2.1, va_Mi.moved hvm h.2.2.2.2.2.2⟩
/-- a statics cell stays when only free cells are written, or new ones made -/
theorem va_Z.to {C n d : String} {v v' : Value} {A B : Nat → Prop} {U : State} {H H' : Heap} (h : va_Z C n d v A U H) (hv : v' = v) (hk : ∀ a, a < H.size → ¬ A a → H'[a]? = H[a]? ∧ ¬ B a) : va_Z C n d v' B U H' := by
  obtain ⟨cf, kf, fi, f, a, cell, h1, h2, h3, h4, h5, h6, h7, h8⟩ := h
  obtain ⟨k1, k2⟩ := hk a (Array.getElem?_eq_some_iff.mp h5).1 h8
  exact ⟨cf, kf, fi, f, a, cell, h1, h2, h3, h4, by rw [k1]; exact h5, h6, by rw [hv]; exact h7, k2⟩
theorem vx_Zq.to {C n d : String} {A B : Nat → Prop} {U : State} {H H' : Heap} (h : vx_Zq C n d A U H) (hk : ∀ a, a < H.size → ¬ A a → H'[a]? = H[a]? ∧ ¬ B a) : vx_Zq C n d B U H' := by
  obtain ⟨h0, c, k, i, f, a, cell, h1, h2, h3, h4, h5, h6, h7, h8, h9, h10⟩ := h
  obtain ⟨k1, k2⟩ := hk a (Array.getElem?_eq_some_iff.mp h5).1 h10
  refine ⟨?_, c, k, i, f, a, cell, h1, h2, h3, h4, by rw [k1]; exact h5, h6, h7, h8, h9, k2⟩
  rcases h0 with h0 | ⟨t, h0⟩
  · exact Or.inl (h0.to rfl hk)
  · exact Or.inr ⟨t, h0.to rfl hk⟩
theorem zHp.upd {D : zD} {G G' : GS} {U : State} {H H' : Heap} {a : Nat} (h : zHp D G U H) (hz : gz G' = gz G) (hS : gS G' = gS G) (hK : gK G' = gK G) (hN : gN G' = gN G) (hv : ∀ b, b ≠ a → ∀ k ty, zfv G' b k ty = zfv G b k ty) (hf : zfree G a) (hs : H'.size = H.size) (hH : ∀ b, b ≠ a → H'[b]? = H[b]?) (ha : zAt D U G' a H') : zHp D G' U H' := by
  have hfe : zfree G' = zfree G := by unfold zfree; rw [hK]
  have hk : ∀ q, q < H.size → ¬ zfree G q → H'[q]? = H[q]? ∧ ¬ zfree G' q := fun q _ hq => ⟨hH q (fun e => hq (e ▸ hf)), by rw [hfe]; exact hq⟩
  refine ⟨by rw [hs, hz]; exact h.1, fun b => ?_, fun q hq => (h.2.2.1 q hq).to (zsts_congr hS q hq) hk, h.2.2.2.1.to hk, h.2.2.2.2.1.to hk, by rw [hS]; exact h.2.2.2.2.2.1, by rw [hS]; exact h.2.2.2.2.2.2⟩
  by_cases hb : b = a
  · subst hb; exact ha
  · exact (h.2.1 b).congr (by rw [hK]) (by rw [hN]) (hv b hb) (hH b hb)
theorem zHp.new {D : zD} {G : GS} {U : State} {H H' : Heap} {K n u : Nat} (h : zHp D G U H) (hs : H'.size = H.size + 1) (hH : ∀ b, b < H.size → H'[b]? = H[b]?) (ha : zAt D U (al G K n u) (gz G) H') : zHp D (al G K n u) U H' := by
  have hk : ∀ q, q < H.size → ¬ zfree G q → H'[q]? = H[q]? ∧ ¬ zfree (al G K n u) q := fun q hq hf => ⟨hH q hq, by
    have e : gK (al G K n u) q = gK G q := by rw [gK_al, if_neg (by rw [← h.1]; omega)]
    unfold zfree
    rw [e]
    exact hf⟩
  refine ⟨by rw [hs, h.1]; rfl, fun b => ?_, fun q hq => (h.2.2.1 q hq).to (zsts_congr (G := G) (G' := al G K n u) rfl q hq) hk, h.2.2.2.1.to hk, h.2.2.2.2.1.to hk, h.2.2.2.2.2.1, h.2.2.2.2.2.2⟩
  by_cases hb : b = gz G
  · subst hb; exact ha
  · by_cases hl : b < H.size
    · exact (h.2.1 b).congr (by rw [gK_al, if_neg hb]) (by rw [gN_al, if_neg hb]) (zfv_congr (fun k => by rw [gI_al, if_neg hb]) (fun k => by rw [gL_al, if_neg hb]) (fun k => by rw [gR_al, if_neg hb])) (hH b hl)
    · have hk0 : gK G b = 0 ∨ gK G b ≠ 0 := by omega
      have hn : H[b]? = none := by
        rw [Array.getElem?_eq_none]
        omega
      have hn' : H'[b]? = none := by
        rw [Array.getElem?_eq_none]
        rw [hs, h.1]
        have := h.1
        omega
      exact (h.2.1 b).congr (by rw [gK_al, if_neg hb]) (by rw [gN_al, if_neg hb]) (zfv_congr (fun k => by rw [gI_al, if_neg hb]) (fun k => by rw [gL_al, if_neg hb]) (fun k => by rw [gR_al, if_neg hb])) (by rw [hn, hn'])
/-! words of the tables -/
def zxs : List Cond := [(Cond.declares ({ cls := "java/util/AbstractCollection", name := "isEmpty", desc := "()Z" } : MethodName)), (Cond.declares ({ cls := "java/util/AbstractCollection", name := "size", desc := "()I" } : MethodName)), (Cond.declares ({ cls := "java/util/AbstractCollection", name := "iterator", desc := "()Ljava/util/Iterator;" } : MethodName)), (Cond.declares ({ cls := "java/lang/IndexOutOfBoundsException", name := "<init>", desc := "()V" } : MethodName)), (Cond.declares ({ cls := "java/lang/IndexOutOfBoundsException", name := "<init>", desc := "(Ljava/lang/String;)V" } : MethodName)), (Cond.castable "java/lang/IndexOutOfBoundsException" "java/lang/IndexOutOfBoundsException"), (Cond.castable "java/lang/IndexOutOfBoundsException" "java/lang/Object"), (Cond.castable "java/lang/ArrayIndexOutOfBoundsException" "java/lang/ArrayIndexOutOfBoundsException"), (Cond.castable "java/lang/ArrayIndexOutOfBoundsException" "java/lang/IndexOutOfBoundsException"), (Cond.castable "java/lang/ArrayIndexOutOfBoundsException" "java/lang/Object"), (Cond.castable "java/lang/IllegalStateException" "java/lang/IllegalStateException"), (Cond.castable "java/lang/IllegalStateException" "java/lang/Object"), (Cond.castable "java/lang/IllegalArgumentException" "java/lang/IllegalArgumentException"), (Cond.castable "java/lang/IllegalArgumentException" "java/lang/Object"), (Cond.fieldLinkNest "java/util/ArrayList$Itr" (28 : Nat) "java/util/ArrayList" "size" "I" "java/util/ArrayList"), (Cond.castable "java/util/ArrayList$Itr" "java/util/Iterator"), (Cond.castable "java/util/ArrayList$Itr" "java/lang/Object"), (Cond.castable "java/util/ArrayList" "java/util/List"), (Cond.castable "java/util/ArrayList" "java/util/Collection"), (Cond.castable "java/util/ArrayList" "java/lang/Object"), (Cond.castable "java/util/ArrayDeque" "java/util/Collection"), (Cond.castable "java/util/ArrayDeque" "java/lang/Object"), (Cond.castable "java/util/TreeMap" "java/util/Map"), (Cond.castable "java/util/TreeMap" "java/lang/Object"), (Cond.castable "jdk/internal/misc/Unsafe" "java/lang/Object"), (Cond.castable "java/lang/Integer" "java/lang/Comparable"), (Cond.castable "java/lang/Integer" "java/lang/Object"), (Cond.castable "java/util/PriorityQueue" "java/util/Collection"), (Cond.castable "java/util/PriorityQueue" "java/lang/Object"), (Cond.castable "java/util/TreeMap$Entry" "java/lang/Object"), (Cond.castable "java/util/TreeMap$Values" "java/util/Collection"), (Cond.castable "java/util/TreeMap$Values" "java/lang/Object"), (Cond.castable "java/util/ArrayDeque$DeqIterator" "java/util/Iterator"), (Cond.castable "java/util/ArrayDeque$DeqIterator" "java/lang/Object"), (Cond.castable "java/util/PriorityQueue$Itr" "java/util/Iterator"), (Cond.castable "java/util/PriorityQueue$Itr" "java/lang/Object"), (Cond.declares ({ cls := "java/util/TreeMap$PrivateEntryIterator", name := "nextEntry", desc := "()Ljava/util/TreeMap$Entry;" } : MethodName)), (Cond.fieldLinkNest "java/util/TreeMap$PrivateEntryIterator" (13 : Nat) "java/util/TreeMap" "modCount" "I" "java/util/TreeMap"), (Cond.castable "java/util/TreeMap$ValueIterator" "java/util/Iterator"), (Cond.castable "java/util/TreeMap$ValueIterator" "java/lang/Object"), (Cond.castable "java/lang/StringIndexOutOfBoundsException" "java/lang/IndexOutOfBoundsException"), (Cond.castable "java/lang/StringIndexOutOfBoundsException" "java/lang/Object"), (Cond.declares ({ cls := "java/lang/Object", name := "getClass", desc := "()Ljava/lang/Class;" } : MethodName)), (Cond.declares ({ cls := "java/lang/Object", name := "equals", desc := "(Ljava/lang/Object;)Z" } : MethodName)), (Cond.castable "java/lang/StringBuilder" "java/lang/Comparable"), (Cond.castable "java/lang/StringBuilder" "java/lang/Object"), (Cond.castable "java/lang/String" "java/lang/Comparable"), (Cond.castable "java/lang/String" "java/lang/Object"), (Cond.declares ({ cls := "java/lang/Throwable", name := "<init>", desc := "()V" } : MethodName)), (Cond.declares ({ cls := "java/lang/Throwable", name := "<init>", desc := "(Ljava/lang/String;)V" } : MethodName)), (Cond.castable "java/lang/Throwable" "java/lang/Object"), (Cond.declares ({ cls := "java/lang/Exception", name := "<init>", desc := "()V" } : MethodName)), (Cond.declares ({ cls := "java/lang/Exception", name := "<init>", desc := "(Ljava/lang/String;)V" } : MethodName)), (Cond.declares ({ cls := "java/lang/RuntimeException", name := "<init>", desc := "()V" } : MethodName)), (Cond.declares ({ cls := "java/lang/RuntimeException", name := "<init>", desc := "(Ljava/lang/String;)V" } : MethodName)), (Cond.methodLinkNest "SelahGenerator" (122 : Nat) ({ cls := "SelahGenerator$Workshop", name := "used", desc := "(Ljava/util/List;)I" } : MethodName) "SelahGenerator"), (Cond.fieldLinkNest "SelahGenerator" (134 : Nat) "SelahGenerator$Sets" "first" "[I" "SelahGenerator"), (Cond.fieldLinkNest "SelahGenerator" (137 : Nat) "SelahGenerator$Sets" "follow" "[I" "SelahGenerator"), (Cond.fieldLinkNest "SelahGenerator" (143 : Nat) "SelahGenerator$Sets" "shortest" "[I" "SelahGenerator"), (Cond.fieldLinkNest "SelahGenerator" (146 : Nat) "SelahGenerator$Sets" "prediction" "[I" "SelahGenerator"), (Cond.fieldLinkNest "SelahGenerator" (292 : Nat) "SelahGenerator$Sets" "table" "Ljava/util/Map;" "SelahGenerator"), (Cond.fieldLinkNest "SelahGenerator" (140 : Nat) "SelahGenerator$Sets" "rounds" "I" "SelahGenerator"), (Cond.fieldLinkNest "SelahGenerator" (162 : Nat) "SelahGenerator$Pairs" "prediction" "[LSelahGenerator$Strings;" "SelahGenerator"), (Cond.fieldLinkNest "SelahGenerator" (118 : Nat) "SelahGenerator$Rule" "left" "I" "SelahGenerator"), (Cond.fieldLinkNest "SelahGenerator" (104 : Nat) "SelahGenerator$Rule" "right" "[I" "SelahGenerator"), (Cond.fieldLinkNest "SelahGenerator" (175 : Nat) "SelahGenerator$Workshop" "rules" "Ljava/util/List;" "SelahGenerator"), (Cond.fieldLinkNest "SelahGenerator" (176 : Nat) "SelahGenerator$Workshop" "made" "I" "SelahGenerator"), (Cond.fieldLinkNest "SelahGenerator" (216 : Nat) "SelahGenerator$Parse" "stack" "Ljava/util/ArrayDeque;" "SelahGenerator"), (Cond.fieldLinkNest "SelahGenerator" (210 : Nat) "SelahGenerator$Parse" "tokens" "Ljava/util/List;" "SelahGenerator"), (Cond.fieldLinkNest "SelahGenerator" (244 : Nat) "SelahGenerator$Parse" "applied" "Ljava/util/List;" "SelahGenerator"), (Cond.fieldLinkNest "SelahGenerator" (250 : Nat) "SelahGenerator$Parse" "faults" "Ljava/util/List;" "SelahGenerator"), (Cond.fieldLinkNest "SelahGenerator" (207 : Nat) "SelahGenerator$Parse" "state" "I" "SelahGenerator"), (Cond.fieldLinkNest "SelahGenerator" (262 : Nat) "SelahGenerator$Fault" "token" "I" "SelahGenerator"), (Cond.fieldLinkNest "SelahGenerator" (264 : Nat) "SelahGenerator$Fault" "symbol" "I" "SelahGenerator"), (Cond.fieldLinkNest "SelahGenerator" (267 : Nat) "SelahGenerator$Fault" "skipped" "Z" "SelahGenerator"), (Cond.castable "SelahGenerator" "java/lang/Object"), (Cond.fieldLinkNest "SelahGenerator$Parse" (134 : Nat) "SelahGenerator" "rules" "Ljava/util/List;" "SelahGenerator"), (Cond.fieldLinkNest "SelahGenerator$Parse" (130 : Nat) "SelahGenerator$Sets" "follow" "[I" "SelahGenerator"), (Cond.fieldLinkNest "SelahGenerator$Parse" (145 : Nat) "SelahGenerator$Sets" "prediction" "[I" "SelahGenerator"), (Cond.fieldLinkNest "SelahGenerator$Parse" (148 : Nat) "SelahGenerator$Pairs" "prediction" "[LSelahGenerator$Strings;" "SelahGenerator"), (Cond.methodLinkNest "SelahGenerator$Parse" (92 : Nat) ({ cls := "SelahGenerator", name := "isNonterminal", desc := "(I)Z" } : MethodName) "SelahGenerator"), (Cond.methodLinkNest "SelahGenerator$Parse" (108 : Nat) ({ cls := "SelahGenerator", name := "sets", desc := "()LSelahGenerator$Sets;" } : MethodName) "SelahGenerator"), (Cond.methodLinkNest "SelahGenerator$Parse" (118 : Nat) ({ cls := "SelahGenerator", name := "pairs", desc := "()LSelahGenerator$Pairs;" } : MethodName) "SelahGenerator"), (Cond.fieldLinkNest "SelahGenerator$Parse" (142 : Nat) "SelahGenerator$Rule" "left" "I" "SelahGenerator"), (Cond.fieldLinkNest "SelahGenerator$Parse" (139 : Nat) "SelahGenerator$Rule" "right" "[I" "SelahGenerator"), (Cond.castable "SelahGenerator$Parse" "java/lang/Object"), (Cond.castable "SelahGenerator$Fault" "java/lang/Object"), (Cond.fieldLinkNest "SelahGenerator$Backtracking" (39 : Nat) "SelahGenerator" "rules" "Ljava/util/List;" "SelahGenerator"), (Cond.methodLinkNest "SelahGenerator$Backtracking" (66 : Nat) ({ cls := "SelahGenerator", name := "isNonterminal", desc := "(I)Z" } : MethodName) "SelahGenerator"), (Cond.fieldLinkNest "SelahGenerator$Backtracking" (48 : Nat) "SelahGenerator$Rule" "left" "I" "SelahGenerator"), (Cond.fieldLinkNest "SelahGenerator$Backtracking" (53 : Nat) "SelahGenerator$Rule" "right" "[I" "SelahGenerator"), (Cond.castable "SelahGenerator$Backtracking" "java/lang/Object"), (Cond.castable "SelahGeneratorModel" "java/lang/Object"), (Cond.castable "SelahGenerator$Rule" "java/lang/Object"), (Cond.methodLinkNest "SelahGenerator$Workshop" (46 : Nat) ({ cls := "SelahGenerator", name := "isNonterminal", desc := "(I)Z" } : MethodName) "SelahGenerator"), (Cond.fieldLinkNest "SelahGenerator$Workshop" (38 : Nat) "SelahGenerator$Rule" "left" "I" "SelahGenerator"), (Cond.fieldLinkNest "SelahGenerator$Workshop" (42 : Nat) "SelahGenerator$Rule" "right" "[I" "SelahGenerator"), (Cond.methodLinkNest "SelahGenerator$Workshop" (56 : Nat) ({ cls := "SelahGenerator$Failed", name := "<init>", desc := "()V" } : MethodName) "SelahGenerator"), (Cond.castable "SelahGenerator$Workshop" "java/lang/Object"), (Cond.methodLinkNest "SelahGenerator$Sets" (70 : Nat) ({ cls := "SelahGenerator", name := "isNonterminal", desc := "(I)Z" } : MethodName) "SelahGenerator"), (Cond.fieldLinkNest "SelahGenerator$Sets" (158 : Nat) "SelahGenerator$Length" "nonterminal" "I" "SelahGenerator"), (Cond.fieldLinkNest "SelahGenerator$Sets" (161 : Nat) "SelahGenerator$Length" "length" "I" "SelahGenerator"), (Cond.fieldLinkNest "SelahGenerator$Sets" (101 : Nat) "SelahGenerator$Rule" "left" "I" "SelahGenerator"), (Cond.fieldLinkNest "SelahGenerator$Sets" (94 : Nat) "SelahGenerator$Rule" "right" "[I" "SelahGenerator"), (Cond.castable "SelahGenerator$Sets" "java/lang/Object"), (Cond.castable "SelahGenerator$Length" "java/lang/Comparable"), (Cond.castable "SelahGenerator$Length" "java/lang/Object"), (Cond.methodLinkNest "SelahGenerator$Pairs" (20 : Nat) ({ cls := "SelahGenerator$Strings", name := "<init>", desc := "()V" } : MethodName) "SelahGenerator"), (Cond.methodLinkNest "SelahGenerator$Pairs" (88 : Nat) ({ cls := "SelahGenerator", name := "isNonterminal", desc := "(I)Z" } : MethodName) "SelahGenerator"), (Cond.fieldLinkNest "SelahGenerator$Pairs" (60 : Nat) "SelahGenerator$Rule" "left" "I" "SelahGenerator"), (Cond.fieldLinkNest "SelahGenerator$Pairs" (84 : Nat) "SelahGenerator$Rule" "right" "[I" "SelahGenerator"), (Cond.castable "SelahGenerator$Pairs" "java/lang/Object"), (Cond.castable "SelahGenerator$Strings" "java/lang/Object"), (Cond.castable "SelahGenerator$Failed" "SelahGenerator$Failed"), (Cond.castable "SelahGenerator$Failed" "java/lang/Object"), (Cond.declares ({ cls := "SelahGenerator$Test", name := "holds", desc := "(I)Z" } : MethodName)), (Cond.castable "[B" "java/lang/Cloneable"), (Cond.castable "[B" "java/lang/Object"), (Cond.castable "[I" "java/lang/Cloneable"), (Cond.castable "[I" "java/lang/Object"), (Cond.castable "[J" "java/lang/Object"), (Cond.castable "[LSelahGenerator$Strings;" "java/lang/Object"), (Cond.castable "[Ljava/lang/Object;" "java/lang/Object"), (Cond.castable "[Z" "java/lang/Object"), (Cond.declares ({ cls := "java/lang/Comparable", name := "compareTo", desc := "(Ljava/lang/Object;)I" } : MethodName)), (Cond.declares ({ cls := "java/util/Collection", name := "iterator", desc := "()Ljava/util/Iterator;" } : MethodName)), (Cond.declares ({ cls := "java/util/Collection", name := "toArray", desc := "()[Ljava/lang/Object;" } : MethodName)), (Cond.declares ({ cls := "java/util/Comparator", name := "compare", desc := "(Ljava/lang/Object;Ljava/lang/Object;)I" } : MethodName)), (Cond.declares ({ cls := "java/util/Iterator", name := "hasNext", desc := "()Z" } : MethodName)), (Cond.declares ({ cls := "java/util/Iterator", name := "next", desc := "()Ljava/lang/Object;" } : MethodName)), (Cond.declares ({ cls := "java/util/List", name := "size", desc := "()I" } : MethodName)), (Cond.declares ({ cls := "java/util/List", name := "iterator", desc := "()Ljava/util/Iterator;" } : MethodName)), (Cond.declares ({ cls := "java/util/List", name := "get", desc := "(I)Ljava/lang/Object;" } : MethodName)), (Cond.declares ({ cls := "java/util/List", name := "isEmpty", desc := "()Z" } : MethodName)), (Cond.declares ({ cls := "java/util/List", name := "add", desc := "(Ljava/lang/Object;)Z" } : MethodName)), (Cond.declares ({ cls := "java/util/List", name := "set", desc := "(ILjava/lang/Object;)Ljava/lang/Object;" } : MethodName)), (Cond.declares ({ cls := "java/util/List", name := "remove", desc := "(I)Ljava/lang/Object;" } : MethodName)), (Cond.declares ({ cls := "java/util/List", name := "add", desc := "(ILjava/lang/Object;)V" } : MethodName)), (Cond.declares ({ cls := "java/util/List", name := "clear", desc := "()V" } : MethodName)), (Cond.declares ({ cls := "java/util/List", name := "addAll", desc := "(Ljava/util/Collection;)Z" } : MethodName)), (Cond.declares ({ cls := "java/util/List", name := "indexOf", desc := "(Ljava/lang/Object;)I" } : MethodName)), (Cond.declares ({ cls := "java/util/List", name := "remove", desc := "(Ljava/lang/Object;)Z" } : MethodName)), (Cond.declares ({ cls := "java/util/Map", name := "put", desc := "(Ljava/lang/Object;Ljava/lang/Object;)Ljava/lang/Object;" } : MethodName)), (Cond.declares ({ cls := "java/util/Map", name := "values", desc := "()Ljava/util/Collection;" } : MethodName)), (Cond.declares ({ cls := "java/util/Map", name := "size", desc := "()I" } : MethodName)), (Cond.declares ({ cls := "java/util/Map", name := "get", desc := "(Ljava/lang/Object;)Ljava/lang/Object;" } : MethodName))]
def zfs : List (String × MethodName × MethodName) := [("SelahGenerator$Length", ⟨"java/lang/Comparable", "compareTo", "(Ljava/lang/Object;)I"⟩, ⟨"SelahGenerator$Length", "compareTo", "(Ljava/lang/Object;)I"⟩), ("java/lang/Integer", ⟨"java/lang/Comparable", "compareTo", "(Ljava/lang/Object;)I"⟩, ⟨"java/lang/Integer", "compareTo", "(Ljava/lang/Object;)I"⟩), ("java/util/ArrayDeque$DeqIterator", ⟨"java/util/Iterator", "next", "()Ljava/lang/Object;"⟩, ⟨"java/util/ArrayDeque$DeqIterator", "next", "()Ljava/lang/Object;"⟩), ("java/util/ArrayList", ⟨"java/util/Collection", "toArray", "()[Ljava/lang/Object;"⟩, ⟨"java/util/ArrayList", "toArray", "()[Ljava/lang/Object;"⟩), ("java/util/ArrayList", ⟨"java/util/List", "add", "(ILjava/lang/Object;)V"⟩, ⟨"java/util/ArrayList", "add", "(ILjava/lang/Object;)V"⟩), ("java/util/ArrayList", ⟨"java/util/List", "add", "(Ljava/lang/Object;)Z"⟩, ⟨"java/util/ArrayList", "add", "(Ljava/lang/Object;)Z"⟩), ("java/util/ArrayList", ⟨"java/util/List", "addAll", "(Ljava/util/Collection;)Z"⟩, ⟨"java/util/ArrayList", "addAll", "(Ljava/util/Collection;)Z"⟩), ("java/util/ArrayList", ⟨"java/util/List", "clear", "()V"⟩, ⟨"java/util/ArrayList", "clear", "()V"⟩), ("java/util/ArrayList", ⟨"java/util/List", "get", "(I)Ljava/lang/Object;"⟩, ⟨"java/util/ArrayList", "get", "(I)Ljava/lang/Object;"⟩), ("java/util/ArrayList", ⟨"java/util/List", "indexOf", "(Ljava/lang/Object;)I"⟩, ⟨"java/util/ArrayList", "indexOf", "(Ljava/lang/Object;)I"⟩), ("java/util/ArrayList", ⟨"java/util/List", "isEmpty", "()Z"⟩, ⟨"java/util/ArrayList", "isEmpty", "()Z"⟩), ("java/util/ArrayList", ⟨"java/util/List", "iterator", "()Ljava/util/Iterator;"⟩, ⟨"java/util/ArrayList", "iterator", "()Ljava/util/Iterator;"⟩), ("java/util/ArrayList", ⟨"java/util/List", "remove", "(I)Ljava/lang/Object;"⟩, ⟨"java/util/ArrayList", "remove", "(I)Ljava/lang/Object;"⟩), ("java/util/ArrayList", ⟨"java/util/List", "remove", "(Ljava/lang/Object;)Z"⟩, ⟨"java/util/ArrayList", "remove", "(Ljava/lang/Object;)Z"⟩), ("java/util/ArrayList", ⟨"java/util/List", "set", "(ILjava/lang/Object;)Ljava/lang/Object;"⟩, ⟨"java/util/ArrayList", "set", "(ILjava/lang/Object;)Ljava/lang/Object;"⟩), ("java/util/ArrayList", ⟨"java/util/List", "size", "()I"⟩, ⟨"java/util/ArrayList", "size", "()I"⟩), ("java/util/ArrayList$Itr", ⟨"java/util/Iterator", "hasNext", "()Z"⟩, ⟨"java/util/ArrayList$Itr", "hasNext", "()Z"⟩), ("java/util/ArrayList$Itr", ⟨"java/util/Iterator", "next", "()Ljava/lang/Object;"⟩, ⟨"java/util/ArrayList$Itr", "next", "()Ljava/lang/Object;"⟩), ("java/util/TreeMap", ⟨"java/util/Map", "get", "(Ljava/lang/Object;)Ljava/lang/Object;"⟩, ⟨"java/util/TreeMap", "get", "(Ljava/lang/Object;)Ljava/lang/Object;"⟩), ("java/util/TreeMap", ⟨"java/util/Map", "put", "(Ljava/lang/Object;Ljava/lang/Object;)Ljava/lang/Object;"⟩, ⟨"java/util/TreeMap", "put", "(Ljava/lang/Object;Ljava/lang/Object;)Ljava/lang/Object;"⟩), ("java/util/TreeMap", ⟨"java/util/Map", "size", "()I"⟩, ⟨"java/util/TreeMap", "size", "()I"⟩), ("java/util/TreeMap", ⟨"java/util/Map", "values", "()Ljava/util/Collection;"⟩, ⟨"java/util/TreeMap", "values", "()Ljava/util/Collection;"⟩), ("java/util/TreeMap$ValueIterator", ⟨"java/util/Iterator", "hasNext", "()Z"⟩, ⟨"java/util/TreeMap$PrivateEntryIterator", "hasNext", "()Z"⟩), ("java/util/TreeMap$ValueIterator", ⟨"java/util/Iterator", "next", "()Ljava/lang/Object;"⟩, ⟨"java/util/TreeMap$ValueIterator", "next", "()Ljava/lang/Object;"⟩), ("java/util/TreeMap$Values", ⟨"java/util/Collection", "iterator", "()Ljava/util/Iterator;"⟩, ⟨"java/util/TreeMap$Values", "iterator", "()Ljava/util/Iterator;"⟩)]
/-- pairs of classes that aren't each other's kind -/
def zncs : List (String × String) := [("java/lang/IllegalArgumentException", "java/lang/IndexOutOfBoundsException"), ("java/lang/IllegalStateException", "java/lang/IndexOutOfBoundsException"), ("java/lang/IllegalStateException", "java/lang/IllegalArgumentException")]
/-- a collection's class, asked for through an interface -/
def zgcN : MethodName := ⟨"java/lang/Object", "getClass", "()Ljava/lang/Class;"⟩
def zGc (U : State) : Prop := (Cond.interfaceMethod "java/util/Collection" "java/lang/Object" "getClass" "()Ljava/lang/Class;").before #[] U = true ∧ (Cond.publicMethod zgcN).before #[] U = true ∧ (Cond.unhidden "java/util/ArrayList" "getClass" "()Ljava/lang/Class;").before #[] U = true ∧ (Cond.interfaceMethod "SelahGenerator$Test" "SelahGenerator$Test" "holds" "(I)Z").before #[] U = true
theorem zGc.moved {u U : State} (hvm : u.vm.Alike U.vm) (h : zGc u) : zGc U := by
  obtain ⟨h1, h2, h3, h4⟩ := h
  have tr : ∀ {c : Cond}, c.onTables = true → c.before #[] (u.setVm U.vm) = true → c.before #[] U = true := by
    intro c hc h
    have e := Cond.onTables_vm (A := #[]) (A' := #[]) (U := u) (U' := U) U.vm c hc
    have hU : U.setVm U.vm = U := rfl
    rw [hU] at e
    rw [← e]
    exact h
  have e : ∀ a b c d : String, (Cond.interfaceMethod a b c d).before #[] (u.setVm U.vm) = (Cond.interfaceMethod a b c d).before #[] u := fun a b c d => by
    simp only [Cond.before, Cond.holds, Cond.value, State.vm_setVm, hvm.findClass, State.methodFound?_setVm hvm, State.methodNamed?_setVm hvm, arm_isInterface_setVm hvm]
  exact ⟨tr rfl (by rw [e]; exact h1), tr rfl (by rw [Cond.publicMethod_setVm hvm]; exact h2), tr rfl (by rw [Cond.unhidden_setVm hvm]; exact h3), tr rfl (by rw [e]; exact h4)⟩
/-- the class of the one lambda -/
def zσ : Lambda.Shape := { iface := "SelahGenerator$Test", name := "holds", sam := { parameters := [FieldType.int], returnType := some FieldType.boolean }, captured := [FieldType.object "SelahGenerator$Sets"], kind := 5, implClass := "SelahGenerator$Sets", implName := "lambda$new$0", implDesc := { parameters := [FieldType.int], returnType := some FieldType.boolean }, implItf := false, inst := { parameters := [FieldType.int], returnType := some FieldType.boolean } }
def zLm (c : ClassId) (U : State) : Prop := ∃ (m : MethodId) (k : Class) (cf : ClassFile) (i0 p0 : Nat), U.methodNamed? ⟨"SelahGenerator$Sets", "<init>", "(Ljava/util/List;)V"⟩ = some m ∧ U.vm.classes[m.cls]? = some k ∧ k.cf = some cf ∧ Lambda.shapeOf? cf 31 = some zσ ∧ (k.callSites.find? fun y => y.1 == m.idx && y.2.1 == 49) = some (i0, p0, .makes c) ∧ Lambda.isMade { classPath := fun _ => none } U.vm m.cls zσ c = true ∧ U.lambdaCallable zσ c = true
theorem zLm.warm {c : ClassId} {s U : State} (hW : s.WarmedH U.vm) (h : zLm c s) : zLm c U := by
  obtain ⟨m, k, cf, i0, p0, hm, hk, hcf, hsh, hfind, hmade, hcall⟩ := h
  obtain ⟨k', hk', he⟩ := hW.alike.2.2 _ _ hk
  have hm' : U.methodNamed? ⟨"SelahGenerator$Sets", "<init>", "(Ljava/util/List;)V"⟩ = some m := by
    have := State.methodNamed?_setVm (s := s) hW.alike ⟨"SelahGenerator$Sets", "<init>", "(Ljava/util/List;)V"⟩
    rw [hm] at this
    exact this
  have hcall' : U.lambdaCallable zσ c = true := by
    have hA := hW.alike
    simp only [State.lambdaCallable, hA.findClass, hA.assignable, hA.superclasses, hA.declaredIn] at hcall ⊢
    exact hcall
  exact ⟨m, k', cf, i0, p0, hm', hk', by rw [he]; exact hcf, hsh, by rw [he]; exact hfind, Lambda.isMade_warmer hW hmade, hcall'⟩
/-- a private method of a superclass -/
def zpvN : MethodName := ⟨"java/lang/AbstractStringBuilder", "ensureCapacityInternal", "(I)V"⟩
def zPv (U : State) : Prop := (Cond.selects "java/lang/StringBuilder" zpvN zpvN).before #[] U = true
theorem zPv.warm {s U : State} (hW : s.WarmedH U.vm) (h : zPv s) : zPv U := word_at hW (Or.inl rfl) h
/-- the tables, as they stand at a state -/
def zTb (D : zD) (U : State) : Prop := va_K D.1 zvcl (ztys D) U ∧ (∀ w ∈ zxs, va_Nw w U) ∧ (∀ q ∈ zfs, va_Fw q.1 q.2.1 q.2.2 U) ∧ va_AO "java/lang/Object" U ∧ va_AO "SelahGenerator$Strings" U ∧ (∀ q ∈ zncs, va_Nc q.1 q.2 U) ∧ zGc U ∧ zLm (D.2 9) U ∧ zPv U
