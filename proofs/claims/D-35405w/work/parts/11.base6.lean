/-! BASE 6: rows of the whole heap (the class's side) -/
/-- fuel of loops, depth, limits of cells and of slots, addresses of static references and of String constants -/
abbrev KT : Type := Nat × Nat × Nat × Nat × (Nat → Option Nat)
def gSt : List (String × String × String) := [("java/util/ArrayList", "DEFAULTCAPACITY_EMPTY_ELEMENTDATA", "[Ljava/lang/Object;"), ("java/lang/Integer$IntegerCache", "cache", "[Ljava/lang/Integer;"), ("java/lang/Integer", "DigitOnes", "[B"), ("java/lang/Integer", "DigitTens", "[B"), ("Weaveword", "VALUES", "[I"), ("Weaveword", "INSTRUCTED", "[I")]
def gSi : List (String × String × String × Int) := [("java/lang/Integer$IntegerCache", "high", "I", 127), ("java/lang/String", "COMPACT_STRINGS", "Z", 1)]
def KOK (G : GT) (K : KT) : Prop := K.2.2.1 ≤ gLC G ∧ K.2.2.2.1 ≤ gLS G ∧ (∀ (i : Nat) (q : String × String × String), gSt[i]? = some q → (q.1, q.2.1, q.2.2, va_rf (K.2.2.2.2 i)) ∈ gZ G) ∧ (∀ q ∈ gSi, (q.1, q.2.1, q.2.2.1, iv q.2.2.2) ∈ gZ G) ∧ K.2.2.2.2 50 = some (gA G 200) ∧ ∀ i, i < gStr.length → K.2.2.2.2 (100 + i) = some (gA G (300 + i))
def cell (B : BH) (e : Option Nat) : Option PC4 := e.bind B.1
def gI {ρ : Type} (B : BH) (t : Nat) (e : Option Nat) (k : Nat) (κ : Int → Option ρ) : Option ρ := (cell B e).bind fun c => ck (c.1 % 1000 = t) (κ (c.2.2.1 k))
def gR {ρ : Type} (B : BH) (t : Nat) (e : Option Nat) (k : Nat) (κ : Option Nat → Option ρ) : Option ρ := (cell B e).bind fun c => ck (c.1 % 1000 = t) (κ (c.2.2.2 k))
/-- field k of the object e becomes v -/
def pI {ρ : Type} (B : BH) (t : Nat) (e : Option Nat) (k : Nat) (v : Int) (κ : BH → Option ρ) : Option ρ := (cell B e).bind fun c => ck (c.1 = t) (κ (upB B (e.getD 0) (putI c k v)))
def pZ {ρ : Type} (B : BH) (t : Nat) (e : Option Nat) (k : Nat) (v : Int) (κ : BH → Option ρ) : Option ρ := (cell B e).bind fun c => ck (c.1 = t ∧ is01 v) (κ (upB B (e.getD 0) (putI c k v)))
def pR {ρ : Type} (B : BH) (t : Nat) (e : Option Nat) (k : Nat) (v : Option Nat) (κ : BH → Option ρ) : Option ρ := (cell B e).bind fun c => ck (c.1 = t) (κ (upB B (e.getD 0) (putR c k v)))
/-- arrays of ints of the tag t (100 int, 101 boolean, 102 byte) -/
def aI {ρ : Type} (B : BH) (t : Nat) (e : Option Nat) (i : Int) (κ : Int → Option ρ) : Option ρ := (cell B e).bind fun c => ck (c.1 % 1000 = t ∧ inA c i) (κ (c.2.2.1 i.toNat))
def sI {ρ : Type} (B : BH) (e : Option Nat) (i v : Int) (κ : BH → Option ρ) : Option ρ := (cell B e).bind fun c => ck (c.1 = 100 ∧ inA c i) (κ (upB B (e.getD 0) (putI c i.toNat v)))
def sZ {ρ : Type} (B : BH) (e : Option Nat) (i v : Int) (κ : BH → Option ρ) : Option ρ := (cell B e).bind fun c => ck (c.1 = 101 ∧ inA c i ∧ is01 v) (κ (upB B (e.getD 0) (putI c i.toNat v)))
/-- arrays of references -/
def aR {ρ : Type} (B : BH) (e : Option Nat) (i : Int) (κ : Option Nat → Option ρ) : Option ρ := (cell B e).bind fun c => ck (110 ≤ c.1 % 1000 ∧ c.1 % 1000 < 116 ∧ inA c i) (κ (c.2.2.2 i.toNat))
/-- the class of a row of an array of the tag t, by the tag in gCl; none: any object -/
def rowT (t : Nat) : Option Nat := if t = 110 then none else if t = 111 then some 3 else if t = 112 then some 7 else if t = 113 then some 6 else if t = 114 then some 12 else some 16
/-- v may lie in an array of tag t -/
def fitR (B : BH) (t : Nat) (v : Option Nat) : Bool := match v with
  | none => true
  | some a => match B.1 a with
    | none => false
    | some c => (c.1 % 1000 < 22 && (rowT t == none || rowT t == some (c.1 % 1000))) || (rowT t == none && c.1 % 1000 == 100)
def sR {ρ : Type} (B : BH) (e : Option Nat) (i : Int) (v : Option Nat) (κ : BH → Option ρ) : Option ρ := (cell B e).bind fun c => ck (110 ≤ c.1 ∧ c.1 < 116 ∧ inA c i ∧ fitR B c.1 v = true) (κ (upB B (e.getD 0) (putR c i.toNat v)))
def aL {ρ : Type} (B : BH) (e : Option Nat) (κ : Int → Option ρ) : Option ρ := (cell B e).bind fun c => ck ((100 ≤ c.1 % 1000 ∧ c.1 % 1000 < 104) ∨ (110 ≤ c.1 % 1000 ∧ c.1 % 1000 < 116)) (κ c.2.1)
def pushB (B : BH) (c : PC4) (n : Nat) : BH := (fun q => if q = B.2.1 then some c else B.1 q, B.2.1 + 1, B.2.2 + n)
abbrev rmK (K : KT) (B : BH) (n : Nat) : Prop := B.2.1 + 1 ≤ K.2.2.1 ∧ B.2.2 + n ≤ K.2.2.2.1
def nw {ρ : Type} (K : KT) (B : BH) (t : Nat) (κ : Option Nat → BH → Option ρ) : Option ρ := ck (rmK K B (gN t)) (κ (some B.2.1) (pushB B (t, 0, fun _ => 0, fun _ => none) (gN t)))
def na {ρ : Type} (K : KT) (B : BH) (t : Nat) (n : Int) (κ : Option Nat → BH → Option ρ) : Option ρ := ck ((0 ≤ n ∧ n < 1000000) ∧ rmK K B n.toNat) (κ (some B.2.1) (pushB B (t, n.toNat, fun _ => 0, fun _ => none) n.toNat))
def gTok (ty : FieldType) : Bool := match ty with
  | .long => false
  | .float => false
  | .double => false
  | _ => true
section ROWS
variable {ρ : Type} {G : GT} {M : MI} {B0 : BH} {o : ρ → Rv × BH} {x y : Option ρ} {pc : Nat} {L : LL} {st stk : List Value} {B : BH} {e : Option Nat} {K : KT}
theorem W.stand {p : Program} {l : Launch} {e : Env} {R : Room} {s : State} {m : MethodId} {args : Array Value} {below : List Frame} {meth : Method} {c : Code} {H : Heap} {locs : List Loc} {k n : Nat} {Q : State → Prop} {g : JFrame} (h : tot s.heap ≤ tot H → W p l e R s m args below meth c H locs k n Q g) : W p l e R s m args below meth c H locs k n Q g := fun T hT X => h (by rw [← hT]; exact tot_le X) T hT X
theorem Sim.cell {f : PC4 → Option ρ} (h : ∀ (a : Nat) (c : PC4), e = some a → B.1 a = some c → Sim G M B0 o (f c) pc L stk B) : Sim G M B0 o ((cell B e).bind f) pc L stk B := by
  intro r hr
  cases e with
  | none => cases hr
  | some a =>
    have hr' : (B.1 a).bind f = some r := hr
    cases hB : B.1 a with
    | none => rw [hB] at hr'; cases hr'
    | some c => rw [hB] at hr'; exact h a c rfl hB r hr'
theorem Sim.ck {c : Prop} [Decidable c] (h : c → Sim G M B0 o x pc L stk B) : Sim G M B0 o (ck c x) pc L stk B := fun r hr => h (ck_some hr).1 r (ck_some hr).2
theorem h_getI {t k idx N : Nat} {C : String} {T : u_T} {κ : Int → Option ρ} (hf : fdOK t C T N k) (hr : gRef t k = false) (q : flk M idx (T k)) (d : decode M.2.1 pc = .ok (.getfield idx, 3)) (kk : ∀ v, Sim G M B0 o (κ v) (pc + 3) L (iv v :: st) B) : Sim G M B0 o (gI B t e k κ) pc L (va_rf e :: st) B :=
  Sim.cell fun a c he hB => Sim.ck fun hc => by
    subst he
    refine s_getf hB hc hf q d ?_
    unfold fV
    rw [if_neg (by rw [hr]; decide)]
    exact kk _
theorem h_getR {t k idx N : Nat} {C : String} {T : u_T} {κ : Option Nat → Option ρ} (hf : fdOK t C T N k) (hr : gRef t k = true) (q : flk M idx (T k)) (d : decode M.2.1 pc = .ok (.getfield idx, 3)) (kk : ∀ v, Sim G M B0 o (κ v) (pc + 3) L (va_rf v :: st) B) : Sim G M B0 o (gR B t e k κ) pc L (va_rf e :: st) B :=
  Sim.cell fun a c he hB => Sim.ck fun hc => by
    subst he
    refine s_getf hB hc hf q d ?_
    unfold fV
    rw [if_pos hr]
    exact kk _
theorem fV_putI {t k j : Nat} {c : PC4} {v : Int} (hr : gRef t k = false) : fV t (putI c k v).2.2.1 (putI c k v).2.2.2 j = if j = k then iv v else fV t c.2.2.1 c.2.2.2 j := by
  unfold fV putI
  by_cases e : j = k
  · subst e
    rw [if_neg (by rw [hr]; decide), if_pos rfl]
    show iv (if j = j then v else c.2.2.1 j) = _
    rw [if_pos rfl]
  · rw [if_neg e]
    show (if gRef t j = true then _ else Value.int (Int32.ofInt (if j = k then v else c.2.2.1 j))) = _
    rw [if_neg e]
theorem fV_putR {t k j : Nat} {c : PC4} {v : Option Nat} (hr : gRef t k = true) : fV t (putR c k v).2.2.1 (putR c k v).2.2.2 j = if j = k then va_rf v else fV t c.2.2.1 c.2.2.2 j := by
  unfold fV putR
  by_cases e : j = k
  · subst e
    rw [if_pos hr, if_pos rfl]
    show va_rf (if j = j then v else c.2.2.2 j) = _
    rw [if_pos rfl]
  · rw [if_neg e]
    show (if gRef t j = true then va_rf (if j = k then v else c.2.2.2 j) else _) = _
    rw [if_neg e]
/-- what a putfield asks of the field -/
def pfOK (M : MI) (t : Nat) (C : String) (T : u_T) (N k idx : Nat) : Prop := fdOK t C T N k ∧ (∃ ty0 : Nat → FieldType, ∀ k, k < N → parseFieldDescriptor (T k).2.2.1 = some (ty0 k)) ∧ (∀ a, a < N → ∀ b, b < N → a ≠ b → (T a).2.1 ≠ (T b).2.1) ∧ flk M idx (T k) ∧ ((T k).2.2.2 = false ∨ (M.1.name = "<init>" ∧ (T k).1 = M.1.cls)) ∧ ((T k).2.2.2 = true → ¬ ∃ host, Cond.fieldLinkNest M.1.cls idx (T k).1 (T k).2.1 (T k).2.2.1 host ∈ gNw)
theorem h_putI {t k idx N : Nat} {C : String} {T : u_T} {v : Int} {κ : BH → Option ρ} (hp : pfOK M t C T N k idx) (hr : gRef t k = false) (hd : parseFieldDescriptor (T k).2.2.1 = some .int) (d : decode M.2.1 pc = .ok (.putfield idx, 3)) (kk : ∀ B, Sim G M B0 o (κ B) (pc + 3) L st B) : Sim G M B0 o (pI B t e k v κ) pc L (iv v :: va_rf e :: st) B :=
  Sim.cell fun a c he hB => Sim.ck fun hc => by
    subst he
    obtain ⟨hf, ⟨ty0, hty⟩, hnm, q, hfin, hnn⟩ := hp
    exact s_putG (ty := .int) ty0 hty hnm hB hc hf q hfin hnn hd rfl rfl (c' := putI c k v) rfl rfl (fun j => fV_putI hr) d (kk _)
theorem h_putZ {t k idx N : Nat} {C : String} {T : u_T} {v : Int} {κ : BH → Option ρ} (hp : pfOK M t C T N k idx) (hr : gRef t k = false) (hd : parseFieldDescriptor (T k).2.2.1 = some .boolean ∨ parseFieldDescriptor (T k).2.2.1 = some .byte) (d : decode M.2.1 pc = .ok (.putfield idx, 3)) (kk : ∀ B, Sim G M B0 o (κ B) (pc + 3) L st B) : Sim G M B0 o (pZ B t e k v κ) pc L (iv v :: va_rf e :: st) B :=
  Sim.cell fun a c he hB => Sim.ck fun hc => by
    subst he
    obtain ⟨hf, ⟨ty0, hty⟩, hnm, q, hfin, hnn⟩ := hp
    rcases hd with hd | hd
    · exact s_putG (ty := .boolean) ty0 hty hnm hB hc.1 hf q hfin hnn hd (by rcases hc.2 with rfl | rfl <;> rfl) (by rcases hc.2 with rfl | rfl <;> rfl) (c' := putI c k v) rfl rfl (fun j => fV_putI hr) d (kk _)
    · exact s_putG (ty := .byte) ty0 hty hnm hB hc.1 hf q hfin hnn hd (by rcases hc.2 with rfl | rfl <;> rfl) (by rcases hc.2 with rfl | rfl <;> rfl) (c' := putI c k v) rfl rfl (fun j => fV_putI hr) d (kk _)
theorem h_putR {t k idx N : Nat} {C : String} {T : u_T} {v : Option Nat} {ty : FieldType} {κ : BH → Option ρ} (hp : pfOK M t C T N k idx) (hr : gRef t k = true) (hd : parseFieldDescriptor (T k).2.2.1 = some ty) (hty9 : gRefT ty = true) (d : decode M.2.1 pc = .ok (.putfield idx, 3)) (kk : ∀ B, Sim G M B0 o (κ B) (pc + 3) L st B) : Sim G M B0 o (pR B t e k v κ) pc L (va_rf v :: va_rf e :: st) B :=
  Sim.cell fun a c he hB => Sim.ck fun hc => by
    subst he
    obtain ⟨hf, ⟨ty0, hty⟩, hnm, q, hfin, hnn⟩ := hp
    exact s_putG (ty := ty) ty0 hty hnm hB hc hf q hfin hnn hd (by cases ty <;> first | (cases v <;> rfl) | cases hty9) (by cases ty <;> first | (cases v <;> rfl) | cases hty9) (c' := putR c k v) rfl rfl (fun j => fV_putR hr) d (kk _)
theorem h_iald {i : Int} {κ : Int → Option ρ} (d : decode M.2.1 pc = .ok (.iaload, 1)) (kk : ∀ v, Sim G M B0 o (κ v) (pc + 1) L (iv v :: st) B) : Sim G M B0 o (aI B 100 e i κ) pc L (iv i :: va_rf e :: st) B :=
  Sim.cell fun a c he hB => Sim.ck fun hc => by
    subst he
    exact fun r hr => s_iald hB hc.1 d (kk _) r ((ck_t hc.2).trans hr)
theorem h_zald {i : Int} {κ : Int → Option ρ} (d : decode M.2.1 pc = .ok (.baload, 1)) (kk : ∀ v, Sim G M B0 o (κ v) (pc + 1) L (iv v :: st) B) : Sim G M B0 o (aI B 101 e i κ) pc L (iv i :: va_rf e :: st) B :=
  Sim.cell fun a c he hB => Sim.ck fun hc => by
    subst he
    exact fun r hr => s_zald hB hc.1 d (kk _) r ((ck_t hc.2).trans hr)
theorem h_iast {i v : Int} {κ : BH → Option ρ} (d : decode M.2.1 pc = .ok (.iastore, 1)) (kk : ∀ B, Sim G M B0 o (κ B) (pc + 1) L st B) : Sim G M B0 o (sI B e i v κ) pc L (iv v :: iv i :: va_rf e :: st) B :=
  Sim.cell fun a c he hB => Sim.ck fun hc => by
    subst he
    exact fun r hr => s_iast hB hc.1 d (kk _) r ((ck_t hc.2).trans hr)
theorem h_zast {i v : Int} {κ : BH → Option ρ} (d : decode M.2.1 pc = .ok (.bastore, 1)) (kk : ∀ B, Sim G M B0 o (κ B) (pc + 1) L st B) : Sim G M B0 o (sZ B e i v κ) pc L (iv v :: iv i :: va_rf e :: st) B :=
  Sim.cell fun a c he hB => Sim.ck fun hc => by
    subst he
    exact fun r hr => s_zast hB hc.1 d (kk _) r ((ck_t hc.2).trans hr)
theorem cAt_ref {a : Nat} {c : PC4} {H : Heap} {t : Nat} (ht : c.1 % 1000 = t) (hl : 110 ≤ t) : cAt G a c H ↔ H[a]? = some (arrV (gA G t) c.2.1 (fun j => va_rf (c.2.2.2 j))) := by
  unfold cAt cE
  rw [ht, if_neg (by omega), if_neg (by omega), if_neg (by omega)]
  exact Iff.rfl
theorem cAt_long {a : Nat} {c : PC4} {H : Heap} (ht : c.1 % 1000 = 103) : cAt G a c H ↔ H[a]? = some (arrV (gA G 103) c.2.1 (fun j => .long (Int64.ofInt (c.2.2.1 j)))) := by
  unfold cAt cE
  rw [ht, if_neg (by omega), if_pos rfl]
  exact Iff.rfl
theorem gTy_of {t : Nat} (h1 : 110 ≤ t) (h2 : t < 116) : ∃ (i : Nat) (C : String), (gTys G)[i]? = some (gA G t, .object C) := by
  have : t = 110 ∨ t = 111 ∨ t = 112 ∨ t = 113 ∨ t = 114 ∨ t = 115 := by omega
  rcases this with rfl | rfl | rfl | rfl | rfl | rfl
  · exact ⟨4, _, rfl⟩
  · exact ⟨5, _, rfl⟩
  · exact ⟨6, _, rfl⟩
  · exact ⟨7, _, rfl⟩
  · exact ⟨8, _, rfl⟩
  · exact ⟨9, _, rfl⟩
theorem gTy_any {t : Nat} (h1 : 100 ≤ t) (h2 : t < 116) (h3 : t < 104 ∨ 110 ≤ t) : ∃ (i : Nat) (ty : FieldType), (gTys G)[i]? = some (gA G t, ty) := by
  by_cases h : 110 ≤ t
  · obtain ⟨i, C, e⟩ := gTy_of (G := G) h h2
    exact ⟨i, _, e⟩
  · have : t = 100 ∨ t = 101 ∨ t = 102 ∨ t = 103 := by omega
    rcases this with rfl | rfl | rfl | rfl
    · exact ⟨0, _, rfl⟩
    · exact ⟨1, _, rfl⟩
    · exact ⟨2, _, rfl⟩
    · exact ⟨3, _, rfl⟩
theorem h_aald {i : Int} {κ : Option Nat → Option ρ} (d : decode M.2.1 pc = .ok (.aaload, 1)) (kk : ∀ v, Sim G M B0 o (κ v) (pc + 1) L (va_rf v :: st) B) : Sim G M B0 o (aR B e i κ) pc L (iv i :: va_rf e :: st) B :=
  Sim.cell fun a c he hB => Sim.ck fun hc => fun r hr p e s m args below meth c0 C0 H locs ls hW hS hL => by
    subst he
    obtain ⟨w1, w2, w3⟩ := hW.2.2.1 a c hB
    obtain ⟨g1, g2⟩ := vp_in_iv hc.2.2.1 hc.2.2.2 w3
    have hat := (cAt_ref (H := H) rfl hc.1).mp w1
    obtain ⟨i0, C, hi0⟩ := gTy_of (G := G) hc.1 hc.2.1
    refine W.aald (v := va_rf (c.2.2.2 i.toNat)) (ty := .object C) C0.1 C0.2.1 hat ((C0.2.2.2.2.2.2.2.1.1.2 i0 _ hi0).1 _ _) rfl (fun q => by cases q) (by rw [arrV_size]; exact g1) (by rw [arrV_read _ _ (by have := hc.2.2.2; have := hc.2.2.1; omega), g2]) rfl rfl d (kk _ r hr p e s m args below meth c0 C0 H locs ls hW hS hL)
theorem h_alen {κ : Int → Option ρ} (d : decode M.2.1 pc = .ok (.arraylength, 1)) (kk : ∀ v, Sim G M B0 o (κ v) (pc + 1) L (iv v :: st) B) : Sim G M B0 o (aL B e κ) pc L (va_rf e :: st) B :=
  Sim.cell fun a c he hB => Sim.ck fun hc => fun r hr p e s m args below meth c0 C0 H locs ls hW hS hL => by
    subst he
    obtain ⟨w1, w2, w3⟩ := hW.2.2.1 a c hB
    have hK := C0.2.2.2.2.2.2.2.1.1.2
    have kk := kk _ r hr p e s m args below meth c0 C0 H locs ls hW hS hL
    rcases hc with hc | hc
    · by_cases h3 : c.1 % 1000 = 103
      · have hat := (cAt_long (H := H) h3).mp w1
        exact W.alen (n := Int32.ofInt c.2.1) C0.1 C0.2.1 hat ((hK 3 (gA G 103, .long) rfl).1 _ _) (by rw [arrV_size]; rfl) rfl rfl d kk
      · have h5 : c.1 % 1000 = 100 ∨ c.1 % 1000 = 101 ∨ c.1 % 1000 = 102 := by omega
        have hat := (cAt_int (H := H) rfl h5).mp w1
        obtain ⟨i0, ty, hi0⟩ := gTy_any (G := G) hc.1 (by omega) (by omega)
        exact W.alen (n := Int32.ofInt c.2.1) C0.1 C0.2.1 hat ((hK i0 _ hi0).1 _ _) (by rw [arrV_size]; rfl) rfl rfl d kk
    · have hat := (cAt_ref (H := H) rfl hc.1).mp w1
      obtain ⟨i0, C, hi0⟩ := gTy_of (G := G) hc.1 hc.2
      exact W.alen (n := Int32.ofInt c.2.1) C0.1 C0.2.1 hat ((hK i0 _ hi0).1 _ _) (by rw [arrV_size]; rfl) rfl rfl d kk
theorem h_null (d : decode M.2.1 pc = .ok (.aconst_null, 1)) (kk : Sim G M B0 o x (pc + 1) L (va_rf none :: st) B) : Sim G M B0 o x pc L st B := s_null d kk
theorem h_ifnull {off : Int} {tgt : Nat} (d : decode M.2.1 pc = .ok (.ifnull off, 3)) (ht : (pc : Int) + off = (tgt : Int)) (kt : Sim G M B0 o x tgt L st B) (kf : ∀ a, e = some a → Sim G M B0 o y (pc + 3) L st B) : Sim G M B0 o (if e = none then x else y) pc L (va_rf e :: st) B := by
  cases e with
  | none => rw [if_pos rfl]; exact kt.step fun C h => lv_ifnullN C.1 C.2.1 d ht h
  | some a => rw [if_neg (fun h => by cases h)]; exact (kf a rfl).step fun C h => lv_ifnull C.1 C.2.1 d h
theorem h_ifnonnull {off : Int} {tgt : Nat} (d : decode M.2.1 pc = .ok (.ifnonnull off, 3)) (ht : (pc : Int) + off = (tgt : Int)) (kt : ∀ a, e = some a → Sim G M B0 o x tgt L st B) (kf : Sim G M B0 o y (pc + 3) L st B) : Sim G M B0 o (if e = none then y else x) pc L (va_rf e :: st) B := by
  cases e with
  | none => rw [if_pos rfl]; exact kf.step fun C h => lv_ifnonnullN C.1 C.2.1 d h
  | some a => rw [if_neg (fun h => by cases h)]; exact (kt a rfl).step fun C h => lv_ifnonnull C.1 C.2.1 d ht h
theorem h_acmp_eq {e2 : Option Nat} {off : Int} {tgt : Nat} (d : decode M.2.1 pc = .ok (.if_acmp .eq off, 3)) (ht : (pc : Int) + off = (tgt : Int)) (kt : Sim G M B0 o x tgt L st B) (kf : Sim G M B0 o y (pc + 3) L st B) : Sim G M B0 o (if e = e2 then x else y) pc L (va_rf e2 :: va_rf e :: st) B := fun r hr p e s m args below meth c C H locs ls hW hS hL => lv_acmp_eq C.1 C.2.1 d ht (fun h => kt r (by rwa [if_pos h] at hr) p e s m args below meth c C H locs ls hW hS hL) (fun h => kf r (by rwa [if_neg h] at hr) p e s m args below meth c C H locs ls hW hS hL)
theorem h_acmp_ne {e2 : Option Nat} {off : Int} {tgt : Nat} (d : decode M.2.1 pc = .ok (.if_acmp .ne off, 3)) (ht : (pc : Int) + off = (tgt : Int)) (kt : Sim G M B0 o x tgt L st B) (kf : Sim G M B0 o y (pc + 3) L st B) : Sim G M B0 o (if e = e2 then y else x) pc L (va_rf e2 :: va_rf e :: st) B := fun r hr p e s m args below meth c C H locs ls hW hS hL => lv_acmp_ne C.1 C.2.1 d ht (fun h => kt r (by rwa [if_neg h] at hr) p e s m args below meth c C H locs ls hW hS hL) (fun h => kf r (by rwa [if_pos h] at hr) p e s m args below meth c C H locs ls hW hS hL)
/-- a new cell -/
theorem World.pushX {s : State} {H : Heap} {c : PC4} {n : Nat} {cl : Cell} (hW : World G s B H) (hK : KOK G K) (hr : rmK K B n) (hz : cl.slots.size = n) (hl : c.2.1 < 2147483648) (hat : cAt G H.size c (H.push cl)) (hx : 2000 ≤ c.1 → Fr G s H.size (H.push cl)) : World G s (pushB B c n) (H.push cl) := by
  obtain ⟨w1, w2, w3, w4, w5, w6⟩ := hW
  have o1 : ∀ q : Nat, q < H.size → (H.push cl)[q]? = H[q]? := fun q hq => by rw [Array.getElem?_push, if_neg (Nat.ne_of_lt hq)]
  refine ⟨by rw [Array.size_push, w1]; rfl, by rw [tot_push, w2, hz]; rfl, fun q d hq => ?_, ⟨Nat.le_succ_of_le w4.1, Nat.le_trans hr.1 hK.1, Nat.le_trans hr.2 hK.2.1⟩, w5.kept (fun q hq _ => o1 q hq), fun q d hq hd => ?_⟩
  · have hq' : (if q = B.2.1 then some c else B.1 q) = some d := hq
    by_cases e9 : q = B.2.1
    · rw [if_pos e9] at hq'
      cases hq'
      rw [e9, ← w1]
      exact ⟨hat, fun _ => by rw [w1]; exact w4.1, hl⟩
    · rw [if_neg e9] at hq'
      obtain ⟨h1, h2⟩ := w3 q d hq'
      exact ⟨h1.kept (o1 q h1.lt), h2⟩
  · have hq' : (if q = B.2.1 then some c else B.1 q) = some d := hq
    by_cases e9 : q = B.2.1
    · rw [if_pos e9] at hq'
      cases hq'
      rw [e9, ← w1]
      exact hx hd
    · rw [if_neg e9] at hq'
      exact (w6 q d hq' hd).kept (o1 q (w3 q d hq').1.lt)
theorem World.push {s : State} {H : Heap} {c : PC4} {n : Nat} {cl : Cell} (hW : World G s B H) (hK : KOK G K) (hr : rmK K B n) (hz : cl.slots.size = n) (hl : c.2.1 < 2147483648) (hat : cAt G H.size c (H.push cl)) (hx : c.1 < 2000) : World G s (pushB B c n) (H.push cl) := hW.pushX hK hr hz hl hat (fun h => by omega)
theorem h_new {t idx N : Nat} {C : String} {T : u_T} {κ : Option Nat → BH → Option ρ} (hK : KOK G K) (hc : gCl[t]? = some (C, T, N)) (hin : ∀ w ∈ u_ws C T N, w ∈ lw_all) (hty : ∃ ty : Nat → FieldType, gTy[t]? = some ty ∧ (∀ k, k < N → parseFieldDescriptor (T k).2.2.1 = some (ty k)) ∧ ∀ k, k < N → gTok (ty k) = true) (q1 : Cond.classLink M.1.cls idx C ∈ lw_all) (q2 : Cond.instantiable C N ∈ lw_all) (q3 : Cond.initialized C ∈ lw_all) (d : decode M.2.1 pc = .ok (.new idx, 3)) (kk : ∀ v B, Sim G M B0 o (κ v B) (pc + 3) L (va_rf v :: st) B) : Sim G M B0 o (nw K B t κ) pc L st B :=
  Sim.ck fun hr => fun r hr9 p e s m args below meth c0 C0 H locs ls hW hS hL => W.stand fun htot => by
    have hts := C0.2.2.2.2.2.2.1
    have hgn : gN t = N := gN_of hc
    obtain ⟨ty, htg, hty, htok⟩ := hty
    have hlim := hr
    have hzl : B0.2.1 ≤ B.2.1 := by
      have := hS.1
      rw [hW.1, C0.2.2.2.2.2.2.2.2.2.1] at this
      exact this
    have htl : B0.2.2 ≤ B.2.2 := by
      rw [hW.2.1, C0.2.2.2.2.2.2.2.2.2.2.1] at htot
      exact htot
    refine W.newc C0.1 C0.2.1 C0.2.2.2.2.2.1 (hts _ q1) (hts _ q2) (hts _ q3) rfl d (by show _ ≤ gLC G - B0.2.1; have := hK.1; omega) (by show _ ≤ gLS G - B0.2.2; have := hK.2.1; omega) fun cC kC h1 h2 h3 h4 => ?_
    have hKn := C0.2.2.2.2.2.2.2.1.1.1 t _ hc
    have hcC : (gD G).1 t = cC := Option.some.inj (hKn.2.1.symm.trans h1)
    have hat : cAt G H.size (t, 0, fun _ => 0, fun _ => none) (H.push { cls := cC, slots := kC.instanceTypes.map defaultValue, vm := .none }) := by
      refine (cAt_obj (t := t) (by show t % 1000 = t; have := gCl_lt hc; omega) (gCl_lt hc)).mpr ⟨_, hc, ?_⟩
      have hb := u_born (o := H.size) (H := H.push { cls := cC, slots := kC.instanceTypes.map defaultValue, vm := .none }) ty hts hin hKn (by rw [hcC]; exact h2) (by rw [Array.getElem?_push_size, hcC]; rfl) hty
      refine hb.to fun j hj => ?_
      rw [fV_V (by rw [hgn]; exact hj)]
      unfold fV gRef
      rw [htg]
      show _ = if gRefT (ty j) = true then _ else _
      have h9 := htok j hj
      revert h9
      cases ty j <;> first | (intro _; rfl) | (intro h9; cases h9)
    have kk9 := kk (some B.2.1) (pushB B (t, 0, fun _ => 0, fun _ => none) (gN t)) r hr9 p e s m args below meth c0 C0 _ locs ls (hW.push hK hr (by rw [Array.size_map, h4, hgn]) (by show 0 < 2147483648; omega) hat (by show t < 2000; have := gCl_lt hc; omega)) ⟨Nat.le_trans hS.1 (by rw [Array.size_push]; omega), fun q h5 h6 => by rw [Array.getElem?_push, if_neg (Nat.ne_of_lt (Nat.lt_of_lt_of_le h5 hS.1))]; exact hS.2.1 q h5 h6, hS.2.2⟩ hL
    have e1 : (pushB B (t, 0, fun _ => 0, fun _ => none) (gN t)).2.1 - B0.2.1 = B.2.1 - B0.2.1 + 1 := by show B.2.1 + 1 - _ = _; omega
    have e2 : (pushB B (t, 0, fun _ => 0, fun _ => none) (gN t)).2.2 - B0.2.2 = B.2.2 - B0.2.2 + N := by show B.2.2 + gN t - _ = _; omega
    rw [e1, e2] at kk9
    rw [hW.1]
    exact kk9
end ROWS
