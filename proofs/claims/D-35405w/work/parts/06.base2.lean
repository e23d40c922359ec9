/-! BASE 2: the world of a pure heap, J, Sim, rows on numbers, locals, branches -/
def gN (t : Nat) : Nat := ((gCl[t]?).map (fun q => q.2.2)).getD 0
def gRefT (ty : FieldType) : Bool := match ty with
  | .object _ => true
  | .array _ => true
  | _ => false
def gRef (t k : Nat) : Bool := ((gTy[t]?).map (fun f => gRefT (f k))).getD false
/-- tags: below 100 objects of gCl; 100 int[], 101 boolean[], 102 byte[], 103 long[], from 110 on arrays of references; 1000 more: old cells, never written -/
def gAT : List (Nat × FieldType) := [(100, .int), (101, .boolean), (102, .byte), (103, .long), (110, .object "java/lang/Object"), (111, .object "Weaveword$Page"), (112, .object "Weaveword$Stored"), (113, .object "Weaveword$Translation"), (114, .object "Weaveword$Content"), (115, .object "java/lang/Integer")]
def gTys (G : GT) : List (ClassId × FieldType) := gAT.map (fun q => (gA G q.1, q.2))
def fV (t : Nat) (f : Nat → Int) (r : Nat → Option Nat) (k : Nat) : Value := if gRef t k = true then va_rf (r k) else .int (Int32.ofInt (f k))
def cE (G : GT) (c : PC4) : va_E :=
  if c.1 % 1000 < 100 then .inr (c.1 % 1000, (List.range (gN (c.1 % 1000))).map (fV (c.1 % 1000) c.2.2.1 c.2.2.2))
  else if c.1 % 1000 = 103 then .inl (gA G (c.1 % 1000), (c.2.1, .inr (.inl (fun j => Int64.ofInt (c.2.2.1 j)))))
  else if c.1 % 1000 < 110 then .inl (gA G (c.1 % 1000), (c.2.1, .inl (fun j => Int32.ofInt (c.2.2.1 j))))
  else .inl (gA G (c.1 % 1000), (c.2.1, .inr (.inr (.inr (.inr c.2.2.2)))))
def cAt (G : GT) (a : Nat) (c : PC4) (H : Heap) : Prop := va_at (gD G) gCl (a, cE G c) H
/-- a fresh object of an exception's class: tags from 2000 on; never written -/
def Fr (G : GT) (U : State) (a : Nat) (H : Heap) : Prop := gB G ≤ a ∧ ∃ (cX : ClassId) (kX : Class), U.vm.classes[cX]? = some kX ∧ H[a]? = some (freshCell cX kX)
theorem Fr.moved {G : GT} {u U : State} {a : Nat} {H : Heap} (hvm : u.vm.Alike U.vm) (h : Fr G u a H) : Fr G U a H := by
  obtain ⟨h0, cX, kX, h1, h2⟩ := h
  obtain ⟨k', hk', he⟩ := hvm.2.2 _ _ h1
  refine ⟨h0, cX, k', hk', ?_⟩
  rw [he]
  exact h2
theorem Fr.kept {G : GT} {U : State} {a : Nat} {H H1 : Heap} (h : Fr G U a H) (e : H1[a]? = H[a]?) : Fr G U a H1 := by
  obtain ⟨h0, cX, kX, h1, h2⟩ := h
  exact ⟨h0, cX, kX, h1, e.trans h2⟩
/-- what is said of statics -/
def Wz (G : GT) (U : State) (H : Heap) : Prop := (∀ z ∈ gZ G, va_Z z.1 z.2.1 z.2.2.1 z.2.2.2 (gAA G) U H) ∧ vx_Zq Bundle.tN "UNASSIGNED_STACK" Bundle.steD (gAA G) U H ∧ vx_Zq Bundle.tN "SUPPRESSED_SENTINEL" Bundle.listD (gAA G) U H
theorem Wz.moved {G : GT} {u U : State} {H : Heap} (hvm : u.vm.Alike U.vm) (h : Wz G u H) : Wz G U H := ⟨fun z hz => (h.1 z hz).moved hvm, h.2.1.moved hvm, h.2.2.moved hvm⟩
theorem Wz.kept {G : GT} {U : State} {H H1 : Heap} (h : Wz G U H) (hq : ∀ q : Nat, q < H.size → ¬ gAA G q → H1[q]? = H[q]?) : Wz G U H1 := ⟨fun z hz => (h.1 z hz).kept hq, h.2.1.kept hq, h.2.2.kept hq⟩
def World (G : GT) (U : State) (B : BH) (H : Heap) : Prop :=
  H.size = B.2.1 ∧ tot H = B.2.2 ∧ (∀ (a : Nat) (c : PC4), B.1 a = some c → cAt G a c H ∧ (c.1 < 1000 → gB G ≤ a) ∧ c.2.1 < 2147483648) ∧ (gB G ≤ B.2.1 ∧ B.2.1 ≤ gLC G ∧ B.2.2 ≤ gLS G) ∧ Wz G U H ∧ ∀ (a : Nat) (c : PC4), B.1 a = some c → 2000 ≤ c.1 → Fr G U a H
/-- private methods of AbstractStringBuilder, on a StringBuilder: chosen as they are named -/
def pvM (n d : String) : MethodName := ⟨"java/lang/AbstractStringBuilder", n, d⟩
def pvC (n d : String) : Cond := .selects "java/lang/StringBuilder" (pvM n d) (pvM n d)
def gPv : List Cond := [pvC "appendNull" "()Ljava/lang/AbstractStringBuilder;", pvC "ensureCapacityInternal" "(I)V", pvC "putStringAt" "(ILjava/lang/String;)V", pvC "newCapacity" "(I)I", pvC "inflateIfNeededFor" "(Ljava/lang/String;)V", pvC "inflate" "()V"]
def GOK (G : GT) (U : State) : Prop := va_K (gD G) gCl (gTys G) U ∧ (∀ w ∈ gNw, va_Nw w U) ∧ (∀ f ∈ gFw, va_Fw f.1 f.2.1 f.2.2 U) ∧ (∀ C ∈ gAO, va_AO C U) ∧ (gL G).flags = flags0 ∧ va_Mi "[Ljava/lang/Object;" (gA G 200) U ∧ (∀ (i : Nat) (q : String × Nat × String), gStr[i]? = some q → vk_R q.1 q.2.1 q.2.2 (gA G (300 + i)) U) ∧ ∀ w ∈ gPv, w.before #[] U = true
theorem World.moved {G : GT} {u U : State} {B : BH} {H : Heap} (hvm : u.vm.Alike U.vm) (h : World G u B H) : World G U B H := ⟨h.1, h.2.1, h.2.2.1, h.2.2.2.1, h.2.2.2.2.1.moved hvm, fun a c h1 h2 => (h.2.2.2.2.2 a c h1 h2).moved hvm⟩
def CX (G : GT) (M : MI) (B0 : BH) (p : Program) (s : State) (m : MethodId) (args : Array Value) (meth : Method) (c : Code) : Prop :=
  p.tables.exec = Jvm.exec ∧ c.code = M.2.1 ∧ meth.sig.returnType = M.2.2.2.1 ∧ meth.locks = false ∧ c.maxLocals = M.2.2.1 ∧ s.vm.findClass M.1.cls = some m.cls ∧ (∀ w ∈ lw_all, w.before args s = true) ∧ GOK G s ∧ gB G ≤ s.heap.size ∧ s.heap.size = B0.2.1 ∧ tot s.heap = B0.2.2 ∧ meth.name = M.1.name ∧ c.exceptionTable.toList = tableOf M.2.2.2.2.1
def rmOf (G : GT) (M : MI) (B0 : BH) : Room := { frames := M.2.2.2.2.2.1, cells := gLC G - B0.2.1, slots := gLS G - B0.2.2, locals := M.2.2.2.2.2.2 }
def rvO (r : Rv) : Option Value := if r.1 = 0 then none else if r.1 = 1 then some (iv r.2.1) else some (va_rf r.2.2)
def xN (k : Nat) : String := if k = 10 then "java/lang/IndexOutOfBoundsException" else if k = 11 then "java/lang/IllegalArgumentException" else "java/lang/IllegalStateException"
def Qof (G : GT) (r : Rv × BH) : Array Value → State → Outcome → State → Prop := fun _ st o t => (r.1.1 < 10 ∧ o = .returned (rvO r.1) ∧ World G t r.2 t.heap) ∧ va_F (gAA G) st t
def Xof (G : GT) (r : Rv × BH) : String → State → State → Prop := fun E st t => (10 ≤ r.1.1 ∧ E = xN r.1.1 ∧ World G t r.2 t.heap) ∧ va_F (gAA G) st t
def Fin9 (G : GT) (B0 : BH) (r : Rv × BH) (below : List Frame) (args : Array Value) (s : State) : State → Prop := vx_MQ below (Qof G r) (Xof G r) args s (gLC G - B0.2.1) (gLS G - B0.2.2) (gAA G)
def J (G : GT) (M : MI) (B0 : BH) (r : Rv × BH) (pc : Nat) (L : LL) (st : List Value) (B : BH) : Prop :=
  ∀ (p : Program) (e : Env) (s : State) (m : MethodId) (args : Array Value) (below : List Frame) (meth : Method) (c : Code), CX G M B0 p s m args meth c → ∀ (H : Heap) (locs : List Loc) (ls : Array Slot), World G s B H → va_S (gAA G) s.heap H locs → LV ls M.2.2.1 L →
    W p (gL G) e (rmOf G M B0) s m args below meth c H locs (B.2.1 - B0.2.1) (B.2.2 - B0.2.2) (Fin9 G B0 r below args s) (F0 m pc ls st)
def Sim {ρ : Type} (G : GT) (M : MI) (B0 : BH) (o : ρ → Rv × BH) (x : Option ρ) (pc : Nat) (L : LL) (st : List Value) (B : BH) : Prop := ∀ r, x = some r → J G M B0 (o r) pc L st B
/-! pure combinators -/
def ck {ρ : Type} (c : Prop) [Decidable c] (x : Option ρ) : Option ρ := if c then x else none
theorem ck_t {ρ : Type} {c : Prop} [Decidable c] {x : Option ρ} (h : c) : ck c x = x := if_pos h
theorem ck_some {ρ : Type} {c : Prop} [Decidable c] {x : Option ρ} {r : ρ} (h : ck c x = some r) : c ∧ x = some r := by
  unfold ck at h
  split at h
  · exact ⟨by assumption, h⟩
  · cases h
def nm {α ρ : Type} (e : α) (k : α → ρ) : ρ := k e
section ROWS
variable {ρ : Type} {G : GT} {M : MI} {B0 : BH} {o : ρ → Rv × BH} {x y : Option ρ} {pc : Nat} {L : LL} {st : List Value} {B : BH}
theorem Sim.none : Sim G M B0 o (none : Option ρ) pc L st B := fun r h => by cases h
theorem Sim.lsub {L' : LL} (h : Sim G M B0 o x pc L' st B) (hs : lsub L L') : Sim G M B0 o x pc L st B :=
  fun r hr p e s m args below meth c C H locs ls hW hS hL => h r hr p e s m args below meth c C H locs ls hW hS (hL.sub hs)
theorem Sim.nmi {a : Int} {k : Int → Option ρ} (h : ∀ v : Int, Sim G M B0 o (k v) pc L (iv v :: st) B) : Sim G M B0 o (nm a k) pc L (iv a :: st) B := h a
theorem Sim.nmr {a : Option Nat} {k : Option Nat → Option ρ} (h : ∀ v : Option Nat, Sim G M B0 o (k v) pc L (va_rf v :: st) B) : Sim G M B0 o (nm a k) pc L (va_rf a :: st) B := h a
theorem Sim.nmB {k : BH → Option ρ} (h : ∀ B : BH, Sim G M B0 o (k B) pc L st B) : Sim G M B0 o (nm B k) pc L st B := h B
/-- a step that touches neither world nor locals -/
theorem Sim.step {pc' : Nat} {st' : List Value} (h : ∀ {p : Program} {e : Env} {R : Room} {s : State} {m : MethodId} {args : Array Value} {below : List Frame} {meth : Method} {c : Code} {H : Heap} {locs : List Loc} {ls : Array Slot} {k n : Nat} {Q : State → Prop}, CX G M B0 p s m args meth c → W p (gL G) e R s m args below meth c H locs k n Q (F0 m pc' ls st') → W p (gL G) e R s m args below meth c H locs k n Q (F0 m pc ls st)) (kk : Sim G M B0 o x pc' L st' B) : Sim G M B0 o x pc L st B :=
  fun r hr p e s m args below meth c C H locs ls hW hS hL => h C (kk r hr p e s m args below meth c C H locs ls hW hS hL)
theorem s_iconst {n : Int} (d : decode M.2.1 pc = .ok (.iconst n, 1)) (kk : Sim G M B0 o x (pc + 1) L (iv n :: st) B) : Sim G M B0 o x pc L st B := kk.step fun C h => lv_iconst C.1 C.2.1 d rfl h
theorem s_bipush {n v : Int} (d : decode M.2.1 pc = .ok (.bipush n, 2)) (hv : (Int8.ofInt n).toInt32 = Int32.ofInt v) (kk : Sim G M B0 o x (pc + 2) L (iv v :: st) B) : Sim G M B0 o x pc L st B := kk.step fun C h => lv_bipush C.1 C.2.1 d hv h
theorem s_sipush {n v : Int} (d : decode M.2.1 pc = .ok (.sipush n, 3)) (hv : (Int16.ofInt n).toInt32 = Int32.ofInt v) (kk : Sim G M B0 o x (pc + 3) L (iv v :: st) B) : Sim G M B0 o x pc L st B := kk.step fun C h => lv_sipush C.1 C.2.1 d hv h
theorem s_ldc {i : Nat} {v : Int} {w : Int32} (q : Cond.constant M.1.cls i w ∈ lw_all) (hw : w = Int32.ofInt v) (d : decode M.2.1 pc = .ok (.ldc i, 2)) (kk : Sim G M B0 o x (pc + 2) L (iv v :: st) B) : Sim G M B0 o x pc L st B := kk.step fun C h => lv_ldc C.1 C.2.1 C.2.2.2.2.2.1 (C.2.2.2.2.2.2.1 _ q) d (by subst hw; exact h)
theorem s_null (d : decode M.2.1 pc = .ok (.aconst_null, 1)) (kk : Sim G M B0 o x (pc + 1) L (va_rf none :: st) B) : Sim G M B0 o x pc L st B := kk.step fun C h => lv_null C.1 C.2.1 d h
theorem s_iadd {a b : Int} (d : decode M.2.1 pc = .ok (.iadd, 1)) (kk : Sim G M B0 o x (pc + 1) L (iv (a + b) :: st) B) : Sim G M B0 o x pc L (iv b :: iv a :: st) B := kk.step fun C h => lv_iadd C.1 C.2.1 d (by rw [← Int32.ofInt_add]; exact h)
theorem s_isub {a b : Int} (d : decode M.2.1 pc = .ok (.isub, 1)) (kk : Sim G M B0 o x (pc + 1) L (iv (a - b) :: st) B) : Sim G M B0 o x pc L (iv b :: iv a :: st) B := kk.step fun C h => lv_isub C.1 C.2.1 d (by rw [← Int32.ofInt_sub]; exact h)
theorem s_imul {a b : Int} (d : decode M.2.1 pc = .ok (.imul, 1)) (kk : Sim G M B0 o x (pc + 1) L (iv (a * b) :: st) B) : Sim G M B0 o x pc L (iv b :: iv a :: st) B := kk.step fun C h => lv_imul C.1 C.2.1 d (by rw [← Int32.ofInt_mul]; exact h)
theorem s_ineg {a : Int} (d : decode M.2.1 pc = .ok (.ineg, 1)) (kk : Sim G M B0 o x (pc + 1) L (iv (-a) :: st) B) : Sim G M B0 o x pc L (iv a :: st) B := kk.step fun C h => lv_ineg C.1 C.2.1 d (by rw [← Int32.ofInt_neg]; exact h)
/-- an int by way of Int32 -/
def bAnd (a b : Int) : Int := (Int32.ofInt a &&& Int32.ofInt b).toInt
def bOr (a b : Int) : Int := (Int32.ofInt a ||| Int32.ofInt b).toInt
def bXor (a b : Int) : Int := (Int32.ofInt a ^^^ Int32.ofInt b).toInt
def bShl (a b : Int) : Int := (Int32.ofInt a <<< (Int32.ofInt b &&& 31)).toInt
def bShr (a b : Int) : Int := (Int32.ofInt a >>> (Int32.ofInt b &&& 31)).toInt
def bUshr (a b : Int) : Int := ((Int32.ofInt a).toUInt32 >>> ((Int32.ofInt b).toUInt32 &&& Int32.toUInt32 31)).toInt32.toInt
def bI2b (a : Int) : Int := (Int32.ofInt a).toInt8.toInt32.toInt
def bI2c (a : Int) : Int := ((Int32.ofInt a).toUInt32 % 65536).toInt32.toInt
theorem s_iand {a b : Int} (d : decode M.2.1 pc = .ok (.iand, 1)) (kk : Sim G M B0 o x (pc + 1) L (iv (bAnd a b) :: st) B) : Sim G M B0 o x pc L (iv b :: iv a :: st) B := kk.step fun C h => lv_iand C.1 C.2.1 d (by unfold iv bAnd at h; rw [Int32.ofInt_toInt] at h; exact h)
theorem s_ior {a b : Int} (d : decode M.2.1 pc = .ok (.ior, 1)) (kk : Sim G M B0 o x (pc + 1) L (iv (bOr a b) :: st) B) : Sim G M B0 o x pc L (iv b :: iv a :: st) B := kk.step fun C h => lv_ior C.1 C.2.1 d (by unfold iv bOr at h; rw [Int32.ofInt_toInt] at h; exact h)
theorem s_ixor {a b : Int} (d : decode M.2.1 pc = .ok (.ixor, 1)) (kk : Sim G M B0 o x (pc + 1) L (iv (bXor a b) :: st) B) : Sim G M B0 o x pc L (iv b :: iv a :: st) B := kk.step fun C h => lv_ixor C.1 C.2.1 d (by unfold iv bXor at h; rw [Int32.ofInt_toInt] at h; exact h)
theorem s_ishl {a b : Int} (d : decode M.2.1 pc = .ok (.ishl, 1)) (kk : Sim G M B0 o x (pc + 1) L (iv (bShl a b) :: st) B) : Sim G M B0 o x pc L (iv b :: iv a :: st) B := kk.step fun C h => lv_ishl C.1 C.2.1 d (by unfold iv bShl at h; rw [Int32.ofInt_toInt] at h; exact h)
theorem s_ishr {a b : Int} (d : decode M.2.1 pc = .ok (.ishr, 1)) (kk : Sim G M B0 o x (pc + 1) L (iv (bShr a b) :: st) B) : Sim G M B0 o x pc L (iv b :: iv a :: st) B := kk.step fun C h => lv_ishr C.1 C.2.1 d (by unfold iv bShr at h; rw [Int32.ofInt_toInt] at h; exact h)
theorem s_iushr {a b : Int} (d : decode M.2.1 pc = .ok (.iushr, 1)) (kk : Sim G M B0 o x (pc + 1) L (iv (bUshr a b) :: st) B) : Sim G M B0 o x pc L (iv b :: iv a :: st) B := kk.step fun C h => lv_iushr C.1 C.2.1 d rfl (by unfold iv bUshr at h; rw [Int32.ofInt_toInt] at h; exact h)
theorem s_i2b {a : Int} (d : decode M.2.1 pc = .ok (.i2b, 1)) (kk : Sim G M B0 o x (pc + 1) L (iv (bI2b a) :: st) B) : Sim G M B0 o x pc L (iv a :: st) B := kk.step fun C h => lv_i2b C.1 C.2.1 d rfl (by unfold iv bI2b at h; rw [Int32.ofInt_toInt] at h; exact h)
theorem s_i2c {a : Int} (d : decode M.2.1 pc = .ok (.i2c, 1)) (kk : Sim G M B0 o x (pc + 1) L (iv (bI2c a) :: st) B) : Sim G M B0 o x pc L (iv a :: st) B := kk.step fun C h => lv_i2c C.1 C.2.1 d rfl (by unfold iv bI2c at h; rw [Int32.ofInt_toInt] at h; exact h)
/-- a step under a check -/
theorem Sim.stepc {ch : Prop} [Decidable ch] {pc' : Nat} {st' : List Value} (h : ch → ∀ {p : Program} {e : Env} {R : Room} {s : State} {m : MethodId} {args : Array Value} {below : List Frame} {meth : Method} {c : Code} {H : Heap} {locs : List Loc} {ls : Array Slot} {k n : Nat} {Q : State → Prop}, CX G M B0 p s m args meth c → W p (gL G) e R s m args below meth c H locs k n Q (F0 m pc' ls st') → W p (gL G) e R s m args below meth c H locs k n Q (F0 m pc ls st)) (kk : Sim G M B0 o x pc' L st' B) : Sim G M B0 o (ck ch x) pc L st B :=
  fun r hr p e s m args below meth c C H locs ls hW hS hL => h (ck_some hr).1 C (kk r (ck_some hr).2 p e s m args below meth c C H locs ls hW hS hL)
theorem Sim.branch {ch cn : Prop} [Decidable ch] [Decidable cn] {pt pf : Nat} {stt : List Value} (h : ch → ∀ {p : Program} {e : Env} {R : Room} {s : State} {m : MethodId} {args : Array Value} {below : List Frame} {meth : Method} {c : Code} {H : Heap} {locs : List Loc} {ls : Array Slot} {k n : Nat} {Q : State → Prop}, CX G M B0 p s m args meth c → (cn → W p (gL G) e R s m args below meth c H locs k n Q (F0 m pt ls stt)) → (¬ cn → W p (gL G) e R s m args below meth c H locs k n Q (F0 m pf ls stt)) → W p (gL G) e R s m args below meth c H locs k n Q (F0 m pc ls st)) (kt : Sim G M B0 o x pt L stt B) (kf : Sim G M B0 o y pf L stt B) : Sim G M B0 o (ck ch (if cn then x else y)) pc L st B := by
  intro r hr p e s m args below meth c C H locs ls hW hS hL
  obtain ⟨hc, hr⟩ := ck_some hr
  exact h hc C (fun hn => kt r (by rwa [if_pos hn] at hr) p e s m args below meth c C H locs ls hW hS hL) (fun hn => kf r (by rwa [if_neg hn] at hr) p e s m args below meth c C H locs ls hW hS hL)
abbrev okd (a b : Int) : Prop := (0 ≤ a ∧ a < 2147483648) ∧ 0 < b ∧ b < 2147483648
theorem iv_div {a b : Int} (h : okd a b) : Int32.ofInt a / Int32.ofInt b = Int32.ofInt (a / b) := by
  obtain ⟨⟨h1, h2⟩, h3, h4⟩ := h
  apply Int32.toInt_inj.mp
  have h0 : 0 ≤ a / b := Int.ediv_nonneg h1 (by omega)
  have h5 : a / b ≤ a := Int.ediv_le_self b h1
  rw [Int32.toInt_div, ok32_toInt ⟨by omega, h2⟩, ok32_toInt ⟨by omega, h4⟩, ok32_toInt ⟨by omega, by omega⟩, Int.tdiv_eq_ediv_of_nonneg h1]
  exact Int.bmod_eq_of_le (by simp; omega) (by simp; omega)
theorem iv_ne0 {b : Int} (h : 0 < b ∧ b < 2147483648) : ¬ Int32.ofInt b = 0 := by
  intro e
  rw [iv_0, iv_eq ⟨by omega, h.2⟩ ok32_0] at e
  omega
theorem s_idiv {a b : Int} (d : decode M.2.1 pc = .ok (.idiv, 1)) (kk : Sim G M B0 o x (pc + 1) L (iv (a / b) :: st) B) : Sim G M B0 o (ck (okd a b) x) pc L (iv b :: iv a :: st) B := Sim.stepc (fun hc {_ _ _ _ _ _ _ _ _ _ _ _ _ _ _} C h => lv_idiv C.1 C.2.1 d (iv_ne0 hc.2) (by rw [iv_div hc]; exact h)) kk
theorem s_irem {a b : Int} (d : decode M.2.1 pc = .ok (.irem, 1)) (kk : Sim G M B0 o x (pc + 1) L (iv (a % b) :: st) B) : Sim G M B0 o (ck (okd a b) x) pc L (iv b :: iv a :: st) B := Sim.stepc (fun hc {_ _ _ _ _ _ _ _ _ _ _ _ _ _ _} C h => lv_irem C.1 C.2.1 d (iv_ne0 hc.2) (by rw [iv_div hc, ← Int32.ofInt_mul, ← Int32.ofInt_sub, show a - a / b * b = a % b by rw [Int.emod_def, Int.mul_comm]]; exact h)) kk
theorem s_goto {off : Int} {tgt : Nat} (d : decode M.2.1 pc = .ok (.goto off, 3)) (ht : (pc : Int) + off = (tgt : Int)) (kk : Sim G M B0 o x tgt L st B) : Sim G M B0 o x pc L st B := kk.step fun C h => lv_goto C.1 C.2.1 d ht h
theorem s_dup {v : Value} (d : decode M.2.1 pc = .ok (.dup, 1)) (hv : v.category = 1) (kk : Sim G M B0 o x (pc + 1) L (v :: v :: st) B) : Sim G M B0 o x pc L (v :: st) B := kk.step fun C h => lv_dup C.1 C.2.1 d hv h
theorem s_dup2 {v w : Value} (d : decode M.2.1 pc = .ok (.dup2, 1)) (hv : v.category = 1) (hw : w.category = 1) (kk : Sim G M B0 o x (pc + 1) L (v :: w :: v :: w :: st) B) : Sim G M B0 o x pc L (v :: w :: st) B := kk.step fun C h => lv_dup2_11 C.1 C.2.1 d hv hw h
theorem s_dup_x1 {v w : Value} (d : decode M.2.1 pc = .ok (.dup_x1, 1)) (hv : v.category = 1) (hw : w.category = 1) (kk : Sim G M B0 o x (pc + 1) L (v :: w :: v :: st) B) : Sim G M B0 o x pc L (v :: w :: st) B := kk.step fun C h => lv_dup_x1 C.1 C.2.1 d hv hw h
theorem s_pop {v : Value} (d : decode M.2.1 pc = .ok (.pop, 1)) (hv : v.category = 1) (kk : Sim G M B0 o x (pc + 1) L st B) : Sim G M B0 o x pc L (v :: st) B := kk.step fun C h => lv_pop C.1 C.2.1 d hv h
abbrev ok2 (a b : Int) : Prop := ok32 a ∧ ok32 b
theorem s_icmp_eq {a b off : Int} {tgt : Nat} (d : decode M.2.1 pc = .ok (.if_icmp .eq off, 3)) (ht : (pc : Int) + off = (tgt : Int)) (kt : Sim G M B0 o x tgt L st B) (kf : Sim G M B0 o y (pc + 3) L st B) : Sim G M B0 o (ck (ok2 a b) (if a = b then x else y)) pc L (iv b :: iv a :: st) B := Sim.branch (fun hc {_ _ _ _ _ _ _ _ _ _ _ _ _ _ _} C h1 h2 => lv_icmp_eq C.1 C.2.1 d ht (fun q => h1 ((iv_eq hc.1 hc.2).mp q)) (fun q => h2 (fun z => q ((iv_eq hc.1 hc.2).mpr z)))) kt kf
theorem s_icmp_ne {a b off : Int} {tgt : Nat} (d : decode M.2.1 pc = .ok (.if_icmp .ne off, 3)) (ht : (pc : Int) + off = (tgt : Int)) (kt : Sim G M B0 o x tgt L st B) (kf : Sim G M B0 o y (pc + 3) L st B) : Sim G M B0 o (ck (ok2 a b) (if a = b then y else x)) pc L (iv b :: iv a :: st) B := Sim.branch (fun hc {_ _ _ _ _ _ _ _ _ _ _ _ _ _ _} C h1 h2 => lv_icmp_ne C.1 C.2.1 d ht (fun q => h2 (fun z => q ((iv_eq hc.1 hc.2).mpr z))) (fun q => h1 ((iv_eq hc.1 hc.2).mp q))) kf kt
theorem s_icmp_lt {a b off : Int} {tgt : Nat} (d : decode M.2.1 pc = .ok (.if_icmp .lt off, 3)) (ht : (pc : Int) + off = (tgt : Int)) (kt : Sim G M B0 o x tgt L st B) (kf : Sim G M B0 o y (pc + 3) L st B) : Sim G M B0 o (ck (ok2 a b) (if a < b then x else y)) pc L (iv b :: iv a :: st) B := Sim.branch (fun hc {_ _ _ _ _ _ _ _ _ _ _ _ _ _ _} C h1 h2 => lv_icmp_lt C.1 C.2.1 d ht (fun q => h1 ((iv_lt hc.1 hc.2).mp q)) (fun q => h2 (fun z => q ((iv_lt hc.1 hc.2).mpr z)))) kt kf
theorem s_icmp_ge {a b off : Int} {tgt : Nat} (d : decode M.2.1 pc = .ok (.if_icmp .ge off, 3)) (ht : (pc : Int) + off = (tgt : Int)) (kt : Sim G M B0 o x tgt L st B) (kf : Sim G M B0 o y (pc + 3) L st B) : Sim G M B0 o (ck (ok2 a b) (if b ≤ a then x else y)) pc L (iv b :: iv a :: st) B := Sim.branch (fun hc {_ _ _ _ _ _ _ _ _ _ _ _ _ _ _} C h1 h2 => lv_icmp_ge C.1 C.2.1 d ht (fun q => h1 ((iv_le hc.2 hc.1).mp q)) (fun q => h2 (fun z => q ((iv_le hc.2 hc.1).mpr z)))) kt kf
theorem s_icmp_gt {a b off : Int} {tgt : Nat} (d : decode M.2.1 pc = .ok (.if_icmp .gt off, 3)) (ht : (pc : Int) + off = (tgt : Int)) (kt : Sim G M B0 o x tgt L st B) (kf : Sim G M B0 o y (pc + 3) L st B) : Sim G M B0 o (ck (ok2 a b) (if b < a then x else y)) pc L (iv b :: iv a :: st) B := Sim.branch (fun hc {_ _ _ _ _ _ _ _ _ _ _ _ _ _ _} C h1 h2 => lv_icmp_gt C.1 C.2.1 d ht (fun q => h1 ((iv_lt hc.2 hc.1).mp q)) (fun q => h2 (fun z => q ((iv_lt hc.2 hc.1).mpr z)))) kt kf
theorem s_icmp_le {a b off : Int} {tgt : Nat} (d : decode M.2.1 pc = .ok (.if_icmp .le off, 3)) (ht : (pc : Int) + off = (tgt : Int)) (kt : Sim G M B0 o x tgt L st B) (kf : Sim G M B0 o y (pc + 3) L st B) : Sim G M B0 o (ck (ok2 a b) (if a ≤ b then x else y)) pc L (iv b :: iv a :: st) B := Sim.branch (fun hc {_ _ _ _ _ _ _ _ _ _ _ _ _ _ _} C h1 h2 => lv_icmp_le C.1 C.2.1 d ht (fun q => h1 ((iv_le hc.1 hc.2).mp q)) (fun q => h2 (fun z => q ((iv_le hc.1 hc.2).mpr z)))) kt kf
theorem s_if_eq {a off : Int} {tgt : Nat} (d : decode M.2.1 pc = .ok (.ifCond .eq off, 3)) (ht : (pc : Int) + off = (tgt : Int)) (kt : Sim G M B0 o x tgt L st B) (kf : Sim G M B0 o y (pc + 3) L st B) : Sim G M B0 o (ck (ok32 a) (if a = 0 then x else y)) pc L (iv a :: st) B := Sim.branch (fun hc {_ _ _ _ _ _ _ _ _ _ _ _ _ _ _} C h1 h2 => lv_if_eq C.1 C.2.1 d ht (fun q => h1 ((iv_eq hc ok32_0).mp q)) (fun q => h2 (fun z => q ((iv_eq hc ok32_0).mpr z)))) kt kf
theorem s_if_ne {a off : Int} {tgt : Nat} (d : decode M.2.1 pc = .ok (.ifCond .ne off, 3)) (ht : (pc : Int) + off = (tgt : Int)) (kt : Sim G M B0 o x tgt L st B) (kf : Sim G M B0 o y (pc + 3) L st B) : Sim G M B0 o (ck (ok32 a) (if a = 0 then y else x)) pc L (iv a :: st) B := Sim.branch (fun hc {_ _ _ _ _ _ _ _ _ _ _ _ _ _ _} C h1 h2 => lv_if_ne C.1 C.2.1 d ht (fun q => h2 (fun z => q ((iv_eq hc ok32_0).mpr z))) (fun q => h1 ((iv_eq hc ok32_0).mp q))) kf kt
theorem s_if_lt {a off : Int} {tgt : Nat} (d : decode M.2.1 pc = .ok (.ifCond .lt off, 3)) (ht : (pc : Int) + off = (tgt : Int)) (kt : Sim G M B0 o x tgt L st B) (kf : Sim G M B0 o y (pc + 3) L st B) : Sim G M B0 o (ck (ok32 a) (if a < 0 then x else y)) pc L (iv a :: st) B := Sim.branch (fun hc {_ _ _ _ _ _ _ _ _ _ _ _ _ _ _} C h1 h2 => lv_if_lt C.1 C.2.1 d ht (fun q => h1 ((iv_lt hc ok32_0).mp q)) (fun q => h2 (fun z => q ((iv_lt hc ok32_0).mpr z)))) kt kf
theorem s_if_ge {a off : Int} {tgt : Nat} (d : decode M.2.1 pc = .ok (.ifCond .ge off, 3)) (ht : (pc : Int) + off = (tgt : Int)) (kt : Sim G M B0 o x tgt L st B) (kf : Sim G M B0 o y (pc + 3) L st B) : Sim G M B0 o (ck (ok32 a) (if 0 ≤ a then x else y)) pc L (iv a :: st) B := Sim.branch (fun hc {_ _ _ _ _ _ _ _ _ _ _ _ _ _ _} C h1 h2 => lv_if_ge C.1 C.2.1 d ht (fun q => h1 ((iv_le ok32_0 hc).mp q)) (fun q => h2 (fun z => q ((iv_le ok32_0 hc).mpr z)))) kt kf
theorem s_if_gt {a off : Int} {tgt : Nat} (d : decode M.2.1 pc = .ok (.ifCond .gt off, 3)) (ht : (pc : Int) + off = (tgt : Int)) (kt : Sim G M B0 o x tgt L st B) (kf : Sim G M B0 o y (pc + 3) L st B) : Sim G M B0 o (ck (ok32 a) (if 0 < a then x else y)) pc L (iv a :: st) B := Sim.branch (fun hc {_ _ _ _ _ _ _ _ _ _ _ _ _ _ _} C h1 h2 => lv_if_gt C.1 C.2.1 d ht (fun q => h1 ((iv_lt ok32_0 hc).mp q)) (fun q => h2 (fun z => q ((iv_lt ok32_0 hc).mpr z)))) kt kf
theorem s_if_le {a off : Int} {tgt : Nat} (d : decode M.2.1 pc = .ok (.ifCond .le off, 3)) (ht : (pc : Int) + off = (tgt : Int)) (kt : Sim G M B0 o x tgt L st B) (kf : Sim G M B0 o y (pc + 3) L st B) : Sim G M B0 o (ck (ok32 a) (if a ≤ 0 then x else y)) pc L (iv a :: st) B := Sim.branch (fun hc {_ _ _ _ _ _ _ _ _ _ _ _ _ _ _} C h1 h2 => lv_if_le C.1 C.2.1 d ht (fun q => h1 ((iv_le hc ok32_0).mp q)) (fun q => h2 (fun z => q ((iv_le hc ok32_0).mpr z)))) kt kf
theorem s_iload_n {k : Fin 4} {a : Int} (d : decode M.2.1 pc = .ok (.iload_n k, 1)) (h : L[(k : Nat)]? = some (some (iv a))) (kk : Sim G M B0 o x (pc + 1) L (iv a :: st) B) : Sim G M B0 o x pc L st B := fun r hr p e s m args below meth c C H locs ls hW hS hL => lv_iload_n C.1 C.2.1 d rfl (hL.at h) (kk r hr p e s m args below meth c C H locs ls hW hS hL)
theorem s_iload {k : Nat} {a : Int} (d : decode M.2.1 pc = .ok (.iload k, 2)) (h : L[k]? = some (some (iv a))) (kk : Sim G M B0 o x (pc + 2) L (iv a :: st) B) : Sim G M B0 o x pc L st B := fun r hr p e s m args below meth c C H locs ls hW hS hL => lv_iload C.1 C.2.1 d (hL.at h) (kk r hr p e s m args below meth c C H locs ls hW hS hL)
theorem s_aload_n {k : Fin 4} {a : Option Nat} (d : decode M.2.1 pc = .ok (.aload_n k, 1)) (h : L[(k : Nat)]? = some (some (va_rf a))) (kk : Sim G M B0 o x (pc + 1) L (va_rf a :: st) B) : Sim G M B0 o x pc L st B := fun r hr p e s m args below meth c C H locs ls hW hS hL => by
  have k1 := kk r hr p e s m args below meth c C H locs ls hW hS hL
  cases a with
  | none => exact lv_aload_nN C.1 C.2.1 d rfl (hL.at h) k1
  | some a => exact lv_aload_n C.1 C.2.1 d rfl (hL.at h) k1
theorem s_aload {k : Nat} {a : Option Nat} (d : decode M.2.1 pc = .ok (.aload k, 2)) (h : L[k]? = some (some (va_rf a))) (kk : Sim G M B0 o x (pc + 2) L (va_rf a :: st) B) : Sim G M B0 o x pc L st B := fun r hr p e s m args below meth c C H locs ls hW hS hL => by
  have k1 := kk r hr p e s m args below meth c C H locs ls hW hS hL
  cases a with
  | none => exact lv_aloadN C.1 C.2.1 d (hL.at h) k1
  | some a => exact lv_aload C.1 C.2.1 d (hL.at h) k1
theorem s_istore_n {L' : LL} {k : Fin 4} {a : Int} (d : decode M.2.1 pc = .ok (.istore_n k, 1)) (hn : (k : Nat) < M.2.2.1) (hl : L.set (k : Nat) (some (iv a)) = L') (kk : Sim G M B0 o x (pc + 1) L' st B) : Sim G M B0 o x pc L (iv a :: st) B := fun r hr p e s m args below meth c C H locs ls hW hS hL => lv_istore_n C.1 C.2.1 d rfl hL.1 hn rfl (fun ls' h' => kk r hr p e s m args below meth c C H locs ls' hW hS (hl ▸ hL.of rfl h'))
theorem s_istore {L' : LL} {k : Nat} {a : Int} (d : decode M.2.1 pc = .ok (.istore k, 2)) (hn : k < M.2.2.1) (hl : L.set k (some (iv a)) = L') (kk : Sim G M B0 o x (pc + 2) L' st B) : Sim G M B0 o x pc L (iv a :: st) B := fun r hr p e s m args below meth c C H locs ls hW hS hL => lv_istore C.1 C.2.1 d hL.1 hn rfl (fun ls' h' => kk r hr p e s m args below meth c C H locs ls' hW hS (hl ▸ hL.of rfl h'))
theorem rf_cat (a : Option Nat) : (va_rf a).category = 1 := by cases a <;> rfl
theorem s_astore_n {L' : LL} {k : Fin 4} {a : Option Nat} (d : decode M.2.1 pc = .ok (.astore_n k, 1)) (hn : (k : Nat) < M.2.2.1) (hl : L.set (k : Nat) (some (va_rf a)) = L') (kk : Sim G M B0 o x (pc + 1) L' st B) : Sim G M B0 o x pc L (va_rf a :: st) B := fun r hr p e s m args below meth c C H locs ls hW hS hL => by
  cases a with
  | none => exact lv_astore_nN C.1 C.2.1 d rfl hL.1 hn rfl (fun ls' h' => kk r hr p e s m args below meth c C H locs ls' hW hS (hl ▸ hL.of rfl h'))
  | some a => exact lv_astore_n C.1 C.2.1 d rfl hL.1 hn rfl (fun ls' h' => kk r hr p e s m args below meth c C H locs ls' hW hS (hl ▸ hL.of rfl h'))
theorem s_astore {L' : LL} {k : Nat} {a : Option Nat} (d : decode M.2.1 pc = .ok (.astore k, 2)) (hn : k < M.2.2.1) (hl : L.set k (some (va_rf a)) = L') (kk : Sim G M B0 o x (pc + 2) L' st B) : Sim G M B0 o x pc L (va_rf a :: st) B := fun r hr p e s m args below meth c C H locs ls hW hS hL => by
  cases a with
  | none => exact lv_astoreN C.1 C.2.1 d hL.1 hn rfl (fun ls' h' => kk r hr p e s m args below meth c C H locs ls' hW hS (hl ▸ hL.of rfl h'))
  | some a => exact lv_astore C.1 C.2.1 d hL.1 hn rfl (fun ls' h' => kk r hr p e s m args below meth c C H locs ls' hW hS (hl ▸ hL.of rfl h'))
theorem s_iinc {L' : LL} {i : Nat} {n a : Int} (d : decode M.2.1 pc = .ok (.iinc i n, 3)) (h : L[i]? = some (some (iv a))) (hn : i < M.2.2.1) (hl : L.set i (some (iv (a + n))) = L') (kk : Sim G M B0 o x (pc + 3) L' st B) : Sim G M B0 o x pc L st B := fun r hr p e s m args below meth c C H locs ls hW hS hL => by
  obtain ⟨k, hk⟩ := List.getElem?_of_mem (la_mem.mpr h)
  exact lv_iinc (v := Int32.ofInt (a + n)) C.1 C.2.1 d hL.1 hk (Int32.ofInt_add a n).symm hn rfl (fun ls' h' => kk r hr p e s m args below meth c C H locs ls' hW hS (hl ▸ hL.of rfl h'))
end ROWS
