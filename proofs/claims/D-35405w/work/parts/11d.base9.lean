/-! BASE 9: further rows of the class's side -/
theorem lw_l4 {a b c d : Cond} (h1 : a ∈ lw_all) (h2 : b ∈ lw_all) (h3 : c ∈ lw_all) (h4 : d ∈ lw_all) : ∀ w ∈ [a, b, c, d], w ∈ lw_all := by
  intro w hw
  simp only [List.mem_cons, List.not_mem_nil, or_false] at hw
  rcases hw with e | e | e | e <;> rw [e] <;> assumption
theorem lw_l5 {a b c d f : Cond} (h1 : a ∈ lw_all) (h2 : b ∈ lw_all) (h3 : c ∈ lw_all) (h4 : d ∈ lw_all) (h5 : f ∈ lw_all) : ∀ w ∈ [a, b, c, d, f], w ∈ lw_all := by
  intro w hw
  simp only [List.mem_cons, List.not_mem_nil, or_false] at hw
  rcases hw with e | e | e | e | e <;> rw [e] <;> assumption
def nnB (own : String) (i : Nat) (w : Cond) : Bool := match w with
  | .fieldLinkNest a j _ _ _ _ => !(decide (a = own) && decide (j = i))
  | _ => true
theorem noNest {own : String} {i : Nat} {r n d host : String} (h : gNw.all (nnB own i) = true) (hm : Cond.fieldLinkNest own i r n d host ∈ gNw) : False := by
  have h1 := List.all_eq_true.mp h _ hm
  simp [nnB] at h1
/-- what came back from a method that may throw -/
def rv0 {ρ : Type} (v : Rv) (x : Option ρ) : Option ρ := ck (v.1 = 0) x
def rv1 {ρ : Type} (v : Rv) (κ : Int → Option ρ) : Option ρ := ck (v.1 = 1) (κ v.2.1)
def rv2 {ρ : Type} (v : Rv) (κ : Option Nat → Option ρ) : Option ρ := ck (v.1 = 2) (κ v.2.2)
abbrev isBB (v : Int) : Prop := -128 ≤ v ∧ v < 128
def sB {ρ : Type} (B : BH) (e : Option Nat) (i v : Int) (κ : BH → Option ρ) : Option ρ := (cell B e).bind fun c => ck (c.1 = 102 ∧ inA c i) (κ (upB B (e.getD 0) (putI c i.toNat (bI2b v))))
theorem vx_ofWF {l : Launch} {y : MethodName} {ws ws' : List Cond} {rm : Room} {Pc : Array Value → State → Prop} {Qc : Array Value → State → Outcome → State → Prop} {XC : String → State → State → Prop} {mc ms : Nat} {free : Addr → Prop} {cc : ByteArray} {maxL : Nat} {ret : Option FieldType}
    (hy : plainFor y = true) (hw : ws = Cond.code y cc maxL ret :: ws')
    (body : ∀ p e s m args below meth c s₁, BodyLoose p l y (headSpec ws rm) cc maxL ret e s m args below meth c s₁ → c.maxLocals = maxL → (∀ x ∈ c.exceptionTable.toList, False) → Pc args s →
      W p l e (headSpec ws rm).room s m args below meth c s.heap [] 0 0 (vx_MQ below Qc XC args s mc ms free) (entryFrame m args maxL)) : vx_Met l y ws rm Pc Qc XC mc ms free := by
  refine MetFree.of_bodySF (code := cc) (maxLocals := maxL) (ret := ret) hy ?_ ?_
  · intro args s m h hn
    obtain ⟨meth, c, h1, h2, h3, h4, h5, h6, -, -⟩ := Cond.code_spec hn (atoms_spec (ws := ws) h _ (by rw [hw]; exact List.mem_cons_self))
    exact ⟨meth, c, h1, h2, h3, h4, h5, h6⟩
  · intro p e s m args below meth c s₁ B hml hP _
    have hh0 : s₁.heap = s.heap := by rw [B.state]; rfl
    have ht : ∀ x ∈ c.exceptionTable.toList, False := by
      obtain ⟨meth9, c9, h1, h2, -, -, -, -, h7, -⟩ := Cond.code_spec B.named (atoms_spec (ws := ws) B.pre _ (by rw [hw]; exact List.mem_cons_self))
      cases Option.some.inj (h1.symm.trans B.method)
      cases Option.some.inj (h2.symm.trans (Stand.of_body B).code)
      intro x hx
      rw [Array.isEmpty_iff.mp h7] at hx
      cases hx
    obtain ⟨t, a1, o, b1, b2, b3⟩ := body p e s m args below meth c s₁ B hml ht hP s₁ hh0 (Stand.of_body B)
    exact ⟨t, o, a1, b1, b2, b3⟩
theorem mk_metF {ρ : Type} {G : GT} {M : MI} {B : BH} {o : ρ → Rv × BH} {x : Option ρ} {av : List Value} {L0 : LL} (hy : plainFor M.1 = true) (hh : M.2.2.2.2.1 = []) (hc : cat1 av) (hlen : av.length ≤ M.2.2.1) (hL : av.map some ++ List.replicate (M.2.2.1 - av.length) none = L0) (h : Sim G M B o x 0 L0 [] B) : MetN G M B o x av := by
  intro r hr
  refine vx_ofWF (cc := M.2.1) (maxL := M.2.2.1) (ret := M.2.2.2.1) hy rfl ?_
  intro p e s m args below meth c s₁ Bd hml hexc hv
  obtain ⟨rfl, hW, hK⟩ := hv
  have hts := atoms_spec (ws := ws_ M.1 M.2.1 M.2.2.1 M.2.2.2.1) Bd.pre
  have he : c.exceptionTable.toList = tableOf M.2.2.2.2.1 := by
    rw [hh, List.eq_nil_iff_forall_not_mem.mpr (fun x hx => hexc x hx)]
    rfl
  have C : CX G M B p s m av.toArray meth c := ⟨Bd.exec, Bd.bytes, Bd.returns, Bd.notSynchronized, hml, findClass_of_methodNamed Bd.named, fun w h => hts w (List.mem_cons_of_mem _ h), hK, by rw [hW.1]; exact hW.2.2.2.1.1, hW.1, hW.2.1, (name_of_methodNamed Bd.named Bd.method).1, he⟩
  rw [lg_entry_eq]
  have k := h r hr p e s m av.toArray below meth c C s.heap [] _ hW va_S.rf (by rw [← hL]; exact LV_entry hc hlen)
  rw [Nat.sub_self, Nat.sub_self] at k
  exact k
section ROWS9
variable {ρ : Type} {G : GT} {M : MI} {B0 : BH} {o : ρ → Rv × BH} {x y : Option ρ} {pc idx t N : Nat} {C : String} {T : u_T} {L : LL} {st stk : List Value} {B : BH} {e : Option Nat} {K : KT}
theorem h_rv0 {v : Rv} (kk : Sim G M B0 o x pc L st B) : Sim G M B0 o (rv0 v x) pc L ((rvO v).toList ++ st) B := Sim.ck fun h => by
  unfold rvO
  rw [if_pos h]
  exact kk
theorem h_rv1 {v : Rv} {κ : Int → Option ρ} (kk : ∀ w, Sim G M B0 o (κ w) pc L (iv w :: st) B) : Sim G M B0 o (rv1 v κ) pc L ((rvO v).toList ++ st) B := Sim.ck fun h => by
  unfold rvO
  rw [if_neg (by omega), if_pos h]
  exact kk _
theorem h_rv2 {v : Rv} {κ : Option Nat → Option ρ} (kk : ∀ w, Sim G M B0 o (κ w) pc L (va_rf w :: st) B) : Sim G M B0 o (rv2 v κ) pc L ((rvO v).toList ++ st) B := Sim.ck fun h => by
  unfold rvO
  rw [if_neg (by omega), if_neg (by omega)]
  exact kk _
/-- a table's row, and its end -/
theorem h_swc {v i dflt lo hi : Int} {offs : Array Int} {len tgt : Nat} {off : Int} (d : decode M.2.1 pc = .ok (.tableswitch dflt lo hi offs, len)) (h1 : ¬ i < lo) (h2 : ¬ hi < i) (ho : offs[(i - lo).toNat]? = some off) (ht : (pc : Int) + off = (tgt : Int)) (kt : Sim G M B0 o x tgt L st B) (kf : v ≠ i → Sim G M B0 o (ck (ok32 v) y) pc L (iv v :: st) B) : Sim G M B0 o (ck (ok32 v) (if v = i then x else y)) pc L (iv v :: st) B := by
  intro r hr p e s m args below meth c C H locs ls hW hS hL
  obtain ⟨hc, hr⟩ := ck_some hr
  by_cases e9 : v = i
  · subst e9
    rw [if_pos rfl] at hr
    have hv := ok32_toInt hc
    exact lv_tableIn C.1 C.2.1 d (by rw [hv]; exact h1) (by rw [hv]; exact h2) (by rw [hv]; exact ho) ht (kt r hr p e s m args below meth c C H locs ls hW hS hL)
  · rw [if_neg e9] at hr
    exact kf e9 r ((ck_t hc).trans hr) p e s m args below meth c C H locs ls hW hS hL
theorem h_swd {v dflt lo hi : Int} {offs : Array Int} {len tgt : Nat} (d : decode M.2.1 pc = .ok (.tableswitch dflt lo hi offs, len)) (h : ok32 v → v < lo ∨ hi < v) (ht : (pc : Int) + dflt = (tgt : Int)) (kt : Sim G M B0 o x tgt L st B) : Sim G M B0 o (ck (ok32 v) x) pc L (iv v :: st) B := by
  intro r hr p e s m args below meth c C H locs ls hW hS hL
  obtain ⟨hc, hr⟩ := ck_some hr
  have hv := ok32_toInt hc
  exact lv_tableOut C.1 C.2.1 d (by rw [hv]; exact h hc) ht (kt r hr p e s m args below meth c C H locs ls hW hS hL)
theorem h_bald {i : Int} {κ : Int → Option ρ} (d : decode M.2.1 pc = .ok (.baload, 1)) (kk : ∀ v, Sim G M B0 o (κ v) (pc + 1) L (iv v :: st) B) : Sim G M B0 o (aI B 102 e i κ) pc L (iv i :: va_rf e :: st) B :=
  Sim.cell fun a c he hB => Sim.ck fun hc => fun r hr p e s m args below meth c0 C0 H locs ls hW hS hL => by
    subst he
    obtain ⟨w1, w2, w3⟩ := hW.2.2.1 a c hB
    obtain ⟨g1, g2⟩ := vp_in_iv hc.2.1 hc.2.2 w3
    have hat := (cAt_int (H := H) hc.1 (Or.inr (Or.inr rfl))).mp w1
    exact W.bald (v := iv (c.2.2.1 i.toNat)) C0.1 C0.2.1 hat ((C0.2.2.2.2.2.2.2.1.1.2 2 (gA G 102, .byte) rfl).1 _ _) (fun q => by cases q) (by rw [arrV_size]; exact g1) (by rw [arrV_read _ _ (by have := hc.2.2; have := hc.2.1; omega), g2]; rfl) rfl rfl d (kk _ r hr p e s m args below meth c0 C0 H locs ls hW hS hL)
theorem putR_arr {f : Nat → Option Nat} {k : Nat} {v : Option Nat} : (fun j => va_rf ((fun j => if j = k then v else f j) j)) = updV (fun j => va_rf (f j)) k (va_rf v) := by
  funext j
  unfold updV
  by_cases h : j = k
  · simp [h]
  · simp [h]
theorem obj_cast : ∀ q ∈ gCl, Cond.castable q.1 "java/lang/Object" ∈ gNw := by decide +kernel
theorem ints_cast : Cond.castable "[I" "java/lang/Object" ∈ gNw := by decide +kernel
/-- the names of the rows' classes, by the array's tag -/
theorem rowT_of {t : Nat} (h1 : 110 ≤ t) (h2 : t < 116) : ∃ (i0 : Nat) (E : String), (gTys G)[i0]? = some (gA G t, .object E) ∧ (rowT t = none → E = "java/lang/Object") ∧ ∀ t' q, rowT t = some t' → gCl[t']? = some q → q.1 = E := by
  have : t = 110 ∨ t = 111 ∨ t = 112 ∨ t = 113 ∨ t = 114 ∨ t = 115 := by omega
  rcases this with rfl | rfl | rfl | rfl | rfl | rfl
  · exact ⟨4, _, rfl, fun _ => rfl, fun t' q h _ => by cases h⟩
  · exact ⟨5, _, rfl, fun h => (by cases h), fun t' q h e => by cases h; cases e; rfl⟩
  · exact ⟨6, _, rfl, fun h => (by cases h), fun t' q h e => by cases h; cases e; rfl⟩
  · exact ⟨7, _, rfl, fun h => (by cases h), fun t' q h e => by cases h; cases e; rfl⟩
  · exact ⟨8, _, rfl, fun h => (by cases h), fun t' q h e => by cases h; cases e; rfl⟩
  · exact ⟨9, _, rfl, fun h => (by cases h), fun t' q h e => by cases h; cases e; rfl⟩
theorem fit_key {s : State} {H : Heap} (hW : World G s B H) (hK : GOK G s) {t v : Nat} (h1 : 110 ≤ t) (h2 : t < 116) (hfit : fitR B t (some v) = true) : ∃ (i0 : Nat) (E : String), (gTys G)[i0]? = some (gA G t, .object E) ∧ ∀ comp, s.vm.findClass E = some comp → ∃ cv kv, H[v]? = some cv ∧ (∀ q, cv.vm ≠ .statics q) ∧ s.vm.classes[cv.cls]? = some kv ∧ s.vm.assignable cv.cls comp = true := by
  obtain ⟨i0, E, hi0, hE, hE2⟩ := rowT_of (G := G) h1 h2
  refine ⟨i0, E, hi0, fun comp hcomp => ?_⟩
  unfold fitR at hfit
  cases hBv : B.1 v with
  | none => simp [hBv] at hfit
  | some c' =>
    simp only [hBv, Bool.or_eq_true, Bool.and_eq_true, decide_eq_true_eq, beq_iff_eq] at hfit
    rcases hfit with ⟨ho, hr⟩ | ⟨hn, h100⟩
    · obtain ⟨q, hq⟩ : ∃ q, gCl[c'.1 % 1000]? = some q := by
        have hl : gCl.length = 22 := rfl
        exact ⟨gCl[c'.1 % 1000]'(by omega), List.getElem?_eq_getElem (by omega)⟩
      obtain ⟨cv, g1, g2, g3⟩ := hW.recv (C := q.1) (T := q.2.1) (N := q.2.2) hK hBv rfl hq
      obtain ⟨kv, hkv, -⟩ := Vm.findClass_spec g3
      refine ⟨cv, kv, g1, (fun q9 h9 => by rw [h9] at g2; cases g2), hkv, ?_⟩
      rcases hr with hr | hr
      · obtain ⟨c0, t0, f1, f2, f3⟩ := Cond.castable_spec (va_Nw.use (A := #[]) rfl (hK.2.1 _ (obj_cast q (List.mem_of_getElem? hq))))
        cases g3.symm.trans f1
        rw [hE hr] at hcomp
        cases hcomp.symm.trans f2
        exact f3
      · have e9 := hE2 _ _ hr hq
        have hat := (hK.1.1 _ _ hq).2
        rw [e9] at hat g3
        have e8 : comp = cv.cls := Option.some.inj (hcomp.symm.trans g3)
        have e7 : comp = (gD G).1 (c'.1 % 1000) := Option.some.inj (hcomp.symm.trans hat.1)
        rw [← e8, e7]
        exact va_assign hat
    · have hat := (cAt_int (H := H) h100 (Or.inl rfl)).mp (hW.2.2.1 v c' hBv).1
      have hA := (hK.1.2 0 (gA G 100, .int) rfl).2
      have hA1 : s.vm.findClass "[I" = some (gA G 100) := hA
      obtain ⟨kv, hkv, -⟩ := Vm.findClass_spec hA1
      refine ⟨_, kv, hat, fun q9 h9 => (by cases h9), hkv, ?_⟩
      obtain ⟨c0, t0, f1, f2, f3⟩ := Cond.castable_spec (va_Nw.use (A := #[]) rfl (hK.2.1 _ ints_cast))
      cases hA1.symm.trans f1
      rw [hE hn] at hcomp
      cases hcomp.symm.trans f2
      exact f3
theorem h_aast {i : Int} {v : Option Nat} {κ : BH → Option ρ} (d : decode M.2.1 pc = .ok (.aastore, 1)) (kk : ∀ B, Sim G M B0 o (κ B) (pc + 1) L st B) : Sim G M B0 o (sR B e i v κ) pc L (va_rf v :: iv i :: va_rf e :: st) B :=
  Sim.cell fun a c he hB => Sim.ck fun hc => fun r hr p ev s m args below meth c0 C0 H locs ls hW hS hL => by
    subst he
    obtain ⟨h1, h2, hin, hfit⟩ := hc
    have htm : c.1 % 1000 = c.1 := by omega
    obtain ⟨w1, w2, w3⟩ := hW.2.2.1 a c hB
    obtain ⟨g1, g2⟩ := vp_in_iv hin.1 hin.2 w3
    have hat := (cAt_ref (H := H) htm h1).mp w1
    have hK := C0.2.2.2.2.2.2.2.1
    have fin : ∀ H' : Heap, H'[a]? = some ((arrV (gA G c.1) c.2.1 (fun j => va_rf (c.2.2.2 j))).setSlot (Int32.ofInt i).toNatClampNeg (va_rf v)) → H'.size = H.size → (∀ q, q ≠ a → H'[q]? = H[q]?) → W p (gL G) ev (rmOf G M B0) s m args below meth c0 H' (locs ++ [⟨a, (Int32.ofInt i).toNatClampNeg⟩]) (B.2.1 - B0.2.1) (B.2.2 - B0.2.2) (Fin9 G B0 (o r) below args s) (F0 m (pc + 1) ls st) := by
      intro H' e1 e2 e3
      refine kk _ r hr p ev s m args below meth c0 C0 H' _ ls (hW.put hB (by omega) rfl rfl hat e1 (by simp [Cell.setSlot]) e2 e3 ?_) (hS.put e2 e3 (w2 (by omega))) hL
      refine (cAt_ref (c := putR c i.toNat v) (t := c.1) htm h1).mpr ?_
      show H'[a]? = _
      rw [e1, arrV_store, g2]
      exact congrArg some (congrArg (arrV (gA G c.1) c.2.1) putR_arr.symm)
    cases v with
    | none =>
      obtain ⟨i0, E, hi0⟩ := gTy_of (G := G) h1 h2
      exact va_WaastN (C := E) C0.1 C0.2.1 hat ((hK.1.2 i0 _ hi0).1 _ _) (fun h => by cases h) (by rw [arrV_size]; exact g1) rfl rfl d fin
    | some v =>
      have g0 : ¬ Int32.ofInt i < 0 := fun q => g1 (Or.inl q)
      have hlt : (Int32.ofInt i).toNatClampNeg < (arrV (gA G c.1) c.2.1 (fun j => va_rf (c.2.2.2 j))).slots.size := by
        rw [arrV_size]
        exact Nat.not_le.mp fun q => g1 (Or.inr q)
      obtain ⟨i0, E, hi0, key⟩ := fit_key hW hK h1 h2 hfit
      obtain ⟨kA, comp, k1, k2, k3, -⟩ := (hK.1.2 i0 _ hi0).2
      obtain ⟨kE, hkE, -⟩ := Vm.findClass_spec k3
      obtain ⟨cv, kv, q1, q2, q3, q4⟩ := key comp k3
      exact W.aast C0.1 C0.2.1 hat (fun q h => by cases h) (fun h => by cases h) k1 k2 rfl hkE ⟨g0, hlt⟩ q1 q2 q3 q4 rfl rfl d fin
end ROWS9
