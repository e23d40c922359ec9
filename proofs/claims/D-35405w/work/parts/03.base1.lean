/-! BASE 1: pure heaps, the judgement J of a body against its answer, Sim of a body against a pure computation; rows that touch no heap -/
abbrev PC4 : Type := Nat × Nat × (Nat → Int) × (Nat → Option Nat)
abbrev BH : Type := (Nat → Option PC4) × Nat × Nat
/-- kind (0 void, 1 int, 2 reference, 10.. thrown), the int, the reference -/
abbrev Rv : Type := Nat × Int × Option Nat
abbrev GT : Type := Launch × va_G × (Nat → ClassId) × Nat × Nat × Nat × List (String × String × String × Value)
abbrev MI : Type := MethodName × ByteArray × Nat × Option FieldType × List (Nat × Nat × Nat × Nat) × Nat × Nat
abbrev LL : Type := List (Option Value)
def gL (G : GT) : Launch := G.1
def gD (G : GT) : va_G := G.2.1
def gA (G : GT) : Nat → ClassId := G.2.2.1
def gB (G : GT) : Nat := G.2.2.2.1
def gLC (G : GT) : Nat := G.2.2.2.2.1
def gLS (G : GT) : Nat := G.2.2.2.2.2.1
def gZ (G : GT) : List (String × String × String × Value) := G.2.2.2.2.2.2
def gAA (G : GT) : Nat → Prop := fun q => gB G ≤ q
def iv (a : Int) : Value := .int (Int32.ofInt a)
def bz (p : Prop) [Decidable p] : Int := if p then 1 else 0
abbrev ok32 (a : Int) : Prop := -2147483648 ≤ a ∧ a < 2147483648
theorem ok32_toInt {a : Int} (h : ok32 a) : (Int32.ofInt a).toInt = a := Int32.toInt_ofInt_of_le (by simpa using h.1) (by simpa using h.2)
theorem iv_lt {a b : Int} (ha : ok32 a) (hb : ok32 b) : Int32.ofInt a < Int32.ofInt b ↔ a < b := by rw [Int32.lt_iff_toInt_lt, ok32_toInt ha, ok32_toInt hb]
theorem iv_le {a b : Int} (ha : ok32 a) (hb : ok32 b) : Int32.ofInt a ≤ Int32.ofInt b ↔ a ≤ b := by rw [Int32.le_iff_toInt_le, ok32_toInt ha, ok32_toInt hb]
theorem iv_eq {a b : Int} (ha : ok32 a) (hb : ok32 b) : Int32.ofInt a = Int32.ofInt b ↔ a = b := by rw [← Int32.toInt_inj, ok32_toInt ha, ok32_toInt hb]
theorem iv_0 : (0 : Int32) = Int32.ofInt 0 := rfl
theorem ok32_0 : ok32 0 := ⟨by decide, by decide⟩
/-! heaps and their sizes -/
def tot (H : Heap) : Nat := (H.toList.map (fun c => c.slots.size)).sum
theorem tot_fold (l : List Cell) (n : Nat) : l.foldl (fun n c => n + c.slots.size) n = n + (l.map (fun c => c.slots.size)).sum := by
  induction l generalizing n with
  | nil => simp
  | cons a l ih => simp only [List.foldl_cons, ih, List.map_cons, List.sum_cons]; omega
theorem tot_true {s : State} (h : s.slotsTrue = true) : s.slotsUsed = tot s.heap := by
  have h1 := eq_of_beq h
  rw [h1, ← Array.foldl_toList, tot_fold]
  simp [tot]
theorem tot_push (H : Heap) (c : Cell) : tot (H.push c) = tot H + c.slots.size := by simp [tot]
theorem tot_same {H H1 : Heap} (h : ∀ q : Nat, (H1[q]?).map (fun c => c.slots.size) = (H[q]?).map (fun c => c.slots.size)) : tot H1 = tot H := by
  unfold tot
  congr 1
  apply List.ext_getElem?
  intro i
  rw [List.getElem?_map, List.getElem?_map, Array.getElem?_toList, Array.getElem?_toList]
  exact h i
section WT
variable {p : Program} {l : Launch} {e : Env} {R : Room} {s : State} {m : MethodId} {args : Array Value} {below : List Frame} {meth : Method} {c : Code} {H : Heap} {locs : List Loc} {Q : State → Prop}
theorem w_tight {k n k' n' : Nat} {g : JFrame} (hs : H.size ≤ s.heap.size + k') (ht : tot H ≤ tot s.heap + n') (kk : W p l e R s m args below meth c H locs k' n' Q g) : W p l e R s m args below meth c H locs k n Q g := by
  intro T hT X
  refine kk T hT { X with same := ?_ }
  obtain ⟨h1, h2, h3, h4, h5, h6⟩ := X.same
  have b1 := tot_true X.book
  have b0 : s.slotsUsed = tot s.heap := by
    have h := X.room
    simp only [State.hasRoom, Bool.and_eq_true] at h
    exact tot_true h.2
  have e4 : T.slotsUsed = s.slotsUsed + (((T.setVm s.vm).heap.toList.drop s.heap.size).map (·.slots.size)).sum := h4
  have hH : tot T.heap = tot H := by rw [hT]
  refine ⟨h1, h2, ?_, h4, by omega, h6⟩
  show T.heap.size ≤ _
  rw [hT]
  exact hs
end WT
/-! locals by their places -/
def la (L : LL) : List (Nat × Value) := (List.range L.length).filterMap (fun i => (L.getD i none).map (fun v => (i, v)))
theorem la_mem {L : LL} {i : Nat} {v : Value} : (i, v) ∈ la L ↔ L[i]? = some (some v) := by
  unfold la
  rw [List.mem_filterMap]
  constructor
  · rintro ⟨j, hj, h⟩
    rw [List.mem_range] at hj
    rw [List.getD_eq_getElem?_getD, List.getElem?_eq_getElem hj] at h
    cases hx : L[j] with
    | none => rw [hx] at h; simp at h
    | some w =>
      rw [hx] at h
      simp at h
      obtain ⟨rfl, rfl⟩ := h
      rw [List.getElem?_eq_getElem hj, hx]
  · intro h
    have hl := (List.getElem?_eq_some_iff.mp h).1
    exact ⟨i, List.mem_range.mpr hl, by rw [List.getD_eq_getElem?_getD, h]; rfl⟩
def LV (ls : Array Slot) (nL : Nat) (L : LL) : Prop := lv_has ls nL (la L) ∧ ∀ (i : Nat) (v : Value), L[i]? = some (some v) → v.category = 1
theorem LV.at {ls : Array Slot} {nL : Nat} {L : LL} (h : LV ls nL L) {i : Nat} {v : Value} (e : L[i]? = some (some v)) : ls[i]? = some (.val v) := h.1.2.2 (i, v) (la_mem.mpr e)
theorem LV.of {ls ls' : Array Slot} {nL : Nat} {L : LL} {i : Nat} {v : Value} (h : LV ls nL L) (hv : v.category = 1) (h' : lv_has ls' nL ((i, v) :: (la L).filter (fun q => !(q.1 == i) && !(q.1 + 1 == i && q.2.category == 2)))) : LV ls' nL (L.set i (some v)) := by
  have hc : ∀ (j : Nat) (w : Value), (L.set i (some v))[j]? = some (some w) → (j = i ∧ w = v) ∨ (j ≠ i ∧ L[j]? = some (some w)) := by
    intro j w hj
    by_cases e : j = i
    · subst e
      by_cases hl : j < L.length
      · rw [List.getElem?_set_self hl] at hj
        cases hj
        exact Or.inl ⟨rfl, rfl⟩
      · rw [List.getElem?_eq_none (by simp; omega)] at hj
        cases hj
    · rw [List.getElem?_set_ne (Ne.symm e)] at hj
      exact Or.inr ⟨e, hj⟩
  refine ⟨⟨h'.1, h'.2.1, fun q hq => ?_⟩, fun j w hj => ?_⟩
  · obtain ⟨j, w⟩ := q
    rcases hc j w (la_mem.mp hq) with ⟨rfl, rfl⟩ | ⟨hne, hj⟩
    · exact h'.2.2 _ List.mem_cons_self
    · refine h'.2.2 (j, w) (List.mem_cons_of_mem _ (List.mem_filter.mpr ⟨la_mem.mpr hj, ?_⟩))
      have c1 := h.2 j w hj
      simp [hne, c1]
  · rcases hc j w hj with ⟨-, rfl⟩ | ⟨-, hj⟩
    · exact hv
    · exact h.2 j w hj
/-- the second list says no more than the first -/
def lsub : LL → LL → Prop
  | _, [] => True
  | [], none :: L' => lsub [] L'
  | [], some _ :: _ => False
  | _ :: L, none :: L' => lsub L L'
  | v :: L, some w :: L' => v = some w ∧ lsub L L'
theorem lsub_at : ∀ {L L' : LL}, lsub L L' → ∀ {i : Nat} {v : Value}, L'[i]? = some (some v) → L[i]? = some (some v)
  | _, [], _, i, v, e => by simp at e
  | [], none :: L', h, i, v, e => by
    cases i with
    | zero => simp at e
    | succ i => exact absurd (lsub_at (L := []) (L' := L') h (i := i) (v := v) (by simpa using e)) (by simp)
  | [], some _ :: _, h, _, _, _ => h.elim
  | x :: L, none :: L', h, i, v, e => by
    cases i with
    | zero => simp at e
    | succ i => simpa using lsub_at (L := L) (L' := L') h (i := i) (v := v) (by simpa using e)
  | x :: L, some w :: L', h, i, v, e => by
    cases i with
    | zero =>
      simp at e
      rw [h.1, e]
      rfl
    | succ i => simpa using lsub_at (L := L) (L' := L') h.2 (i := i) (v := v) (by simpa using e)
theorem LV.sub {ls : Array Slot} {nL : Nat} {L L' : LL} (h : LV ls nL L) (hs : lsub L L') : LV ls nL L' :=
  ⟨⟨h.1.1, h.1.2.1, fun q hq => h.1.2.2 q (la_mem.mpr (lsub_at hs (la_mem.mp hq)))⟩, fun i v e => h.2 i v (lsub_at hs e)⟩
