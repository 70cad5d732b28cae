/-! the machine side of CORE: what it means that a machine heap is described by an abstract one; the judgement Wx; contracts XM -/
abbrev GT : Type := Heap × (Nat → ClassId) × (Nat → Nat → Nat) × (Int → ClassId) × (Nat → Int)
abbrev ET : Type := Program × Launch × Env × Room × State × MethodId × Array Value × List Frame × Method × Code
def tcls (t : Int) : Nat := if t = 9 then 23 else (t - 10).toNat
def hsum (H : Heap) (k : Nat) : Nat := ((H.toList.drop k).map (fun c : Cell => c.slots.size)).sum
def CellOK (G : GT) (h : Hp) (a : Int) (H : Heap) : Prop :=
  (hT h a < 9 → H[(a - 1).toNat]? = some (arrV (G.2.2.2.1 (hT h a)) (hL h a).toNat (fun j => kv (ekind (hT h a)) (hA h a j)))) ∧
  (9 ≤ hT h a → ∃ r : vw_C, vwCl[tcls (hT h a)]? = some r ∧ t_OB (a - 1).toNat (G.2.1 (tcls (hT h a))) r.2.2 (G.2.2.1 (tcls (hT h a))) H (fun k => kv (kt (vwTy (tcls (hT h a)) k)) (hF h a k)))
def roT (t : Int) : Prop := t = 7 ∨ t = 8 ∨ t = 9 ∨ t = -1
def WFh (G : GT) (h : Hp) : Prop := WFa h ∧ ∀ a, hT h a ≠ 0 → (0 ≤ hL h a ∧ hL h a ≤ 2147483647) ∧ (∀ k, kok (kt (vwTy (tcls (hT h a)) k)) (hF h a k)) ∧ (∀ j, kok (ekind (hT h a)) (hA h a j)) ∧ (roT (hT h a) ∨ (G.1.size : Int) < a)
def Rel (G : GT) (H : Heap) (h : Hp) : Prop := WFh G h ∧ hN h = (H.size : Int) + 1 ∧ (hsum H G.1.size : Int) = hS h ∧ G.1.size ≤ H.size ∧ hN h ≤ (G.1.size : Int) + 1 + 1200128 ∧ hS h ≤ 5501098 ∧ hF h 0 0 = (G.1.size : Int) ∧ (∀ k, hF h 0 (k + 1) = G.2.2.2.2 k) ∧ (∀ a, hT h a ≠ 0 → CellOK G h a H) ∧ ∀ q : Nat, q < G.1.size → H[q]? = G.1[q]?
def xAr : List (Int × FieldType) := [(1, .int), (-1, .int), (2, .byte), (7, .byte), (3, .boolean), (4, .long), (5, .object "java/lang/Object"), (8, .object "java/lang/Object"), (6, .object "NextAtBar$Rule")]
/-- what the tables give, all through a run -/
def GK (G : GT) (U : State) : Prop :=
  (∀ (i : Nat) (q : vw_C), vwCl[i]? = some q → u_Kn U q.1 q.2.1 q.2.2 (G.2.1 i) (G.2.2.1 i)) ∧
  (∀ x ∈ xAr, ArrOfT U (G.2.2.2.1 x.1) x.2 ∧ va_RA U (G.2.2.2.1 x.1) x.2) ∧
  (∀ w ∈ xNest, va_Nw w U) ∧ va_AO "java/lang/Object" U ∧ va_AO "NextAtBar$Rule" U ∧
  (∀ x ∈ xStr, vk_R x.1 x.2.1 x.2.2.1 (G.2.2.2.2 x.2.2.2 - 1).toNat U ∧ 1 ≤ G.2.2.2.2 x.2.2.2) ∧
  va_Z "java/util/ArrayList" "DEFAULTCAPACITY_EMPTY_ELEMENTDATA" "[Ljava/lang/Object;" (rv (G.2.2.2.2 31)) (fun q => G.1.size ≤ q) U G.1 ∧
  va_Z "java/lang/String" "COMPACT_STRINGS" "Z" (.int 1) (fun q => G.1.size ≤ q) U G.1 ∧
  (va_Mi "[Ljava/lang/Object;" (G.2.2.2.2 32 - 1).toNat U ∧ 1 ≤ G.2.2.2.2 32) ∧ va_Dc U ∧
  va_Z "jdk/internal/util/Preconditions" "SIOOBE_FORMATTER" "Ljava/util/function/BiFunction;" (rv (G.2.2.2.2 33)) (fun q => G.1.size ≤ q) U G.1
def xNok (w : Cond) : Bool := match w with
  | .methodLinkNest .. => true
  | .fieldLinkNest .. => true
  | .castable .. => true
  | .declares .. => true
  | .selects .. => true
  | _ => false
theorem xNok_warm {w : Cond} (h : xNok w = true) {s U : State} (hW : s.WarmedH U.vm) (hZ : va_Nw w s) : va_Nw w U := by
  cases w <;> first | exact va_Nw.warmM hW hZ | exact va_Nw.warmF hW hZ | exact va_Nw.warmC hW hZ | exact va_Nw.warmD hW hZ | exact word_at hW (Or.inl rfl) hZ | (simp [xNok] at h; done)
theorem xNest_ok : ∀ w ∈ xNest, xNok w = true := List.all_eq_true.mp (by decide +kernel)
theorem GK.warm {G : GT} {s U : State} (hW : s.WarmedH U.vm) (h : GK G s) : GK G U := by
  obtain ⟨h1, h2, h3, h4, h5, h6, h7, h8, h9, h10, h11⟩ := h
  have ha := hW.alike
  exact ⟨fun i q hq => u_Kn_moved ha (h1 i q hq), fun x hx => ⟨arrOfT_moved ha (h2 x hx).1, (h2 x hx).2.moved ha⟩, fun w hw => xNok_warm (xNest_ok w hw) hW (h3 w hw), h4.moved ha, h5.moved ha, fun x hx => ⟨vk_R.warm hW (h6 x hx).1, (h6 x hx).2⟩, h7.moved ha, h8.moved ha, ⟨h9.1.moved ha, h9.2⟩, h10.moved ha, h11.moved ha⟩
theorem GK.same {G : GT} {s U : State} (hv : U.vm = s.vm) (h : GK G s) : GK G U := h.warm (by rw [hv]; exact State.WarmedH.refl s)
def xhas (ls : Array Slot) (lo : List (Option AV)) : Prop := ls.size = lo.length ∧ lv_wf ls ∧ ∀ (i : Nat) (v : AV), lo[i]? = some (some v) → ls[i]? = some (.val (cv v))
def XQc (G : GT) (h0 : Hp) (Q : Option AV → Hp → Prop) : Array Value → State → Outcome → State → Prop := fun _ _ o t => ∃ (r : Option AV) (h' : Hp), o = .returned (r.map cv) ∧ (∀ v, r = some v → okv v) ∧ Ext h0 h' ∧ Rel G t.heap h' ∧ Q r h'
def XPc (G : GT) (As : List AV) (h : Hp) : Array Value → State → Prop := fun a U => a = (As.map cv).toArray ∧ (∀ v ∈ As, okl v) ∧ Rel G U.heap h ∧ GK G U
/-- a method's contract: from the heap h, with the arguments As, it returns, and Q holds of its answer and of the heap behind it -/
def XM (G : GT) (l : Launch) (y : MethodName) (cc : ByteArray) (nL : Nat) (ret : Option FieldType) (fr lc : Nat) (As : List AV) (Q : Option AV → Hp → Prop) (h : Hp) : Prop :=
  Met l y (ws_ y cc nL ret) ({ frames := fr, cells := (hF h 0 0 + 1 + 1200128 - hN h).toNat, slots := (5501098 - hS h).toNat, locals := lc }) (XPc G As h) (XQc G h Q) (hF h 0 0 + 1 + 1200128 - hN h).toNat (5501098 - hS h).toNat (fun q => G.1.size ≤ q)
def XE (G : GT) (X : ET) (cc : ByteArray) (nL : Nat) (own : String) (fr lc : Nat) (h0 : Hp) : Prop := match X with
  | (p, _, _, R, s, m, args, _, meth, c) => p.tables.exec = Jvm.exec ∧ c.code = cc ∧ c.maxLocals = nL ∧ s.vm.findClass own = some m.cls ∧ (∀ w ∈ lw_all, w.before args s = true) ∧ meth.locks = false ∧ GK G s ∧ Rel G s.heap h0 ∧ R.cells = (hF h0 0 0 + 1 + 1200128 - hN h0).toNat ∧ R.slots = (5501098 - hS h0).toNat ∧ R.frames = fr ∧ R.locals = lc
def XR (X : ET) (ret : Option FieldType) : Prop := match X with
  | (_, _, _, _, _, _, _, _, meth, _) => meth.sig.returnType = ret
def XN (X : ET) (nm : String) : Prop := match X with
  | (_, _, _, _, _, _, _, _, meth, _) => meth.name = nm
def Wx (G : GT) (X : ET) (h0 : Hp) (Q : Option AV → Hp → Prop) (h : Hp) (pc : Nat) (lo : List (Option AV)) (st : List AV) : Prop := match X with
  | (p, l, e, R, s, m, args, below, meth, c) => ∀ (H : Heap) (locs : List Loc) (ls : Array Slot) (cells slots : Nat), (∀ v, some v ∈ lo → okl v) → (∀ v ∈ st, okv v) → Ext h0 h → Rel G H h → (∀ q ∈ locs, G.1.size ≤ q.base) → xhas ls lo → W p l e R s m args below meth c H locs cells slots (MQ below (XQc G h0 Q) args s R.cells R.slots (fun q => G.1.size ≤ q)) (F0 m pc ls (st.map cv))
/-! numbers -/
theorem i32_toInt {x : Int} (h : i32 x) : (Int32.ofInt x).toInt = x := Int32.toInt_ofInt_of_le h.1 (by have := h.2; omega)
theorem ofInt_toInt32 (x : Int32) : Int32.ofInt x.toInt = x := Int32.ofInt_toInt x
theorem i32_of (x : Int32) : i32 x.toInt := ⟨Int32.le_toInt x, by have := Int32.toInt_lt x; omega⟩
theorem i32_lt {x y : Int} (hx : i32 x) (hy : i32 y) : Int32.ofInt x < Int32.ofInt y ↔ x < y := by rw [Int32.lt_iff_toInt_lt, i32_toInt hx, i32_toInt hy]
theorem i32_le {x y : Int} (hx : i32 x) (hy : i32 y) : Int32.ofInt x ≤ Int32.ofInt y ↔ x ≤ y := by rw [Int32.le_iff_toInt_le, i32_toInt hx, i32_toInt hy]
theorem i32_eq {x y : Int} (hx : i32 x) (hy : i32 y) : Int32.ofInt x = Int32.ofInt y ↔ x = y := ⟨fun h => by rw [← i32_toInt hx, ← i32_toInt hy, h], fun h => by rw [h]⟩
theorem i32_0 : i32 0 := ⟨by decide, by decide⟩
theorem i32_idx {i n : Int} (hi : i32 i) (h0 : 0 ≤ i) (hn : i < n) : ¬ (Int32.ofInt i < 0 ∨ n.toNat ≤ (Int32.ofInt i).toNatClampNeg) ∧ (Int32.ofInt i).toNatClampNeg = i.toNat := by
  have e : (Int32.ofInt i).toNatClampNeg = i.toNat := by show (Int32.ofInt i).toInt.toNat = _; rw [i32_toInt hi]
  refine ⟨?_, e⟩
  rw [e]
  rintro (h | h)
  · have h2 := (i32_lt hi i32_0).mp h
    omega
  · omega
/-! the heap's slots -/
theorem hsum_push (H : Heap) (x : Cell) {k : Nat} (hk : k ≤ H.size) : hsum (H.push x) k = hsum H k + x.slots.size := by
  unfold hsum
  rw [Array.toList_push, List.drop_append_of_le_length (by simpa using hk), List.map_append, List.sum_append]
  simp
theorem hsum_congr {H H' : Heap} (hs : H'.size = H.size) (h : ∀ q : Nat, (H'[q]?).map (fun c : Cell => c.slots.size) = (H[q]?).map (fun c : Cell => c.slots.size)) (k : Nat) : hsum H' k = hsum H k := by
  unfold hsum
  have e : H'.toList.map (fun c : Cell => c.slots.size) = H.toList.map (fun c : Cell => c.slots.size) := by
    apply List.ext_getElem?
    intro q
    rw [List.getElem?_map, List.getElem?_map, Array.getElem?_toList, Array.getElem?_toList]
    exact h q
  rw [List.map_drop, List.map_drop, e]
section SUMS
variable {p : Program} {l : Launch} {e : Env} {R : Room} {s : State} {m : MethodId} {args : Array Value} {below : List Frame} {meth : Method} {c : Code} {T : State} {H : Heap} {locs : List Loc} {cells slots : Nat} {Q : State → Prop} {g : JFrame}
theorem hsum_split (X : Stand p l e R s m args below meth c T locs cells slots) {k : Nat} (hk : k ≤ s.heap.size) : hsum T.heap k = hsum s.heap k + hsum T.heap s.heap.size := by
  have hsz : s.heap.size ≤ T.heap.size := X.same.2.1
  have hc := X.same.2.2.2.2.2
  have e : (T.heap.toList.map (fun c : Cell => c.slots.size)).take s.heap.size = s.heap.toList.map (fun c : Cell => c.slots.size) := by
    apply List.ext_getElem?
    intro q
    rw [List.getElem?_take, List.getElem?_map, List.getElem?_map, Array.getElem?_toList, Array.getElem?_toList]
    by_cases hq : q < s.heap.size
    · rw [if_pos hq]
      obtain ⟨c', h1, -, h3, -⟩ := hc q _ (Array.getElem?_eq_getElem hq)
      have h1 : T.heap[q]? = some c' := h1
      rw [h1, Array.getElem?_eq_getElem hq]
      simp [h3]
    · rw [if_neg hq, Array.getElem?_eq_none (by omega)]
      rfl
  unfold hsum
  simp only [List.map_drop]
  rw [← e]
  generalize T.heap.toList.map (fun c : Cell => c.slots.size) = L
  have h2 : L.drop k = (L.take s.heap.size).drop k ++ L.drop s.heap.size := by
    conv => lhs; rw [← List.take_append_drop s.heap.size L]
    by_cases hl : s.heap.size ≤ L.length
    · rw [List.drop_append_of_le_length (by rw [List.length_take]; omega)]
    · rw [List.drop_eq_nil_of_le (as := L) (i := s.heap.size) (by omega)]
      simp
  rw [h2, List.sum_append]
theorem tightS (X : Stand p l e R s m args below meth c T locs cells slots) {k n : Nat} (h1 : T.heap.size ≤ s.heap.size + k) (h2 : hsum T.heap s.heap.size ≤ n) : Stand p l e R s m args below meth c T locs k n :=
  { X with same := ⟨X.same.1, X.same.2.1, h1, X.same.2.2.2.1, h2, X.same.2.2.2.2.2⟩ }
theorem W.re {k n : Nat} (hk : ∀ T : State, T.heap = H → Stand p l e R s m args below meth c T locs cells slots → Stand p l e R s m args below meth c T locs k n) (kk : W p l e R s m args below meth c H locs k n Q g) : W p l e R s m args below meth c H locs cells slots Q g := fun T hT X => kk T hT (hk T hT X)
/-- the counters, as the abstract heaps have them -/
theorem W.tight {G : GT} {h0 h : Hp} (hR0 : Rel G s.heap h0) (hR : Rel G H h) (kk : W p l e R s m args below meth c H locs (hN h - hN h0).toNat (hS h - hS h0).toNat Q g) : W p l e R s m args below meth c H locs cells slots Q g := by
  refine W.re (fun T hT X => ?_) kk
  have hsz : s.heap.size ≤ T.heap.size := X.same.2.1
  have hsp := hsum_split X hR0.2.2.2.1
  obtain ⟨-, a1, a2, -⟩ := hR0
  obtain ⟨-, b1, b2, -⟩ := hR
  rw [← hT] at b1 b2
  exact tightS X (by omega) (by omega)
end SUMS
