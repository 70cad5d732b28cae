/-! CORE: abstract values and heaps, no machine yet. Addresses are machine addresses + 1; 0 is null. -/
abbrev AV : Type := Int ⊕ Int ⊕ Int
abbrev iV (x : Int) : AV := Sum.inl x
abbrev rV (a : Int) : AV := Sum.inr (Sum.inl a)
abbrev lV (x : Int) : AV := Sum.inr (Sum.inr x)
def i32 (x : Int) : Prop := -2147483648 ≤ x ∧ x ≤ 2147483647
def i64 (x : Int) : Prop := -9223372036854775808 ≤ x ∧ x ≤ 9223372036854775807
def rv (a : Int) : Value := if a ≤ 0 then .null else .ref (a - 1).toNat
def cv (v : AV) : Value := match v with
  | .inl x => .int (Int32.ofInt x)
  | .inr (.inl a) => rv a
  | .inr (.inr x) => .long (Int64.ofInt x)
def okv (v : AV) : Prop := match v with
  | .inl x => i32 x
  | .inr (.inl a) => 0 ≤ a
  | .inr (.inr x) => i64 x
/-- what a local may hold: no long -/
def okl (v : AV) : Prop := match v with
  | .inl x => i32 x
  | .inr (.inl a) => 0 ≤ a
  | .inr (.inr _) => False
def kv (k : Nat) (x : Int) : Value := match k with
  | 0 => .int (Int32.ofInt x)
  | 1 => rv x
  | _ => .long (Int64.ofInt x)
def kok (k : Nat) (x : Int) : Prop := match k with
  | 0 => i32 x
  | 1 => 0 ≤ x
  | _ => i64 x
def kt (ty : FieldType) : Nat := match ty with
  | .object _ => 1
  | .array _ => 1
  | .long => 2
  | _ => 0
def ekind (t : Int) : Nat := if t = 4 then 2 else if t = 5 ∨ t = 6 ∨ t = 8 then 1 else 0
abbrev Hp : Type := (Int → Int) × (Int → Int) × (Int → Nat → Int) × (Int → Int → Int) × Int × Int
def hT (h : Hp) (a : Int) : Int := h.1 a
def hL (h : Hp) (a : Int) : Int := h.2.1 a
def hF (h : Hp) (a : Int) (k : Nat) : Int := h.2.2.1 a k
def hA (h : Hp) (a j : Int) : Int := h.2.2.2.1 a j
def hN (h : Hp) : Int := h.2.2.2.2.1
def hS (h : Hp) : Int := h.2.2.2.2.2
def setF (h : Hp) (a : Int) (k : Nat) (v : Int) : Hp := (h.1, h.2.1, fun b j => if b = a ∧ j = k then v else h.2.2.1 b j, h.2.2.2)
def setA (h : Hp) (a i v : Int) : Hp := (h.1, h.2.1, h.2.2.1, fun b j => if b = a ∧ j = i then v else h.2.2.2.1 b j, h.2.2.2.2)
/-- a whole array's contents -/
def putA (h : Hp) (a : Int) (f : Int → Int) : Hp := (h.1, h.2.1, h.2.2.1, fun b => if b = a then f else h.2.2.2.1 b, h.2.2.2.2)
def alloc (h : Hp) (t len n : Int) : Hp := (fun b => if b = hN h then t else hT h b, fun b => if b = hN h then len else hL h b, fun b k => if b = hN h then 0 else hF h b k, fun b j => if b = hN h then 0 else hA h b j, hN h + 1, hS h + n)
theorem hp_setF (h : Hp) (a : Int) (k : Nat) (v : Int) : hT (setF h a k v) = hT h ∧ hL (setF h a k v) = hL h ∧ hA (setF h a k v) = hA h ∧ hN (setF h a k v) = hN h ∧ hS (setF h a k v) = hS h ∧ ∀ b j, hF (setF h a k v) b j = if b = a ∧ j = k then v else hF h b j := ⟨rfl, rfl, rfl, rfl, rfl, fun _ _ => rfl⟩
theorem hp_setA (h : Hp) (a i v : Int) : hT (setA h a i v) = hT h ∧ hL (setA h a i v) = hL h ∧ hF (setA h a i v) = hF h ∧ hN (setA h a i v) = hN h ∧ hS (setA h a i v) = hS h ∧ ∀ b j, hA (setA h a i v) b j = if b = a ∧ j = i then v else hA h b j := ⟨rfl, rfl, rfl, rfl, rfl, fun _ _ => rfl⟩
theorem hp_putA (h : Hp) (a : Int) (f : Int → Int) : hT (putA h a f) = hT h ∧ hL (putA h a f) = hL h ∧ hF (putA h a f) = hF h ∧ hN (putA h a f) = hN h ∧ hS (putA h a f) = hS h ∧ ∀ b, hA (putA h a f) b = if b = a then f else hA h b := ⟨rfl, rfl, rfl, rfl, rfl, fun _ => rfl⟩
theorem hp_alloc (h : Hp) (t len n : Int) : (∀ b, hT (alloc h t len n) b = if b = hN h then t else hT h b) ∧ (∀ b, hL (alloc h t len n) b = if b = hN h then len else hL h b) ∧ (∀ b k, hF (alloc h t len n) b k = if b = hN h then 0 else hF h b k) ∧ (∀ b j, hA (alloc h t len n) b j = if b = hN h then 0 else hA h b j) ∧ hN (alloc h t len n) = hN h + 1 ∧ hS (alloc h t len n) = hS h + n := ⟨fun _ => rfl, fun _ => rfl, fun _ _ => rfl, fun _ _ => rfl, rfl, rfl⟩
/-- final references: a class's tag, the field -/
def finF (t : Int) (k : Nat) : Bool := xFin.contains (t, k)
/-- what holds of a later heap -/
def Ext (h h' : Hp) : Prop := hN h ≤ hN h' ∧ hS h ≤ hS h' ∧ (∀ a, hT h a ≠ 0 → hT h' a = hT h a ∧ hL h' a = hL h a) ∧ (∀ a k, hT h a ≠ 0 → finF (hT h a) k = true → hF h a k ≠ 0 → hF h' a k = hF h a k) ∧ ∀ k, hF h' 0 k = hF h 0 k
theorem Ext.rf (h : Hp) : Ext h h := ⟨Int.le_refl _, Int.le_refl _, fun _ _ => ⟨rfl, rfl⟩, fun _ _ _ _ _ => rfl, fun _ => rfl⟩
theorem Ext.tr {h1 h2 h3 : Hp} (a : Ext h1 h2) (b : Ext h2 h3) : Ext h1 h3 := by
  obtain ⟨a1, a2, a3, a4, a5⟩ := a
  obtain ⟨b1, b2, b3, b4, b5⟩ := b
  refine ⟨Int.le_trans a1 b1, Int.le_trans a2 b2, fun x hx => ?_, fun x k hx hf hz => ?_, fun k => (b5 k).trans (a5 k)⟩
  · have e := a3 x hx
    have hx2 : hT h2 x ≠ 0 := by rw [e.1]; exact hx
    exact ⟨(b3 x hx2).1.trans e.1, (b3 x hx2).2.trans e.2⟩
  · have e := a3 x hx
    have hx2 : hT h2 x ≠ 0 := by rw [e.1]; exact hx
    have e4 := a4 x k hx hf hz
    rw [← e4]
    exact b4 x k hx2 (by rw [e.1]; exact hf) (by rw [e4]; exact hz)
/-- used addresses lie below the next one; the heap's own well-formedness as far as the plain side uses it -/
def WFa (h : Hp) : Prop := hT h 0 = 0 ∧ ∀ a, hT h a ≠ 0 → 1 ≤ a ∧ a < hN h
theorem Ext.setF {h : Hp} {a : Int} {k : Nat} {v : Int} (h0 : a ≠ 0) (hf : finF (hT h a) k = false ∨ hF h a k = 0) : Ext h (setF h a k v) := by
  refine ⟨Int.le_refl _, Int.le_refl _, fun _ _ => ⟨rfl, rfl⟩, fun x j hx hfx hz => ?_, fun j => ?_⟩
  · show (if x = a ∧ j = k then v else hF h x j) = hF h x j
    by_cases e : x = a ∧ j = k
    · obtain ⟨rfl, rfl⟩ := e
      rcases hf with q | q
      · rw [q] at hfx; cases hfx
      · exact absurd q hz
    · rw [if_neg e]
  · show (if (0 : Int) = a ∧ j = k then v else hF h 0 j) = hF h 0 j
    rw [if_neg (fun e => h0 e.1.symm)]
theorem Ext.setA {h : Hp} {a i v : Int} : Ext h (setA h a i v) := ⟨Int.le_refl _, Int.le_refl _, fun _ _ => ⟨rfl, rfl⟩, fun _ _ _ _ _ => rfl, fun _ => rfl⟩
theorem Ext.putA {h : Hp} {a : Int} {f : Int → Int} : Ext h (putA h a f) := ⟨Int.le_refl _, Int.le_refl _, fun _ _ => ⟨rfl, rfl⟩, fun _ _ _ _ _ => rfl, fun _ => rfl⟩
theorem Ext.alloc {h : Hp} {t len n : Int} (hw : WFa h) (hn : 1 ≤ hN h) (h0 : 0 ≤ n) : Ext h (alloc h t len n) := by
  have hne : ∀ x, hT h x ≠ 0 → x ≠ hN h := fun x hx e => by have := (hw.2 x hx).2; omega
  refine ⟨by show hN h ≤ hN h + 1; omega, by show hS h ≤ hS h + n; omega, fun x hx => ?_, fun x k hx _ _ => ?_, fun k => ?_⟩
  · exact ⟨if_neg (hne x hx), if_neg (hne x hx)⟩
  · exact if_neg (hne x hx)
  · exact if_neg (by omega)
theorem Ext.tag {h h' : Hp} {a t : Int} (E : Ext h h') (ht : hT h a = t) (h0 : t ≠ 0) : hT h' a = t := ((E.2.2.1 a (by rw [ht]; exact h0)).1).trans ht
theorem Ext.len {h h' : Hp} {a n : Int} (E : Ext h h') (h0 : hT h a ≠ 0) (hn : hL h a = n) : hL h' a = n := ((E.2.2.1 a h0).2).trans hn
theorem Ext.fin {h h' : Hp} {a v : Int} {k : Nat} (E : Ext h h') (h0 : hT h a ≠ 0) (hf : finF (hT h a) k = true) (hv : hF h a k = v) (hz : v ≠ 0) : hF h' a k = v := (E.2.2.2.1 a k h0 hf (by rw [hv]; exact hz)).trans hv
theorem Ext.con {h h' : Hp} (E : Ext h h') (k : Nat) : hF h' 0 k = hF h 0 k := E.2.2.2.2 k
/-- room for one more object or array of n slots -/
def capOK (h : Hp) (n : Int) : Prop := hN h < hF h 0 0 + 1 + 1200128 ∧ hS h + n ≤ 5501098
