/-! LAYER 2: an object and the arrays behind it as one block of values -/
def upN (F : Nat → Int) (k : Nat) (v : Int) : Nat → Int := fun j => if j = k then v else F j
def upI (f : Int → Int) (i v : Int) : Int → Int := fun j => if j = i then v else f j
def upR (A : Int → Int → Int) (k : Int) (f : Int → Int) : Int → Int → Int := fun j => if j = k then f else A j
def blk (h : Hp) (b n : Int) (F : Nat → Int) (A : Int → Int → Int) : Hp := (h.1, h.2.1, fun a k => if a = b then F k else h.2.2.1 a k, fun a j => if b < a ∧ a ≤ b + n then A (a - b) j else h.2.2.2.1 a j, h.2.2.2.2)
section BLK
variable {h : Hp} {b n : Int} {F : Nat → Int} {A : Int → Int → Int}
theorem blk_T : hT (blk h b n F A) = hT h := rfl
theorem blk_L : hL (blk h b n F A) = hL h := rfl
theorem blk_N : hN (blk h b n F A) = hN h := rfl
theorem blk_S : hS (blk h b n F A) = hS h := rfl
theorem blk_F (k : Nat) : hF (blk h b n F A) b k = F k := if_pos rfl
theorem blk_Fo {a : Int} (ha : a ≠ b) (k : Nat) : hF (blk h b n F A) a k = hF h a k := if_neg ha
theorem blk_A {k : Int} (h1 : 1 ≤ k) (h2 : k ≤ n) (j : Int) : hA (blk h b n F A) (b + k) j = A k j := by
  show (if b < b + k ∧ b + k ≤ b + n then A (b + k - b) j else _) = _
  rw [if_pos (by omega), show b + k - b = k by omega]
theorem blk_Ao {a : Int} (ha : a ≤ b ∨ b + n < a) (j : Int) : hA (blk h b n F A) a j = hA h a j := if_neg (by omega)
theorem blk_setF (k : Nat) (v : Int) : setF (blk h b n F A) b k v = blk h b n (upN F k v) A := by
  unfold setF blk upN
  simp only [Prod.mk.injEq, true_and, and_true]
  funext a j
  by_cases e : a = b
  · by_cases q : j = k <;> simp [e, q]
  · simp [e]
theorem blk_putA {k : Int} (h1 : 1 ≤ k) (h2 : k ≤ n) (f : Int → Int) : putA (blk h b n F A) (b + k) f = blk h b n F (upR A k f) := by
  unfold putA blk upR
  simp only [Prod.mk.injEq, true_and, and_true]
  funext a
  by_cases e : a = b + k
  · subst e
    simp only [if_true]
    funext j
    rw [if_pos (by omega), if_pos (by omega)]
  · rw [if_neg e]
    funext j
    by_cases q : b < a ∧ a ≤ b + n
    · rw [if_pos q, if_pos q, if_neg (by omega)]
    · rw [if_neg q, if_neg q]
theorem setA_put (h : Hp) (a i v : Int) : setA h a i v = putA h a (upI (hA h a) i v) := by
  unfold setA putA upI hA
  simp only [Prod.mk.injEq, true_and, and_true]
  funext c j
  by_cases e : c = a
  · subst e; by_cases q : j = i <;> simp [q]
  · simp [e]
theorem blk_setA {k : Int} (h1 : 1 ≤ k) (h2 : k ≤ n) (i v : Int) : setA (blk h b n F A) (b + k) i v = blk h b n F (upR A k (upI (A k) i v)) := by
  rw [setA_put, show hA (blk h b n F A) (b + k) = A k from funext (blk_A h1 h2), blk_putA h1 h2]
theorem blk_self : h = blk h b n (fun k => hF h b k) (fun k => hA h (b + k)) := by
  obtain ⟨h1, h2, h3, h4, h5, h6⟩ := h
  unfold blk hF hA
  simp only [Prod.mk.injEq, true_and, and_true]
  refine ⟨?_, ?_⟩
  · funext a k
    by_cases e : a = b
    · subst e; simp
    · simp [e]
  · funext a j
    by_cases q : b < a ∧ a ≤ b + n
    · rw [if_pos q, show b + (a - b) = a by omega]
    · rw [if_neg q]
end BLK
theorem upN_s (F : Nat → Int) (k : Nat) (v : Int) (j : Nat) : upN F k v j = if j = k then v else F j := rfl
theorem upI_s (f : Int → Int) (i v j : Int) : upI f i v j = if j = i then v else f j := rfl
theorem upR_s (A : Int → Int → Int) (k : Int) (f : Int → Int) (j : Int) : upR A k f j = if j = k then f else A j := rfl
theorem upR_up (A : Int → Int → Int) (k : Int) (f g : Int → Int) : upR (upR A k f) k g = upR A k g := by
  funext j; unfold upR; by_cases e : j = k <;> simp [e]
theorem upN_up (F : Nat → Int) (k : Nat) (v w : Int) : upN (upN F k v) k w = upN F k w := by
  funext j; unfold upN; by_cases e : j = k <;> simp [e]
theorem i32_i {x : Int} (h1 : -2147483648 ≤ x) (h2 : x ≤ 2147483647) : i32 x := ⟨h1, h2⟩
theorem tw_1 {h : Hp} {b : Int} {F : Nat → Int} {A : Int → Int → Int} (j : Int) : hA (blk h b 15 F A) (b + 1) j = A 1 j := blk_A (by decide) (by decide) j
theorem tw_2 {h : Hp} {b : Int} {F : Nat → Int} {A : Int → Int → Int} (j : Int) : hA (blk h b 15 F A) (b + 2) j = A 2 j := blk_A (by decide) (by decide) j
theorem tw_3 {h : Hp} {b : Int} {F : Nat → Int} {A : Int → Int → Int} (j : Int) : hA (blk h b 15 F A) (b + 3) j = A 3 j := blk_A (by decide) (by decide) j
theorem tw_4 {h : Hp} {b : Int} {F : Nat → Int} {A : Int → Int → Int} (j : Int) : hA (blk h b 15 F A) (b + 4) j = A 4 j := blk_A (by decide) (by decide) j
theorem tw_5 {h : Hp} {b : Int} {F : Nat → Int} {A : Int → Int → Int} (j : Int) : hA (blk h b 15 F A) (b + 5) j = A 5 j := blk_A (by decide) (by decide) j
theorem tw_6 {h : Hp} {b : Int} {F : Nat → Int} {A : Int → Int → Int} (j : Int) : hA (blk h b 15 F A) (b + 6) j = A 6 j := blk_A (by decide) (by decide) j
theorem tw_7 {h : Hp} {b : Int} {F : Nat → Int} {A : Int → Int → Int} (j : Int) : hA (blk h b 15 F A) (b + 7) j = A 7 j := blk_A (by decide) (by decide) j
theorem tw_8 {h : Hp} {b : Int} {F : Nat → Int} {A : Int → Int → Int} (j : Int) : hA (blk h b 15 F A) (b + 8) j = A 8 j := blk_A (by decide) (by decide) j
theorem tw_9 {h : Hp} {b : Int} {F : Nat → Int} {A : Int → Int → Int} (j : Int) : hA (blk h b 15 F A) (b + 9) j = A 9 j := blk_A (by decide) (by decide) j
theorem tw_10 {h : Hp} {b : Int} {F : Nat → Int} {A : Int → Int → Int} (j : Int) : hA (blk h b 15 F A) (b + 10) j = A 10 j := blk_A (by decide) (by decide) j
theorem tw_11 {h : Hp} {b : Int} {F : Nat → Int} {A : Int → Int → Int} (j : Int) : hA (blk h b 15 F A) (b + 11) j = A 11 j := blk_A (by decide) (by decide) j
theorem tw_12 {h : Hp} {b : Int} {F : Nat → Int} {A : Int → Int → Int} (j : Int) : hA (blk h b 15 F A) (b + 12) j = A 12 j := blk_A (by decide) (by decide) j
theorem tw_13 {h : Hp} {b : Int} {F : Nat → Int} {A : Int → Int → Int} (j : Int) : hA (blk h b 15 F A) (b + 13) j = A 13 j := blk_A (by decide) (by decide) j
theorem tw_14 {h : Hp} {b : Int} {F : Nat → Int} {A : Int → Int → Int} (j : Int) : hA (blk h b 15 F A) (b + 14) j = A 14 j := blk_A (by decide) (by decide) j
theorem tw_15 {h : Hp} {b : Int} {F : Nat → Int} {A : Int → Int → Int} (j : Int) : hA (blk h b 15 F A) (b + 15) j = A 15 j := blk_A (by decide) (by decide) j
theorem ba_1 {h : Hp} {b : Int} {F : Nat → Int} {A : Int → Int → Int} (j : Int) : hA (blk h b 21 F A) (b + 1) j = A 1 j := blk_A (by decide) (by decide) j
theorem ba_2 {h : Hp} {b : Int} {F : Nat → Int} {A : Int → Int → Int} (j : Int) : hA (blk h b 21 F A) (b + 2) j = A 2 j := blk_A (by decide) (by decide) j
theorem ba_3 {h : Hp} {b : Int} {F : Nat → Int} {A : Int → Int → Int} (j : Int) : hA (blk h b 21 F A) (b + 3) j = A 3 j := blk_A (by decide) (by decide) j
theorem ba_4 {h : Hp} {b : Int} {F : Nat → Int} {A : Int → Int → Int} (j : Int) : hA (blk h b 21 F A) (b + 4) j = A 4 j := blk_A (by decide) (by decide) j
theorem ba_5 {h : Hp} {b : Int} {F : Nat → Int} {A : Int → Int → Int} (j : Int) : hA (blk h b 21 F A) (b + 5) j = A 5 j := blk_A (by decide) (by decide) j
theorem ba_6 {h : Hp} {b : Int} {F : Nat → Int} {A : Int → Int → Int} (j : Int) : hA (blk h b 21 F A) (b + 6) j = A 6 j := blk_A (by decide) (by decide) j
theorem ba_7 {h : Hp} {b : Int} {F : Nat → Int} {A : Int → Int → Int} (j : Int) : hA (blk h b 21 F A) (b + 7) j = A 7 j := blk_A (by decide) (by decide) j
theorem ba_8 {h : Hp} {b : Int} {F : Nat → Int} {A : Int → Int → Int} (j : Int) : hA (blk h b 21 F A) (b + 8) j = A 8 j := blk_A (by decide) (by decide) j
theorem ba_9 {h : Hp} {b : Int} {F : Nat → Int} {A : Int → Int → Int} (j : Int) : hA (blk h b 21 F A) (b + 9) j = A 9 j := blk_A (by decide) (by decide) j
theorem ba_10 {h : Hp} {b : Int} {F : Nat → Int} {A : Int → Int → Int} (j : Int) : hA (blk h b 21 F A) (b + 10) j = A 10 j := blk_A (by decide) (by decide) j
theorem ba_11 {h : Hp} {b : Int} {F : Nat → Int} {A : Int → Int → Int} (j : Int) : hA (blk h b 21 F A) (b + 11) j = A 11 j := blk_A (by decide) (by decide) j
theorem ba_12 {h : Hp} {b : Int} {F : Nat → Int} {A : Int → Int → Int} (j : Int) : hA (blk h b 21 F A) (b + 12) j = A 12 j := blk_A (by decide) (by decide) j
theorem ba_13 {h : Hp} {b : Int} {F : Nat → Int} {A : Int → Int → Int} (j : Int) : hA (blk h b 21 F A) (b + 13) j = A 13 j := blk_A (by decide) (by decide) j
theorem ba_14 {h : Hp} {b : Int} {F : Nat → Int} {A : Int → Int → Int} (j : Int) : hA (blk h b 21 F A) (b + 14) j = A 14 j := blk_A (by decide) (by decide) j
theorem ba_15 {h : Hp} {b : Int} {F : Nat → Int} {A : Int → Int → Int} (j : Int) : hA (blk h b 21 F A) (b + 15) j = A 15 j := blk_A (by decide) (by decide) j
theorem ba_16 {h : Hp} {b : Int} {F : Nat → Int} {A : Int → Int → Int} (j : Int) : hA (blk h b 21 F A) (b + 16) j = A 16 j := blk_A (by decide) (by decide) j
theorem ba_17 {h : Hp} {b : Int} {F : Nat → Int} {A : Int → Int → Int} (j : Int) : hA (blk h b 21 F A) (b + 17) j = A 17 j := blk_A (by decide) (by decide) j
theorem ba_18 {h : Hp} {b : Int} {F : Nat → Int} {A : Int → Int → Int} (j : Int) : hA (blk h b 21 F A) (b + 18) j = A 18 j := blk_A (by decide) (by decide) j
theorem ba_19 {h : Hp} {b : Int} {F : Nat → Int} {A : Int → Int → Int} (j : Int) : hA (blk h b 21 F A) (b + 19) j = A 19 j := blk_A (by decide) (by decide) j
theorem ba_20 {h : Hp} {b : Int} {F : Nat → Int} {A : Int → Int → Int} (j : Int) : hA (blk h b 21 F A) (b + 20) j = A 20 j := blk_A (by decide) (by decide) j
theorem ba_21 {h : Hp} {b : Int} {F : Nat → Int} {A : Int → Int → Int} (j : Int) : hA (blk h b 21 F A) (b + 21) j = A 21 j := blk_A (by decide) (by decide) j
theorem tws_1 {h : Hp} {b : Int} {F : Nat → Int} {A : Int → Int → Int} (i v : Int) : setA (blk h b 15 F A) (b + 1) i v = blk h b 15 F (upR A 1 (upI (A 1) i v)) := blk_setA (by decide) (by decide) i v
theorem tws_2 {h : Hp} {b : Int} {F : Nat → Int} {A : Int → Int → Int} (i v : Int) : setA (blk h b 15 F A) (b + 2) i v = blk h b 15 F (upR A 2 (upI (A 2) i v)) := blk_setA (by decide) (by decide) i v
theorem tws_3 {h : Hp} {b : Int} {F : Nat → Int} {A : Int → Int → Int} (i v : Int) : setA (blk h b 15 F A) (b + 3) i v = blk h b 15 F (upR A 3 (upI (A 3) i v)) := blk_setA (by decide) (by decide) i v
theorem tws_4 {h : Hp} {b : Int} {F : Nat → Int} {A : Int → Int → Int} (i v : Int) : setA (blk h b 15 F A) (b + 4) i v = blk h b 15 F (upR A 4 (upI (A 4) i v)) := blk_setA (by decide) (by decide) i v
theorem tws_5 {h : Hp} {b : Int} {F : Nat → Int} {A : Int → Int → Int} (i v : Int) : setA (blk h b 15 F A) (b + 5) i v = blk h b 15 F (upR A 5 (upI (A 5) i v)) := blk_setA (by decide) (by decide) i v
theorem tws_6 {h : Hp} {b : Int} {F : Nat → Int} {A : Int → Int → Int} (i v : Int) : setA (blk h b 15 F A) (b + 6) i v = blk h b 15 F (upR A 6 (upI (A 6) i v)) := blk_setA (by decide) (by decide) i v
theorem tws_7 {h : Hp} {b : Int} {F : Nat → Int} {A : Int → Int → Int} (i v : Int) : setA (blk h b 15 F A) (b + 7) i v = blk h b 15 F (upR A 7 (upI (A 7) i v)) := blk_setA (by decide) (by decide) i v
theorem tws_8 {h : Hp} {b : Int} {F : Nat → Int} {A : Int → Int → Int} (i v : Int) : setA (blk h b 15 F A) (b + 8) i v = blk h b 15 F (upR A 8 (upI (A 8) i v)) := blk_setA (by decide) (by decide) i v
theorem tws_9 {h : Hp} {b : Int} {F : Nat → Int} {A : Int → Int → Int} (i v : Int) : setA (blk h b 15 F A) (b + 9) i v = blk h b 15 F (upR A 9 (upI (A 9) i v)) := blk_setA (by decide) (by decide) i v
theorem tws_10 {h : Hp} {b : Int} {F : Nat → Int} {A : Int → Int → Int} (i v : Int) : setA (blk h b 15 F A) (b + 10) i v = blk h b 15 F (upR A 10 (upI (A 10) i v)) := blk_setA (by decide) (by decide) i v
theorem tws_11 {h : Hp} {b : Int} {F : Nat → Int} {A : Int → Int → Int} (i v : Int) : setA (blk h b 15 F A) (b + 11) i v = blk h b 15 F (upR A 11 (upI (A 11) i v)) := blk_setA (by decide) (by decide) i v
theorem tws_12 {h : Hp} {b : Int} {F : Nat → Int} {A : Int → Int → Int} (i v : Int) : setA (blk h b 15 F A) (b + 12) i v = blk h b 15 F (upR A 12 (upI (A 12) i v)) := blk_setA (by decide) (by decide) i v
theorem tws_13 {h : Hp} {b : Int} {F : Nat → Int} {A : Int → Int → Int} (i v : Int) : setA (blk h b 15 F A) (b + 13) i v = blk h b 15 F (upR A 13 (upI (A 13) i v)) := blk_setA (by decide) (by decide) i v
theorem tws_14 {h : Hp} {b : Int} {F : Nat → Int} {A : Int → Int → Int} (i v : Int) : setA (blk h b 15 F A) (b + 14) i v = blk h b 15 F (upR A 14 (upI (A 14) i v)) := blk_setA (by decide) (by decide) i v
theorem tws_15 {h : Hp} {b : Int} {F : Nat → Int} {A : Int → Int → Int} (i v : Int) : setA (blk h b 15 F A) (b + 15) i v = blk h b 15 F (upR A 15 (upI (A 15) i v)) := blk_setA (by decide) (by decide) i v
theorem bas_1 {h : Hp} {b : Int} {F : Nat → Int} {A : Int → Int → Int} (i v : Int) : setA (blk h b 21 F A) (b + 1) i v = blk h b 21 F (upR A 1 (upI (A 1) i v)) := blk_setA (by decide) (by decide) i v
theorem bas_2 {h : Hp} {b : Int} {F : Nat → Int} {A : Int → Int → Int} (i v : Int) : setA (blk h b 21 F A) (b + 2) i v = blk h b 21 F (upR A 2 (upI (A 2) i v)) := blk_setA (by decide) (by decide) i v
theorem bas_3 {h : Hp} {b : Int} {F : Nat → Int} {A : Int → Int → Int} (i v : Int) : setA (blk h b 21 F A) (b + 3) i v = blk h b 21 F (upR A 3 (upI (A 3) i v)) := blk_setA (by decide) (by decide) i v
theorem bas_4 {h : Hp} {b : Int} {F : Nat → Int} {A : Int → Int → Int} (i v : Int) : setA (blk h b 21 F A) (b + 4) i v = blk h b 21 F (upR A 4 (upI (A 4) i v)) := blk_setA (by decide) (by decide) i v
theorem bas_5 {h : Hp} {b : Int} {F : Nat → Int} {A : Int → Int → Int} (i v : Int) : setA (blk h b 21 F A) (b + 5) i v = blk h b 21 F (upR A 5 (upI (A 5) i v)) := blk_setA (by decide) (by decide) i v
theorem bas_6 {h : Hp} {b : Int} {F : Nat → Int} {A : Int → Int → Int} (i v : Int) : setA (blk h b 21 F A) (b + 6) i v = blk h b 21 F (upR A 6 (upI (A 6) i v)) := blk_setA (by decide) (by decide) i v
theorem bas_7 {h : Hp} {b : Int} {F : Nat → Int} {A : Int → Int → Int} (i v : Int) : setA (blk h b 21 F A) (b + 7) i v = blk h b 21 F (upR A 7 (upI (A 7) i v)) := blk_setA (by decide) (by decide) i v
theorem bas_8 {h : Hp} {b : Int} {F : Nat → Int} {A : Int → Int → Int} (i v : Int) : setA (blk h b 21 F A) (b + 8) i v = blk h b 21 F (upR A 8 (upI (A 8) i v)) := blk_setA (by decide) (by decide) i v
theorem bas_9 {h : Hp} {b : Int} {F : Nat → Int} {A : Int → Int → Int} (i v : Int) : setA (blk h b 21 F A) (b + 9) i v = blk h b 21 F (upR A 9 (upI (A 9) i v)) := blk_setA (by decide) (by decide) i v
theorem bas_10 {h : Hp} {b : Int} {F : Nat → Int} {A : Int → Int → Int} (i v : Int) : setA (blk h b 21 F A) (b + 10) i v = blk h b 21 F (upR A 10 (upI (A 10) i v)) := blk_setA (by decide) (by decide) i v
theorem bas_11 {h : Hp} {b : Int} {F : Nat → Int} {A : Int → Int → Int} (i v : Int) : setA (blk h b 21 F A) (b + 11) i v = blk h b 21 F (upR A 11 (upI (A 11) i v)) := blk_setA (by decide) (by decide) i v
theorem bas_12 {h : Hp} {b : Int} {F : Nat → Int} {A : Int → Int → Int} (i v : Int) : setA (blk h b 21 F A) (b + 12) i v = blk h b 21 F (upR A 12 (upI (A 12) i v)) := blk_setA (by decide) (by decide) i v
theorem bas_13 {h : Hp} {b : Int} {F : Nat → Int} {A : Int → Int → Int} (i v : Int) : setA (blk h b 21 F A) (b + 13) i v = blk h b 21 F (upR A 13 (upI (A 13) i v)) := blk_setA (by decide) (by decide) i v
theorem bas_14 {h : Hp} {b : Int} {F : Nat → Int} {A : Int → Int → Int} (i v : Int) : setA (blk h b 21 F A) (b + 14) i v = blk h b 21 F (upR A 14 (upI (A 14) i v)) := blk_setA (by decide) (by decide) i v
theorem bas_15 {h : Hp} {b : Int} {F : Nat → Int} {A : Int → Int → Int} (i v : Int) : setA (blk h b 21 F A) (b + 15) i v = blk h b 21 F (upR A 15 (upI (A 15) i v)) := blk_setA (by decide) (by decide) i v
theorem bas_16 {h : Hp} {b : Int} {F : Nat → Int} {A : Int → Int → Int} (i v : Int) : setA (blk h b 21 F A) (b + 16) i v = blk h b 21 F (upR A 16 (upI (A 16) i v)) := blk_setA (by decide) (by decide) i v
theorem bas_17 {h : Hp} {b : Int} {F : Nat → Int} {A : Int → Int → Int} (i v : Int) : setA (blk h b 21 F A) (b + 17) i v = blk h b 21 F (upR A 17 (upI (A 17) i v)) := blk_setA (by decide) (by decide) i v
theorem bas_18 {h : Hp} {b : Int} {F : Nat → Int} {A : Int → Int → Int} (i v : Int) : setA (blk h b 21 F A) (b + 18) i v = blk h b 21 F (upR A 18 (upI (A 18) i v)) := blk_setA (by decide) (by decide) i v
theorem bas_19 {h : Hp} {b : Int} {F : Nat → Int} {A : Int → Int → Int} (i v : Int) : setA (blk h b 21 F A) (b + 19) i v = blk h b 21 F (upR A 19 (upI (A 19) i v)) := blk_setA (by decide) (by decide) i v
theorem bas_20 {h : Hp} {b : Int} {F : Nat → Int} {A : Int → Int → Int} (i v : Int) : setA (blk h b 21 F A) (b + 20) i v = blk h b 21 F (upR A 20 (upI (A 20) i v)) := blk_setA (by decide) (by decide) i v
theorem bas_21 {h : Hp} {b : Int} {F : Nat → Int} {A : Int → Int → Int} (i v : Int) : setA (blk h b 21 F A) (b + 21) i v = blk h b 21 F (upR A 21 (upI (A 21) i v)) := blk_setA (by decide) (by decide) i v
