/-! LAYER 2: a component's bar against a row: what it reads -/
def BE (h : Hp) (b o hb : Int) (r c q : Int → Int) (cm : Nat) : Prop := (HouseOK r) ∧ (HouseAt h o r hb) ∧ (hb ≤ b) ∧ (∀ (F : Nat → Int) (A : Int → Int → Int), (∀ k : Nat, 2 ≤ k → k ≤ 22 → F k = b + ((k : Int) - 1)) → Lay_X21 (blk h b 21 F A) b) ∧ (CrewOK c) ∧ (PplOK q) ∧ (∀ p : Int, 0 ≤ p → p < r 5 → q (7 * p + 2) = r (41 + (7 * p + 2)) ∧ q (7 * p + 4) = r (41 + (7 * p + 4))) ∧ (cm ≤ 4)
theorem BE.ho {h : Hp} {b o hb : Int} {r c q : Int → Int} {cm : Nat} (H : BE h b o hb r c q cm) : HouseOK r := H.1
theorem BE.hs {h : Hp} {b o hb : Int} {r c q : Int → Int} {cm : Nat} (H : BE h b o hb r c q cm) : HouseAt h o r hb := H.2.1
theorem BE.lo {h : Hp} {b o hb : Int} {r c q : Int → Int} {cm : Nat} (H : BE h b o hb r c q cm) : hb ≤ b := H.2.2.1
theorem BE.lay {h : Hp} {b o hb : Int} {r c q : Int → Int} {cm : Nat} (H : BE h b o hb r c q cm) : ∀ (F : Nat → Int) (A : Int → Int → Int), (∀ k : Nat, 2 ≤ k → k ≤ 22 → F k = b + ((k : Int) - 1)) → Lay_X21 (blk h b 21 F A) b := H.2.2.2.1
theorem BE.cr {h : Hp} {b o hb : Int} {r c q : Int → Int} {cm : Nat} (H : BE h b o hb r c q cm) : CrewOK c := H.2.2.2.2.1
theorem BE.pe {h : Hp} {b o hb : Int} {r c q : Int → Int} {cm : Nat} (H : BE h b o hb r c q cm) : PplOK q := H.2.2.2.2.2.1
theorem BE.qr {h : Hp} {b o hb : Int} {r c q : Int → Int} {cm : Nat} (H : BE h b o hb r c q cm) : ∀ p : Int, 0 ≤ p → p < r 5 → q (7 * p + 2) = r (41 + (7 * p + 2)) ∧ q (7 * p + 4) = r (41 + (7 * p + 4)) := H.2.2.2.2.2.2.1
theorem BE.cm4 {h : Hp} {b o hb : Int} {r c q : Int → Int} {cm : Nat} (H : BE h b o hb r c q cm) : cm ≤ 4 := H.2.2.2.2.2.2.2
def BR (h : Hp) (b o : Int) (r c q row : Int → Int) (cm : Nat) (F : Nat → Int) (A : Int → Int → Int) : Prop := (∀ k : Nat, 2 ≤ k → k ≤ 22 → F k = b + ((k : Int) - 1)) ∧ (F 0 = o) ∧ (F 1 = r 5) ∧ (F 23 = cm) ∧ (F 24 = row 0) ∧ (F 25 = row 1) ∧ (∀ p : Int, 0 ≤ p → p < r 5 → A 1 p = row (12 + 8 * p + 0)) ∧ (∀ p : Int, 0 ≤ p → p < r 5 → A 2 p = row (12 + 8 * p + 1)) ∧ (∀ p : Int, 0 ≤ p → p < r 5 → A 3 p = row (12 + 8 * p + 2)) ∧ (∀ p : Int, 0 ≤ p → p < r 5 → A 4 p = row (12 + 8 * p + 3)) ∧ (∀ p : Int, 0 ≤ p → p < r 5 → A 5 p = (if q (7 * p + 6) = 0 then -2 else q (7 * p + 6) - 1)) ∧ (∀ p : Int, 0 ≤ p → p < r 5 → A 6 p = row (12 + 8 * p + 4)) ∧ (∀ p : Int, 0 ≤ p → p < r 5 → A 7 p = row (12 + 8 * p + 6)) ∧ (∀ p : Int, 0 ≤ p → p < r 5 → A 8 p = row (12 + 8 * p + 5)) ∧ (∀ p : Int, 0 ≤ p → p < r 5 → 2 ≤ row (12 + 8 * p + 0) → row (12 + 8 * p + 0) ≤ 4 → A 9 p = (if row (12 + 8 * p + 0) = 2 then row (12 + 8 * p + 4) else row (12 + 8 * p + 7)) - q (7 * p + 2)) ∧ (∀ p : Int, 0 ≤ p → p < r 5 → A 10 p = pasF q row p) ∧ (∀ p : Int, 0 ≤ p → p < r 5 → A 11 p = pusF q row (r 5).toNat p) ∧ (∀ k : Int, 0 ≤ k → k < 10 → A 12 k = row (2 + k)) ∧ (∀ p : Int, 0 ≤ p → p < r 5 → A 13 p = (if q (7 * p + 0) = 3 then 1 else 0)) ∧ (∀ s : Int, 0 ≤ s → s < cm → hT h (A 14 s) = rtag (c (6 * s + 0))) ∧ (∀ s : Int, 0 ≤ s → s < cm → A 15 s = row (92 + 4 * s)) ∧ (∀ s : Int, 0 ≤ s → s < cm → A 16 s = c (6 * s + 2)) ∧ (∀ s : Int, 0 ≤ s → s < cm → A 17 s = c (6 * s + 3)) ∧ (∀ s : Int, 0 ≤ s → s < cm → A 18 s = c (6 * s + 4)) ∧ (∀ s : Int, 0 ≤ s → s < cm → A 19 s = c (6 * s + 5)) ∧ (∀ s k : Int, 0 ≤ s → s < cm → 0 ≤ k → k < 2 → A 20 (2 * s + k) = row (92 + 4 * s + (1 + k))) ∧ (∀ s : Int, 0 ≤ s → s < cm → A 21 s = row (92 + 4 * s + 3) - 1) ∧ (∀ i : Int, 0 ≤ i → i < 10 → A 13 i = 0 ∨ A 13 i = 1) ∧ (∀ i : Int, 0 ≤ i → i < 4 → A 14 i = 0 ∨ (27 ≤ hT h (A 14 i) ∧ hT h (A 14 i) ≤ 31))
theorem BR.lay {h : Hp} {b o : Int} {r c q row : Int → Int} {cm : Nat} {F : Nat → Int} {A : Int → Int → Int} (H : BR h b o r c q row cm F A) : ∀ k : Nat, 2 ≤ k → k ≤ 22 → F k = b + ((k : Int) - 1) := H.1
theorem BR.house {h : Hp} {b o : Int} {r c q row : Int → Int} {cm : Nat} {F : Nat → Int} {A : Int → Int → Int} (H : BR h b o r c q row cm F A) : F 0 = o := H.2.1
theorem BR.pn {h : Hp} {b o : Int} {r c q row : Int → Int} {cm : Nat} {F : Nat → Int} {A : Int → Int → Int} (H : BR h b o r c q row cm F A) : F 1 = r 5 := H.2.2.1
theorem BR.sn {h : Hp} {b o : Int} {r c q row : Int → Int} {cm : Nat} {F : Nat → Int} {A : Int → Int → Int} (H : BR h b o r c q row cm F A) : F 23 = cm := H.2.2.2.1
theorem BR.now {h : Hp} {b o : Int} {r c q row : Int → Int} {cm : Nat} {F : Nat → Int} {A : Int → Int → Int} (H : BR h b o r c q row cm F A) : F 24 = row 0 := H.2.2.2.2.1
theorem BR.many {h : Hp} {b o : Int} {r c q row : Int → Int} {cm : Nat} {F : Nat → Int} {A : Int → Int → Int} (H : BR h b o r c q row cm F A) : F 25 = row 1 := H.2.2.2.2.2.1
theorem BR.does {h : Hp} {b o : Int} {r c q row : Int → Int} {cm : Nat} {F : Nat → Int} {A : Int → Int → Int} (H : BR h b o r c q row cm F A) : ∀ p : Int, 0 ≤ p → p < r 5 → A 1 p = row (12 + 8 * p + 0) := H.2.2.2.2.2.2.1
theorem BR.place {h : Hp} {b o : Int} {r c q row : Int → Int} {cm : Nat} {F : Nat → Int} {A : Int → Int → Int} (H : BR h b o r c q row cm F A) : ∀ p : Int, 0 ≤ p → p < r 5 → A 2 p = row (12 + 8 * p + 1) := H.2.2.2.2.2.2.2.1
theorem BR.look {h : Hp} {b o : Int} {r c q row : Int → Int} {cm : Nat} {F : Nat → Int} {A : Int → Int → Int} (H : BR h b o r c q row cm F A) : ∀ p : Int, 0 ≤ p → p < r 5 → A 3 p = row (12 + 8 * p + 2) := H.2.2.2.2.2.2.2.2.1
theorem BR.says {h : Hp} {b o : Int} {r c q row : Int → Int} {cm : Nat} {F : Nat → Int} {A : Int → Int → Int} (H : BR h b o r c q row cm F A) : ∀ p : Int, 0 ≤ p → p < r 5 → A 4 p = row (12 + 8 * p + 3) := H.2.2.2.2.2.2.2.2.2.1
theorem BR.shelf {h : Hp} {b o : Int} {r c q row : Int → Int} {cm : Nat} {F : Nat → Int} {A : Int → Int → Int} (H : BR h b o r c q row cm F A) : ∀ p : Int, 0 ≤ p → p < r 5 → A 5 p = (if q (7 * p + 6) = 0 then -2 else q (7 * p + 6) - 1) := H.2.2.2.2.2.2.2.2.2.2.1
theorem BR.begun {h : Hp} {b o : Int} {r c q row : Int → Int} {cm : Nat} {F : Nat → Int} {A : Int → Int → Int} (H : BR h b o r c q row cm F A) : ∀ p : Int, 0 ≤ p → p < r 5 → A 6 p = row (12 + 8 * p + 4) := H.2.2.2.2.2.2.2.2.2.2.2.1
theorem BR.whom {h : Hp} {b o : Int} {r c q row : Int → Int} {cm : Nat} {F : Nat → Int} {A : Int → Int → Int} (H : BR h b o r c q row cm F A) : ∀ p : Int, 0 ≤ p → p < r 5 → A 7 p = row (12 + 8 * p + 6) := H.2.2.2.2.2.2.2.2.2.2.2.2.1
theorem BR.had {h : Hp} {b o : Int} {r c q row : Int → Int} {cm : Nat} {F : Nat → Int} {A : Int → Int → Int} (H : BR h b o r c q row cm F A) : ∀ p : Int, 0 ≤ p → p < r 5 → A 8 p = row (12 + 8 * p + 5) := H.2.2.2.2.2.2.2.2.2.2.2.2.2.1
theorem BR.wait {h : Hp} {b o : Int} {r c q row : Int → Int} {cm : Nat} {F : Nat → Int} {A : Int → Int → Int} (H : BR h b o r c q row cm F A) : ∀ p : Int, 0 ≤ p → p < r 5 → 2 ≤ row (12 + 8 * p + 0) → row (12 + 8 * p + 0) ≤ 4 → A 9 p = (if row (12 + 8 * p + 0) = 2 then row (12 + 8 * p + 4) else row (12 + 8 * p + 7)) - q (7 * p + 2) := H.2.2.2.2.2.2.2.2.2.2.2.2.2.2.1
theorem BR.pass {h : Hp} {b o : Int} {r c q row : Int → Int} {cm : Nat} {F : Nat → Int} {A : Int → Int → Int} (H : BR h b o r c q row cm F A) : ∀ p : Int, 0 ≤ p → p < r 5 → A 10 p = pasF q row p := H.2.2.2.2.2.2.2.2.2.2.2.2.2.2.2.1
theorem BR.push {h : Hp} {b o : Int} {r c q row : Int → Int} {cm : Nat} {F : Nat → Int} {A : Int → Int → Int} (H : BR h b o r c q row cm F A) : ∀ p : Int, 0 ≤ p → p < r 5 → A 11 p = pusF q row (r 5).toNat p := H.2.2.2.2.2.2.2.2.2.2.2.2.2.2.2.2.1
theorem BR.served {h : Hp} {b o : Int} {r c q row : Int → Int} {cm : Nat} {F : Nat → Int} {A : Int → Int → Int} (H : BR h b o r c q row cm F A) : ∀ k : Int, 0 ≤ k → k < 10 → A 12 k = row (2 + k) := H.2.2.2.2.2.2.2.2.2.2.2.2.2.2.2.2.2.1
theorem BR.reg {h : Hp} {b o : Int} {r c q row : Int → Int} {cm : Nat} {F : Nat → Int} {A : Int → Int → Int} (H : BR h b o r c q row cm F A) : ∀ p : Int, 0 ≤ p → p < r 5 → A 13 p = (if q (7 * p + 0) = 3 then 1 else 0) := H.2.2.2.2.2.2.2.2.2.2.2.2.2.2.2.2.2.2.1
theorem BR.rule {h : Hp} {b o : Int} {r c q row : Int → Int} {cm : Nat} {F : Nat → Int} {A : Int → Int → Int} (H : BR h b o r c q row cm F A) : ∀ s : Int, 0 ≤ s → s < cm → hT h (A 14 s) = rtag (c (6 * s + 0)) := H.2.2.2.2.2.2.2.2.2.2.2.2.2.2.2.2.2.2.2.1
theorem BR.stands {h : Hp} {b o : Int} {r c q row : Int → Int} {cm : Nat} {F : Nat → Int} {A : Int → Int → Int} (H : BR h b o r c q row cm F A) : ∀ s : Int, 0 ≤ s → s < cm → A 15 s = row (92 + 4 * s) := H.2.2.2.2.2.2.2.2.2.2.2.2.2.2.2.2.2.2.2.2.1
theorem BR.frm {h : Hp} {b o : Int} {r c q row : Int → Int} {cm : Nat} {F : Nat → Int} {A : Int → Int → Int} (H : BR h b o r c q row cm F A) : ∀ s : Int, 0 ≤ s → s < cm → A 16 s = c (6 * s + 2) := H.2.2.2.2.2.2.2.2.2.2.2.2.2.2.2.2.2.2.2.2.2.1
theorem BR.til {h : Hp} {b o : Int} {r c q row : Int → Int} {cm : Nat} {F : Nat → Int} {A : Int → Int → Int} (H : BR h b o r c q row cm F A) : ∀ s : Int, 0 ≤ s → s < cm → A 17 s = c (6 * s + 3) := H.2.2.2.2.2.2.2.2.2.2.2.2.2.2.2.2.2.2.2.2.2.2.1
theorem BR.step {h : Hp} {b o : Int} {r c q row : Int → Int} {cm : Nat} {F : Nat → Int} {A : Int → Int → Int} (H : BR h b o r c q row cm F A) : ∀ s : Int, 0 ≤ s → s < cm → A 18 s = c (6 * s + 4) := H.2.2.2.2.2.2.2.2.2.2.2.2.2.2.2.2.2.2.2.2.2.2.2.1
theorem BR.hands {h : Hp} {b o : Int} {r c q row : Int → Int} {cm : Nat} {F : Nat → Int} {A : Int → Int → Int} (H : BR h b o r c q row cm F A) : ∀ s : Int, 0 ≤ s → s < cm → A 19 s = c (6 * s + 5) := H.2.2.2.2.2.2.2.2.2.2.2.2.2.2.2.2.2.2.2.2.2.2.2.2.1
theorem BR.busy {h : Hp} {b o : Int} {r c q row : Int → Int} {cm : Nat} {F : Nat → Int} {A : Int → Int → Int} (H : BR h b o r c q row cm F A) : ∀ s k : Int, 0 ≤ s → s < cm → 0 ≤ k → k < 2 → A 20 (2 * s + k) = row (92 + 4 * s + (1 + k)) := H.2.2.2.2.2.2.2.2.2.2.2.2.2.2.2.2.2.2.2.2.2.2.2.2.2.1
theorem BR.last {h : Hp} {b o : Int} {r c q row : Int → Int} {cm : Nat} {F : Nat → Int} {A : Int → Int → Int} (H : BR h b o r c q row cm F A) : ∀ s : Int, 0 ≤ s → s < cm → A 21 s = row (92 + 4 * s + 3) - 1 := H.2.2.2.2.2.2.2.2.2.2.2.2.2.2.2.2.2.2.2.2.2.2.2.2.2.2.1
theorem BR.rg {h : Hp} {b o : Int} {r c q row : Int → Int} {cm : Nat} {F : Nat → Int} {A : Int → Int → Int} (H : BR h b o r c q row cm F A) : ∀ i : Int, 0 ≤ i → i < 10 → A 13 i = 0 ∨ A 13 i = 1 := H.2.2.2.2.2.2.2.2.2.2.2.2.2.2.2.2.2.2.2.2.2.2.2.2.2.2.2.1
theorem BR.rl {h : Hp} {b o : Int} {r c q row : Int → Int} {cm : Nat} {F : Nat → Int} {A : Int → Int → Int} (H : BR h b o r c q row cm F A) : ∀ i : Int, 0 ≤ i → i < 4 → A 14 i = 0 ∨ (27 ≤ hT h (A 14 i) ∧ hT h (A 14 i) ≤ 31) := H.2.2.2.2.2.2.2.2.2.2.2.2.2.2.2.2.2.2.2.2.2.2.2.2.2.2.2.2
def turC (c q row : Int → Int) (s p : Int) : Int :=
  if c (6 * s + 0) = 0 then (if row (12 + 8 * p + 1) < row (92 + 4 * s) then 20 + row (12 + 8 * p + 1) else row (12 + 8 * p + 1) - row (92 + 4 * s))
  else if c (6 * s + 0) = 1 then 2 * (if 0 ≤ row (12 + 8 * p + 1) - row (92 + 4 * s) then row (12 + 8 * p + 1) - row (92 + 4 * s) else 0 - (row (12 + 8 * p + 1) - row (92 + 4 * s))) + (if row (92 + 4 * s) < row (12 + 8 * p + 1) then 1 else 0)
  else if c (6 * s + 0) = 2 then 99 - row (12 + 8 * p + 2)
  else if c (6 * s + 0) = 3 then row (12 + 8 * p + 3)
  else if q (7 * p + 0) = 3 then 0 else 1
theorem turC_cmp {c q row : Int → Int} {s p x : Int} (h1 : 0 ≤ row (12 + 8 * p + 1) ∧ row (12 + 8 * p + 1) ≤ 19) (h2 : 0 ≤ row (12 + 8 * x + 1) ∧ row (12 + 8 * x + 1) ≤ 19) (h3 : 0 ≤ row (92 + 4 * s) ∧ row (92 + 4 * s) ≤ 19) :
    (turC c q row s p < turC c q row s x ↔ turnF c q row s p < turnF c q row s x) ∧ (turC c q row s p = turC c q row s x ↔ turnF c q row s p = turnF c q row s x) := by
  unfold turC turnF far
  by_cases k0 : c (6 * s + 0) = 0
  · simp only [if_pos k0]
    by_cases a1 : row (12 + 8 * p + 1) < row (92 + 4 * s)
    · by_cases a2 : row (12 + 8 * x + 1) < row (92 + 4 * s)
      · rw [if_pos a1, if_pos a2, if_pos a1, if_pos a2]; omega
      · rw [if_pos a1, if_neg a2, if_pos a1, if_neg a2]; omega
    · by_cases a2 : row (12 + 8 * x + 1) < row (92 + 4 * s)
      · rw [if_neg a1, if_pos a2, if_neg a1, if_pos a2]; omega
      · rw [if_neg a1, if_neg a2, if_neg a1, if_neg a2]; omega
  · simp only [if_neg k0]
    by_cases k1 : c (6 * s + 0) = 1
    · simp only [if_pos k1]
      have g : ∀ u v : Int, 2 * (if 0 ≤ u - v then u - v else 0 - (u - v)) + (if v < u then 1 else 0) = 2 * (if u < v then v - u else u - v) + (if v < u then 1 else 0) := by
        intro u v
        by_cases z : u < v
        · rw [if_neg (by omega), if_pos z]; omega
        · rw [if_pos (by omega), if_neg z]
      rw [g, g]
      exact ⟨Iff.rfl, Iff.rfl⟩
    · simp only [if_neg k1]
      by_cases k2 : c (6 * s + 0) = 2
      · simp only [if_pos k2]; omega
      · simp only [if_neg k2, and_self]
theorem c_in {x a b : Int} {Q : Int → Hp → Prop} {H : Hp} (hq : Q (if a ≤ x ∧ x ≤ b then 1 else 0) H) : g_X1_in x a b Q H := by
  unfold g_X1_in g_X1_in_b14 g_X1_in_b15
  refine ⟨fun c => ⟨Or.inl rfl, ?_⟩, fun c => ⟨fun c2 => ⟨Or.inl rfl, ?_⟩, fun c2 => ⟨Or.inr rfl, ?_⟩⟩⟩
  · rw [if_neg (by omega)] at hq; exact hq
  · rw [if_neg (by omega)] at hq; exact hq
  · rw [if_pos (by omega)] at hq; exact hq
theorem c_holds {x k : Int} {Q : Int → Hp → Prop} {H : Hp} (hq : Q (if bAnd (bShr x k) 1 = 1 then 1 else 0) H) : g_X1_holds x k Q H := by
  unfold g_X1_holds g_X1_holds_b14
  refine ⟨fun c => ⟨Or.inl rfl, ?_⟩, fun c => ⟨Or.inr rfl, ?_⟩⟩
  · rw [if_neg c] at hq; exact hq
  · rw [if_pos c] at hq; exact hq
section B
variable {h : Hp} {b o hb : Int} {r c q row : Int → Int} {cm : Nat} {F : Nat → Int} {A : Int → Int → Int} {Q : Int → Hp → Prop} {Qv : Hp → Prop} {B : Int}
theorem BE.hou (E : BE h b o hb r c q cm) : HouseAt (blk h b 21 F A) o r hb := E.hs.lo (Lo.blk E.lo)
theorem c_far (E : BE h b o hb r c q cm) (V : BR h b o r c q row cm F A) (R : RowOK B row) (hB : B ≤ 100000) {s p : Int} (hs : 0 ≤ s ∧ s < cm) (hp : 0 ≤ p ∧ p < r 5) {K : Int → Hp → Prop} (hK : K (turC c q row s p) (blk h b 21 F A)) :
    (hT (blk h b 21 F A) (hA (blk h b 21 F A) (b + 14) s) = 27 ∨ hT (blk h b 21 F A) (hA (blk h b 21 F A) (b + 14) s) = 28 ∨ hT (blk h b 21 F A) (hA (blk h b 21 F A) (b + 14) s) = 29 ∨ hT (blk h b 21 F A) (hA (blk h b 21 F A) (b + 14) s) = 30 ∨ hT (blk h b 21 F A) (hA (blk h b 21 F A) (b + 14) s) = 31) ∧
    (hT (blk h b 21 F A) (hA (blk h b 21 F A) (b + 14) s) = 27 → g_X12_far (hA (blk h b 21 F A) (b + 14) s) b s p K (blk h b 21 F A)) ∧
    (hT (blk h b 21 F A) (hA (blk h b 21 F A) (b + 14) s) = 28 → g_X13_far (hA (blk h b 21 F A) (b + 14) s) b s p K (blk h b 21 F A)) ∧
    (hT (blk h b 21 F A) (hA (blk h b 21 F A) (b + 14) s) = 29 → g_X14_far (hA (blk h b 21 F A) (b + 14) s) b s p K (blk h b 21 F A)) ∧
    (hT (blk h b 21 F A) (hA (blk h b 21 F A) (b + 14) s) = 30 → g_X15_far (hA (blk h b 21 F A) (b + 14) s) b s p K (blk h b 21 F A)) ∧
    (hT (blk h b 21 F A) (hA (blk h b 21 F A) (b + 14) s) = 31 → g_X16_far (hA (blk h b 21 F A) (b + 14) s) b s p K (blk h b 21 F A)) := by
  have L := E.lay F A V.lay
  have hn := E.ho.pm
  have h4 := E.cm4
  have et : hT (blk h b 21 F A) (hA (blk h b 21 F A) (b + 14) s) = rtag (c (6 * s + 0)) := by
    rw [ba_14]; exact V.rule s hs.1 hs.2
  have kb := E.cr.rule s hs.1 (by omega)
  have p1 := R.place p hp.1 (by omega)
  have s1 := R.stands s hs.1 (by omega)
  have e1 := V.place p hp.1 hp.2
  have e2 := V.look p hp.1 hp.2
  have e3 := V.says p hp.1 hp.2
  have e4 := V.reg p hp.1 hp.2
  have e5 := V.stands s hs.1 hs.2
  have c2 := R.cells (12 + 8 * p + 2)
  rw [et]
  unfold turC at hK
  have k5 : c (6 * s + 0) = 0 ∨ c (6 * s + 0) = 1 ∨ c (6 * s + 0) = 2 ∨ c (6 * s + 0) = 3 ∨ c (6 * s + 0) = 4 := by omega
  rcases k5 with k | k | k | k | k
  · rw [k, show rtag 0 = 28 from rfl]
    rw [if_pos k] at hK
    refine ⟨by omega, fun z => absurd z (by omega), fun _ => ?_, fun z => absurd z (by omega), fun z => absurd z (by omega), fun z => absurd z (by omega)⟩
    unfold g_X13_far g_X13_far_b40
    simp only [ba_2, ba_15]
    rw [e1, e5]
    refine ⟨L, (by first | omega | (unfold i32; omega)), (by first | omega | (unfold i32; omega)), fun z => ⟨(by first | omega | (unfold i32; omega)), (by first | omega | (unfold i32; omega)), ?_⟩, fun z => ⟨(by first | omega | (unfold i32; omega)), (by first | omega | (unfold i32; omega)), (by first | omega | (unfold i32; omega)), ?_⟩⟩
    · rw [if_pos z] at hK; exact hK
    · rw [if_neg (by omega)] at hK; exact hK
  · rw [k, show rtag 1 = 27 from rfl]
    rw [if_neg (by omega), if_pos k] at hK
    refine ⟨by omega, fun _ => ?_, fun z => absurd z (by omega), fun z => absurd z (by omega), fun z => absurd z (by omega), fun z => absurd z (by omega)⟩
    have ab : 0 ≤ (if 0 ≤ row (12 + 8 * p + 1) - row (92 + 4 * s) then row (12 + 8 * p + 1) - row (92 + 4 * s) else 0 - (row (12 + 8 * p + 1) - row (92 + 4 * s))) ∧ (if 0 ≤ row (12 + 8 * p + 1) - row (92 + 4 * s) then row (12 + 8 * p + 1) - row (92 + 4 * s) else 0 - (row (12 + 8 * p + 1) - row (92 + 4 * s))) ≤ 19 := by
      split <;> omega
    unfold g_X12_far g_X12_far_b38
    simp only [ba_2, ba_15]
    rw [e1, e5]
    refine ⟨L, (by first | omega | (unfold i32; omega)), (by first | omega | (unfold i32; omega)), (by first | omega | (unfold i32; omega)), (by first | omega | (unfold i32; omega)), ?_, (by first | omega | (unfold i32; omega)), (by first | omega | (unfold i32; omega)), fun z => ⟨?_, ?_⟩, fun z => ⟨?_, ?_⟩⟩
    · unfold i32; omega
    · unfold i32; omega
    · rw [if_neg (show ¬ row (92 + 4 * s) < row (12 + 8 * p + 1) by omega)] at hK; exact hK
    · unfold i32; omega
    · rw [if_pos z] at hK; exact hK
  · rw [k, show rtag 2 = 29 from rfl]
    rw [if_neg (by omega), if_neg (by omega), if_pos k] at hK
    refine ⟨by omega, fun z => absurd z (by omega), fun z => absurd z (by omega), fun _ => ?_, fun z => absurd z (by omega), fun z => absurd z (by omega)⟩
    unfold g_X14_far
    simp only [ba_3]
    rw [e2]
    exact ⟨L, (by first | omega | (unfold i32; omega)), (by first | omega | (unfold i32; omega)), hK⟩
  · rw [k, show rtag 3 = 30 from rfl]
    rw [if_neg (by omega), if_neg (by omega), if_neg (by omega), if_pos k] at hK
    refine ⟨by omega, fun z => absurd z (by omega), fun z => absurd z (by omega), fun z => absurd z (by omega), fun _ => ?_, fun z => absurd z (by omega)⟩
    unfold g_X15_far
    simp only [ba_4]
    rw [e3]
    exact ⟨L, (by first | omega | (unfold i32; omega)), hK⟩
  · rw [k, show rtag 4 = 31 from rfl]
    rw [if_neg (by omega), if_neg (by omega), if_neg (by omega), if_neg (by omega)] at hK
    refine ⟨by omega, fun z => absurd z (by omega), fun z => absurd z (by omega), fun z => absurd z (by omega), fun z => absurd z (by omega), fun _ => ?_⟩
    unfold g_X16_far g_X16_far_b14
    simp only [ba_13]
    rw [e4]
    refine ⟨L, (by first | omega | (unfold i32; omega)), fun z => ?_, fun z => ?_⟩
    · rw [if_neg (zero_of z)] at hK; exact hK
    · rw [if_pos (one_of z)] at hK; exact hK
theorem c_isSooner (E : BE h b o hb r c q cm) (V : BR h b o r c q row cm F A) (R : RowOK B row) (hB : B ≤ 100000) {s p x : Int} (hs : 0 ≤ s ∧ s < cm) (hp : 0 ≤ p ∧ p < r 5) (hx : 0 ≤ x ∧ x < r 5)
    (hq : Q (if turC c q row s p < turC c q row s x ∨ (turC c q row s p = turC c q row s x ∧ ahd r p x) then 1 else 0) (blk h b 21 F A)) : g_X21_isSooner b s p x Q (blk h b 21 F A) := by
  have h4 := E.cm4
  have Hh := E.hou (F := F) (A := A)
  unfold g_X21_isSooner g_X21_isSooner_b54 g_X21_isSooner_b58 g_X21_isSooner_b59
  refine ⟨(by first | omega | (unfold i32; omega)), ?_⟩
  rintro K9 rfl
  refine c_far E V R hB hs hp (fun _ => ⟨(by first | omega | (unfold i32; omega)), ?_⟩)
  rintro K23 rfl
  refine c_far E V R hB hs hx (fun _ => ⟨fun c1 => ⟨Or.inr rfl, ?_⟩, fun c1 => ⟨fun c2 => ⟨Or.inl rfl, ?_⟩, fun c2 => ?_⟩⟩)
  · rw [if_pos (Or.inl c1)] at hq; exact hq
  · rw [if_neg (by omega)] at hq; exact hq
  · rw [blk_F, V.house]
    refine ⟨Hh.lay, hs_isAhead Hh hp hx (fun _ => ⟨fun c3 => ⟨Or.inl rfl, ?_⟩, fun c3 => ⟨Or.inr rfl, ?_⟩⟩)⟩
    · rw [if_neg (fun z => z.elim (fun w => by omega) (fun w => zero_of c3 w.2))] at hq; exact hq
    · rw [if_pos (Or.inr ⟨c2, one_of c3⟩)] at hq; exact hq
theorem c_next (E : BE h b o hb r c q cm) (V : BR h b o r c q row cm F A) (R : RowOK B row) (hB : B ≤ 100000) {s : Int} (hs : 0 ≤ s ∧ s < cm) (hq : Q (nxN c q row s (r 5).toNat) (blk h b 21 F A)) : g_X21_next b s Q (blk h b 21 F A) := by
  have h4 := E.cm4
  have hn := E.ho.pm
  unfold g_X21_next
  refine Lp2_for (r 5).toNat 0 (nxN c q row s) (fun _ => blk h b 21 F A) (fun K j hj hK => ?_) (fun K => ?_)
  · have hp : 0 ≤ (j : Int) ∧ (j : Int) < r 5 := ⟨by omega, by omega⟩
    have bb := nxN_b c q row s j
    rw [Int.zero_add]
    unfold g_X21_next_L5 g_X21_next_b48 g_X21_next_b50 g_X21_isOnStretch
    simp only [blk_F, ba_1, ba_2, ba_16, ba_17]
    rw [V.pn, V.does j hp.1 hp.2, V.place j hp.1 hp.2, V.frm s hs.1 hs.2, V.til s hs.1 hs.2]
    have no : ¬ nxT c q row s (nxN c q row s j) j → (i32 ((j : Int) + 1)) ∧ (∀ y : Int, y = (j : Int) + 1 → (K (nxN c q row s j) y (blk h b 21 F A))) := fun z => ⟨(by first | omega | (unfold i32; omega)), fun y e => hK _ _ _ (by rw [show nxN c q row s (j + 1) = nxN c q row s j from if_neg z]) (by omega) rfl⟩
    have yes : nxT c q row s (nxN c q row s j) j → (i32 ((j : Int) + 1)) ∧ (∀ y : Int, y = (j : Int) + 1 → (K (j : Int) y (blk h b 21 F A))) := fun z => ⟨(by first | omega | (unfold i32; omega)), fun y e => hK _ _ _ (by rw [show nxN c q row s (j + 1) = (j : Int) from if_pos z]) (by omega) rfl⟩
    refine ⟨fun c1 => absurd c1 (by omega), fun _ => ⟨(by first | omega | (unfold i32; omega)), fun c1 => no (fun z => c1 z.1), fun c1 => ⟨(by first | omega | (unfold i32; omega)), (by first | omega | (unfold i32; omega)), (by first | omega | (unfold i32; omega)), c_in (fun _ => ⟨by split <;> omega, fun _ => ⟨fun c2 => no (fun z => zero_of c2 ⟨z.2.1, z.2.2.1⟩), fun c2 => ?_⟩⟩)⟩⟩⟩
    have c2 := one_of c2
    refine ⟨fun c3 => yes ⟨c1, c2.1, c2.2, Or.inl c3⟩, fun c3 => ?_⟩
    have hx : 0 ≤ nxN c q row s j ∧ nxN c q row s j < r 5 ∧ nxN c q row s j < j := by omega
    have cmp := turC_cmp (c := c) (q := q) (row := row) (s := s) (p := j) (x := nxN c q row s j) (R.place j hp.1 (by omega)) (R.place _ hx.1 (by omega)) (R.stands s hs.1 (by omega))
    have q1 := (E.qr j hp.1 hp.2).1
    have q2 := (E.qr _ hx.1 hx.2.1).1
    refine c_isSooner E V R hB hs hp ⟨hx.1, hx.2.1⟩ (fun _ => ⟨fun c5 => no ?_, fun c5 => yes ⟨c1, c2.1, c2.2, Or.inr ?_⟩⟩)
    · have c5 := zero_of c5
      rintro ⟨-, -, -, z | z | z⟩
      · exact c3 z
      · exact c5 (Or.inl (cmp.1.mpr z))
      · exact c5 (Or.inr ⟨cmp.2.mpr z.1, Or.inl (by omega)⟩)
    · rcases one_of c5 with z | ⟨z, w⟩
      · exact Or.inl (cmp.1.mp z)
      · exact Or.inr ⟨cmp.2.mp z, by omega⟩
  · unfold g_X21_next_L5 g_X21_next_b56
    simp only [blk_F]
    rw [V.pn]
    exact ⟨fun _ => hq, fun c => absurd c (by omega)⟩
theorem c_time (E : BE h b o hb r c q cm) {s p : Int} (e0 : F 0 = o) (e21 : A 21 s = row (92 + 4 * s + 3) - 1) (hs : 0 ≤ s ∧ s < cm) (hp : 0 ≤ p ∧ p < r 5) (hl : 0 ≤ row (92 + 4 * s + 3) ∧ row (92 + 4 * s + 3) ≤ r 5) (hq : Q (tbF r (row (92 + 4 * s + 3) - 1) p) (blk h b 21 F A)) : g_X21_time b s p Q (blk h b 21 F A) := by
  have h4 := E.cm4
  have Hh := E.hou (F := F) (A := A)
  unfold g_X21_time
  simp only [blk_F, ba_21]
  rw [e0, e21]
  exact ⟨(by first | omega | (unfold i32; omega)), Hh.lay, hs_time E.ho Hh hp ⟨by omega, by omega⟩ (fun _ => hq)⟩
theorem c_freeHand (E : BE h b o hb r c q cm) (V : BR h b o r c q row cm F A) {s : Int} (hs : 0 ≤ s ∧ s < cm) (hq : Q (if fhN row (row 0) s (c (6 * s + 5)).toNat = 0 then -1 else 2 * s + (fhN row (row 0) s (c (6 * s + 5)).toNat - 1)) (blk h b 21 F A)) : g_X21_freeHand b s Q (blk h b 21 F A) := by
  have h4 := E.cm4
  have hh := E.cr.hands s hs.1 (by omega)
  unfold g_X21_freeHand
  generalize hH : (c (6 * s + 5)).toNat = H at hq
  refine Lp1_ind (k := H) (fun m i h' => ∃ j : Nat, j ≤ H ∧ m = H - j ∧ i = j ∧ h' = blk h b 21 F A ∧ fhN row (row 0) s j = 0) ?_ ⟨0, by omega, by omega, rfl, rfl, rfl⟩
  rintro m i h' ⟨j, hj, rfl, rfl, rfl, hf⟩ K hK
  unfold g_X21_freeHand_L2 g_X21_freeHand_b29 g_X21_freeHand_b41
  simp only [blk_F, ba_19, ba_20]
  rw [V.hands s hs.1 hs.2, V.now]
  refine ⟨(by first | omega | (unfold i32; omega)), fun c1 => ?_, fun c1 => ?_⟩
  · have ej : j = H := by omega
    subst ej
    rw [if_pos hf] at hq; exact hq
  · rw [V.busy s j hs.1 hs.2 (by omega) (by omega)]
    refine ⟨(by first | omega | (unfold i32; omega)), (by first | omega | (unfold i32; omega)), (by first | omega | (unfold i32; omega)), fun c2 => ⟨(by first | omega | (unfold i32; omega)), fun y ey => hK (H - (j + 1)) _ _ (by omega) ⟨j + 1, by omega, rfl, by omega, rfl, ?_⟩⟩, fun c2 => ⟨(by first | omega | (unfold i32; omega)), (by first | omega | (unfold i32; omega)), ?_⟩⟩
    · simp only [fhN]
      rw [if_neg (by omega)]; exact hf
    · have ef : ∀ m : Nat, j + 1 ≤ m → fhN row (row 0) s m = 1 + (j : Int) := by
        intro m hm
        induction m with
        | zero => omega
        | succ m ih =>
          by_cases e : m = j
          · subst e
            simp only [fhN]
            rw [if_pos ⟨hf, c2⟩]
          · have := ih (by omega)
            simp only [fhN]
            rw [if_neg (by omega), this]
      have := ef H (by omega)
      rw [if_neg (by omega), show 2 * s + (fhN row (row 0) s H - 1) = 2 * s + j by omega] at hq
      exact hq
end B
