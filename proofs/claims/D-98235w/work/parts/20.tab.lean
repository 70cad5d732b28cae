/-! written by tools/mkgen.py -/
/-- the layout of NextAtBarModel -/
def Lay_X4 (h : Hp) (a : Int) : Prop := 1 ≤ a ∧ hT h a = 10 ∧ (hF h a 1 = a + 1 ∧ hT h (a + 1) = 1 ∧ hL h (a + 1) = 1000) ∧ (hF h a 12 = a + 2 ∧ hT h (a + 2) = 1 ∧ hL h (a + 2) = 8) ∧ (hF h a 15 = a + 3 ∧ hT h (a + 3) = 1 ∧ hL h (a + 3) = 347) ∧ (hF h a 16 = a + 4 ∧ hT h (a + 4) = 1 ∧ hL h (a + 4) = 347) ∧ (hF h a 17 = a + 5 ∧ hT h (a + 5) = 1 ∧ hL h (a + 5) = 108) ∧ (hF h a 18 = a + 6 ∧ hT h (a + 6) = 1 ∧ hL h (a + 6) = 108) ∧ (hF h a 19 = a + 7 ∧ hT h (a + 7) = 1 ∧ hL h (a + 7) = 1296) ∧ (hF h a 20 = a + 8 ∧ hT h (a + 8) = 1 ∧ hL h (a + 8) = 324) ∧ (hF h a 23 = a + 9 ∧ hT h (a + 9) = 1 ∧ hL h (a + 9) = 24) ∧ (hF h a 24 = a + 10 ∧ hT h (a + 10) = 1 ∧ hL h (a + 10) = 70) ∧ (hF h a 29 = a + 11 ∧ hT h (a + 11) = 1 ∧ hL h (a + 11) = 108) ∧ (hF h a 30 = a + 12 ∧ hT h (a + 12) = 1 ∧ hL h (a + 12) = 10) ∧ (hF h a 31 = a + 13 ∧ hT h (a + 13) = 1 ∧ hL h (a + 13) = 7) ∧ (hF h a 32 = a + 14 ∧ hT h (a + 14) = 1 ∧ hL h (a + 14) = 7) ∧ (hF h a 34 = a + 15 ∧ hT h (a + 15) = 3 ∧ hL h (a + 15) = 100)
theorem Lay_X4.tag {h : Hp} {a : Int} (H : Lay_X4 h a) : hT h a = 10 := H.2.1
theorem Lay_X4_1 {h : Hp} {a : Int} (H : Lay_X4 h a) : hF h a 1 = a + 1 ∧ hT h (a + 1) = 1 ∧ hL h (a + 1) = 1000 := H.2.2.1
theorem Lay_X4_12 {h : Hp} {a : Int} (H : Lay_X4 h a) : hF h a 12 = a + 2 ∧ hT h (a + 2) = 1 ∧ hL h (a + 2) = 8 := H.2.2.2.1
theorem Lay_X4_15 {h : Hp} {a : Int} (H : Lay_X4 h a) : hF h a 15 = a + 3 ∧ hT h (a + 3) = 1 ∧ hL h (a + 3) = 347 := H.2.2.2.2.1
theorem Lay_X4_16 {h : Hp} {a : Int} (H : Lay_X4 h a) : hF h a 16 = a + 4 ∧ hT h (a + 4) = 1 ∧ hL h (a + 4) = 347 := H.2.2.2.2.2.1
theorem Lay_X4_17 {h : Hp} {a : Int} (H : Lay_X4 h a) : hF h a 17 = a + 5 ∧ hT h (a + 5) = 1 ∧ hL h (a + 5) = 108 := H.2.2.2.2.2.2.1
theorem Lay_X4_18 {h : Hp} {a : Int} (H : Lay_X4 h a) : hF h a 18 = a + 6 ∧ hT h (a + 6) = 1 ∧ hL h (a + 6) = 108 := H.2.2.2.2.2.2.2.1
theorem Lay_X4_19 {h : Hp} {a : Int} (H : Lay_X4 h a) : hF h a 19 = a + 7 ∧ hT h (a + 7) = 1 ∧ hL h (a + 7) = 1296 := H.2.2.2.2.2.2.2.2.1
theorem Lay_X4_20 {h : Hp} {a : Int} (H : Lay_X4 h a) : hF h a 20 = a + 8 ∧ hT h (a + 8) = 1 ∧ hL h (a + 8) = 324 := H.2.2.2.2.2.2.2.2.2.1
theorem Lay_X4_23 {h : Hp} {a : Int} (H : Lay_X4 h a) : hF h a 23 = a + 9 ∧ hT h (a + 9) = 1 ∧ hL h (a + 9) = 24 := H.2.2.2.2.2.2.2.2.2.2.1
theorem Lay_X4_24 {h : Hp} {a : Int} (H : Lay_X4 h a) : hF h a 24 = a + 10 ∧ hT h (a + 10) = 1 ∧ hL h (a + 10) = 70 := H.2.2.2.2.2.2.2.2.2.2.2.1
theorem Lay_X4_29 {h : Hp} {a : Int} (H : Lay_X4 h a) : hF h a 29 = a + 11 ∧ hT h (a + 11) = 1 ∧ hL h (a + 11) = 108 := H.2.2.2.2.2.2.2.2.2.2.2.2.1
theorem Lay_X4_30 {h : Hp} {a : Int} (H : Lay_X4 h a) : hF h a 30 = a + 12 ∧ hT h (a + 12) = 1 ∧ hL h (a + 12) = 10 := H.2.2.2.2.2.2.2.2.2.2.2.2.2.1
theorem Lay_X4_31 {h : Hp} {a : Int} (H : Lay_X4 h a) : hF h a 31 = a + 13 ∧ hT h (a + 13) = 1 ∧ hL h (a + 13) = 7 := H.2.2.2.2.2.2.2.2.2.2.2.2.2.2.1
theorem Lay_X4_32 {h : Hp} {a : Int} (H : Lay_X4 h a) : hF h a 32 = a + 14 ∧ hT h (a + 14) = 1 ∧ hL h (a + 14) = 7 := H.2.2.2.2.2.2.2.2.2.2.2.2.2.2.2.1
theorem Lay_X4_34 {h : Hp} {a : Int} (H : Lay_X4 h a) : hF h a 34 = a + 15 ∧ hT h (a + 15) = 3 ∧ hL h (a + 15) = 100 := H.2.2.2.2.2.2.2.2.2.2.2.2.2.2.2.2
theorem Lay_X4.ext {h h2 : Hp} {a : Int} (H : Lay_X4 h a) (E : Ext h h2) : Lay_X4 h2 a := ⟨H.1, E.tag H.2.1 (by decide), ⟨E.fin (by rw [H.2.1]; decide) (by rw [H.2.1]; decide +kernel) (Lay_X4_1 H).1 (by have := H.1; omega), E.tag (Lay_X4_1 H).2.1 (by decide), E.len (by rw [(Lay_X4_1 H).2.1]; decide) (Lay_X4_1 H).2.2⟩, ⟨E.fin (by rw [H.2.1]; decide) (by rw [H.2.1]; decide +kernel) (Lay_X4_12 H).1 (by have := H.1; omega), E.tag (Lay_X4_12 H).2.1 (by decide), E.len (by rw [(Lay_X4_12 H).2.1]; decide) (Lay_X4_12 H).2.2⟩, ⟨E.fin (by rw [H.2.1]; decide) (by rw [H.2.1]; decide +kernel) (Lay_X4_15 H).1 (by have := H.1; omega), E.tag (Lay_X4_15 H).2.1 (by decide), E.len (by rw [(Lay_X4_15 H).2.1]; decide) (Lay_X4_15 H).2.2⟩, ⟨E.fin (by rw [H.2.1]; decide) (by rw [H.2.1]; decide +kernel) (Lay_X4_16 H).1 (by have := H.1; omega), E.tag (Lay_X4_16 H).2.1 (by decide), E.len (by rw [(Lay_X4_16 H).2.1]; decide) (Lay_X4_16 H).2.2⟩, ⟨E.fin (by rw [H.2.1]; decide) (by rw [H.2.1]; decide +kernel) (Lay_X4_17 H).1 (by have := H.1; omega), E.tag (Lay_X4_17 H).2.1 (by decide), E.len (by rw [(Lay_X4_17 H).2.1]; decide) (Lay_X4_17 H).2.2⟩, ⟨E.fin (by rw [H.2.1]; decide) (by rw [H.2.1]; decide +kernel) (Lay_X4_18 H).1 (by have := H.1; omega), E.tag (Lay_X4_18 H).2.1 (by decide), E.len (by rw [(Lay_X4_18 H).2.1]; decide) (Lay_X4_18 H).2.2⟩, ⟨E.fin (by rw [H.2.1]; decide) (by rw [H.2.1]; decide +kernel) (Lay_X4_19 H).1 (by have := H.1; omega), E.tag (Lay_X4_19 H).2.1 (by decide), E.len (by rw [(Lay_X4_19 H).2.1]; decide) (Lay_X4_19 H).2.2⟩, ⟨E.fin (by rw [H.2.1]; decide) (by rw [H.2.1]; decide +kernel) (Lay_X4_20 H).1 (by have := H.1; omega), E.tag (Lay_X4_20 H).2.1 (by decide), E.len (by rw [(Lay_X4_20 H).2.1]; decide) (Lay_X4_20 H).2.2⟩, ⟨E.fin (by rw [H.2.1]; decide) (by rw [H.2.1]; decide +kernel) (Lay_X4_23 H).1 (by have := H.1; omega), E.tag (Lay_X4_23 H).2.1 (by decide), E.len (by rw [(Lay_X4_23 H).2.1]; decide) (Lay_X4_23 H).2.2⟩, ⟨E.fin (by rw [H.2.1]; decide) (by rw [H.2.1]; decide +kernel) (Lay_X4_24 H).1 (by have := H.1; omega), E.tag (Lay_X4_24 H).2.1 (by decide), E.len (by rw [(Lay_X4_24 H).2.1]; decide) (Lay_X4_24 H).2.2⟩, ⟨E.fin (by rw [H.2.1]; decide) (by rw [H.2.1]; decide +kernel) (Lay_X4_29 H).1 (by have := H.1; omega), E.tag (Lay_X4_29 H).2.1 (by decide), E.len (by rw [(Lay_X4_29 H).2.1]; decide) (Lay_X4_29 H).2.2⟩, ⟨E.fin (by rw [H.2.1]; decide) (by rw [H.2.1]; decide +kernel) (Lay_X4_30 H).1 (by have := H.1; omega), E.tag (Lay_X4_30 H).2.1 (by decide), E.len (by rw [(Lay_X4_30 H).2.1]; decide) (Lay_X4_30 H).2.2⟩, ⟨E.fin (by rw [H.2.1]; decide) (by rw [H.2.1]; decide +kernel) (Lay_X4_31 H).1 (by have := H.1; omega), E.tag (Lay_X4_31 H).2.1 (by decide), E.len (by rw [(Lay_X4_31 H).2.1]; decide) (Lay_X4_31 H).2.2⟩, ⟨E.fin (by rw [H.2.1]; decide) (by rw [H.2.1]; decide +kernel) (Lay_X4_32 H).1 (by have := H.1; omega), E.tag (Lay_X4_32 H).2.1 (by decide), E.len (by rw [(Lay_X4_32 H).2.1]; decide) (Lay_X4_32 H).2.2⟩, ⟨E.fin (by rw [H.2.1]; decide) (by rw [H.2.1]; decide +kernel) (Lay_X4_34 H).1 (by have := H.1; omega), E.tag (Lay_X4_34 H).2.1 (by decide), E.len (by rw [(Lay_X4_34 H).2.1]; decide) (Lay_X4_34 H).2.2⟩⟩
/-- the layout of NextAtBar$Bar -/
def Lay_X21 (h : Hp) (a : Int) : Prop := 1 ≤ a ∧ hT h a = 13 ∧ (hF h a 2 = a + 1 ∧ hT h (a + 1) = 1 ∧ hL h (a + 1) = 10) ∧ (hF h a 3 = a + 2 ∧ hT h (a + 2) = 1 ∧ hL h (a + 2) = 10) ∧ (hF h a 4 = a + 3 ∧ hT h (a + 3) = 1 ∧ hL h (a + 3) = 10) ∧ (hF h a 5 = a + 4 ∧ hT h (a + 4) = 1 ∧ hL h (a + 4) = 10) ∧ (hF h a 6 = a + 5 ∧ hT h (a + 5) = 1 ∧ hL h (a + 5) = 10) ∧ (hF h a 7 = a + 6 ∧ hT h (a + 6) = 1 ∧ hL h (a + 6) = 10) ∧ (hF h a 8 = a + 7 ∧ hT h (a + 7) = 1 ∧ hL h (a + 7) = 10) ∧ (hF h a 9 = a + 8 ∧ hT h (a + 8) = 1 ∧ hL h (a + 8) = 10) ∧ (hF h a 10 = a + 9 ∧ hT h (a + 9) = 1 ∧ hL h (a + 9) = 10) ∧ (hF h a 11 = a + 10 ∧ hT h (a + 10) = 1 ∧ hL h (a + 10) = 10) ∧ (hF h a 12 = a + 11 ∧ hT h (a + 11) = 1 ∧ hL h (a + 11) = 10) ∧ (hF h a 13 = a + 12 ∧ hT h (a + 12) = 1 ∧ hL h (a + 12) = 10) ∧ (hF h a 14 = a + 13 ∧ hT h (a + 13) = 3 ∧ hL h (a + 13) = 10) ∧ (hF h a 15 = a + 14 ∧ hT h (a + 14) = 6 ∧ hL h (a + 14) = 4) ∧ (hF h a 16 = a + 15 ∧ hT h (a + 15) = 1 ∧ hL h (a + 15) = 4) ∧ (hF h a 17 = a + 16 ∧ hT h (a + 16) = 1 ∧ hL h (a + 16) = 4) ∧ (hF h a 18 = a + 17 ∧ hT h (a + 17) = 1 ∧ hL h (a + 17) = 4) ∧ (hF h a 19 = a + 18 ∧ hT h (a + 18) = 1 ∧ hL h (a + 18) = 4) ∧ (hF h a 20 = a + 19 ∧ hT h (a + 19) = 1 ∧ hL h (a + 19) = 4) ∧ (hF h a 21 = a + 20 ∧ hT h (a + 20) = 1 ∧ hL h (a + 20) = 8) ∧ (hF h a 22 = a + 21 ∧ hT h (a + 21) = 1 ∧ hL h (a + 21) = 4)
theorem Lay_X21.tag {h : Hp} {a : Int} (H : Lay_X21 h a) : hT h a = 13 := H.2.1
theorem Lay_X21_2 {h : Hp} {a : Int} (H : Lay_X21 h a) : hF h a 2 = a + 1 ∧ hT h (a + 1) = 1 ∧ hL h (a + 1) = 10 := H.2.2.1
theorem Lay_X21_3 {h : Hp} {a : Int} (H : Lay_X21 h a) : hF h a 3 = a + 2 ∧ hT h (a + 2) = 1 ∧ hL h (a + 2) = 10 := H.2.2.2.1
theorem Lay_X21_4 {h : Hp} {a : Int} (H : Lay_X21 h a) : hF h a 4 = a + 3 ∧ hT h (a + 3) = 1 ∧ hL h (a + 3) = 10 := H.2.2.2.2.1
theorem Lay_X21_5 {h : Hp} {a : Int} (H : Lay_X21 h a) : hF h a 5 = a + 4 ∧ hT h (a + 4) = 1 ∧ hL h (a + 4) = 10 := H.2.2.2.2.2.1
theorem Lay_X21_6 {h : Hp} {a : Int} (H : Lay_X21 h a) : hF h a 6 = a + 5 ∧ hT h (a + 5) = 1 ∧ hL h (a + 5) = 10 := H.2.2.2.2.2.2.1
theorem Lay_X21_7 {h : Hp} {a : Int} (H : Lay_X21 h a) : hF h a 7 = a + 6 ∧ hT h (a + 6) = 1 ∧ hL h (a + 6) = 10 := H.2.2.2.2.2.2.2.1
theorem Lay_X21_8 {h : Hp} {a : Int} (H : Lay_X21 h a) : hF h a 8 = a + 7 ∧ hT h (a + 7) = 1 ∧ hL h (a + 7) = 10 := H.2.2.2.2.2.2.2.2.1
theorem Lay_X21_9 {h : Hp} {a : Int} (H : Lay_X21 h a) : hF h a 9 = a + 8 ∧ hT h (a + 8) = 1 ∧ hL h (a + 8) = 10 := H.2.2.2.2.2.2.2.2.2.1
theorem Lay_X21_10 {h : Hp} {a : Int} (H : Lay_X21 h a) : hF h a 10 = a + 9 ∧ hT h (a + 9) = 1 ∧ hL h (a + 9) = 10 := H.2.2.2.2.2.2.2.2.2.2.1
theorem Lay_X21_11 {h : Hp} {a : Int} (H : Lay_X21 h a) : hF h a 11 = a + 10 ∧ hT h (a + 10) = 1 ∧ hL h (a + 10) = 10 := H.2.2.2.2.2.2.2.2.2.2.2.1
theorem Lay_X21_12 {h : Hp} {a : Int} (H : Lay_X21 h a) : hF h a 12 = a + 11 ∧ hT h (a + 11) = 1 ∧ hL h (a + 11) = 10 := H.2.2.2.2.2.2.2.2.2.2.2.2.1
theorem Lay_X21_13 {h : Hp} {a : Int} (H : Lay_X21 h a) : hF h a 13 = a + 12 ∧ hT h (a + 12) = 1 ∧ hL h (a + 12) = 10 := H.2.2.2.2.2.2.2.2.2.2.2.2.2.1
theorem Lay_X21_14 {h : Hp} {a : Int} (H : Lay_X21 h a) : hF h a 14 = a + 13 ∧ hT h (a + 13) = 3 ∧ hL h (a + 13) = 10 := H.2.2.2.2.2.2.2.2.2.2.2.2.2.2.1
theorem Lay_X21_15 {h : Hp} {a : Int} (H : Lay_X21 h a) : hF h a 15 = a + 14 ∧ hT h (a + 14) = 6 ∧ hL h (a + 14) = 4 := H.2.2.2.2.2.2.2.2.2.2.2.2.2.2.2.1
theorem Lay_X21_16 {h : Hp} {a : Int} (H : Lay_X21 h a) : hF h a 16 = a + 15 ∧ hT h (a + 15) = 1 ∧ hL h (a + 15) = 4 := H.2.2.2.2.2.2.2.2.2.2.2.2.2.2.2.2.1
theorem Lay_X21_17 {h : Hp} {a : Int} (H : Lay_X21 h a) : hF h a 17 = a + 16 ∧ hT h (a + 16) = 1 ∧ hL h (a + 16) = 4 := H.2.2.2.2.2.2.2.2.2.2.2.2.2.2.2.2.2.1
theorem Lay_X21_18 {h : Hp} {a : Int} (H : Lay_X21 h a) : hF h a 18 = a + 17 ∧ hT h (a + 17) = 1 ∧ hL h (a + 17) = 4 := H.2.2.2.2.2.2.2.2.2.2.2.2.2.2.2.2.2.2.1
theorem Lay_X21_19 {h : Hp} {a : Int} (H : Lay_X21 h a) : hF h a 19 = a + 18 ∧ hT h (a + 18) = 1 ∧ hL h (a + 18) = 4 := H.2.2.2.2.2.2.2.2.2.2.2.2.2.2.2.2.2.2.2.1
theorem Lay_X21_20 {h : Hp} {a : Int} (H : Lay_X21 h a) : hF h a 20 = a + 19 ∧ hT h (a + 19) = 1 ∧ hL h (a + 19) = 4 := H.2.2.2.2.2.2.2.2.2.2.2.2.2.2.2.2.2.2.2.2.1
theorem Lay_X21_21 {h : Hp} {a : Int} (H : Lay_X21 h a) : hF h a 21 = a + 20 ∧ hT h (a + 20) = 1 ∧ hL h (a + 20) = 8 := H.2.2.2.2.2.2.2.2.2.2.2.2.2.2.2.2.2.2.2.2.2.1
theorem Lay_X21_22 {h : Hp} {a : Int} (H : Lay_X21 h a) : hF h a 22 = a + 21 ∧ hT h (a + 21) = 1 ∧ hL h (a + 21) = 4 := H.2.2.2.2.2.2.2.2.2.2.2.2.2.2.2.2.2.2.2.2.2.2
theorem Lay_X21.ext {h h2 : Hp} {a : Int} (H : Lay_X21 h a) (E : Ext h h2) : Lay_X21 h2 a := ⟨H.1, E.tag H.2.1 (by decide), ⟨E.fin (by rw [H.2.1]; decide) (by rw [H.2.1]; decide +kernel) (Lay_X21_2 H).1 (by have := H.1; omega), E.tag (Lay_X21_2 H).2.1 (by decide), E.len (by rw [(Lay_X21_2 H).2.1]; decide) (Lay_X21_2 H).2.2⟩, ⟨E.fin (by rw [H.2.1]; decide) (by rw [H.2.1]; decide +kernel) (Lay_X21_3 H).1 (by have := H.1; omega), E.tag (Lay_X21_3 H).2.1 (by decide), E.len (by rw [(Lay_X21_3 H).2.1]; decide) (Lay_X21_3 H).2.2⟩, ⟨E.fin (by rw [H.2.1]; decide) (by rw [H.2.1]; decide +kernel) (Lay_X21_4 H).1 (by have := H.1; omega), E.tag (Lay_X21_4 H).2.1 (by decide), E.len (by rw [(Lay_X21_4 H).2.1]; decide) (Lay_X21_4 H).2.2⟩, ⟨E.fin (by rw [H.2.1]; decide) (by rw [H.2.1]; decide +kernel) (Lay_X21_5 H).1 (by have := H.1; omega), E.tag (Lay_X21_5 H).2.1 (by decide), E.len (by rw [(Lay_X21_5 H).2.1]; decide) (Lay_X21_5 H).2.2⟩, ⟨E.fin (by rw [H.2.1]; decide) (by rw [H.2.1]; decide +kernel) (Lay_X21_6 H).1 (by have := H.1; omega), E.tag (Lay_X21_6 H).2.1 (by decide), E.len (by rw [(Lay_X21_6 H).2.1]; decide) (Lay_X21_6 H).2.2⟩, ⟨E.fin (by rw [H.2.1]; decide) (by rw [H.2.1]; decide +kernel) (Lay_X21_7 H).1 (by have := H.1; omega), E.tag (Lay_X21_7 H).2.1 (by decide), E.len (by rw [(Lay_X21_7 H).2.1]; decide) (Lay_X21_7 H).2.2⟩, ⟨E.fin (by rw [H.2.1]; decide) (by rw [H.2.1]; decide +kernel) (Lay_X21_8 H).1 (by have := H.1; omega), E.tag (Lay_X21_8 H).2.1 (by decide), E.len (by rw [(Lay_X21_8 H).2.1]; decide) (Lay_X21_8 H).2.2⟩, ⟨E.fin (by rw [H.2.1]; decide) (by rw [H.2.1]; decide +kernel) (Lay_X21_9 H).1 (by have := H.1; omega), E.tag (Lay_X21_9 H).2.1 (by decide), E.len (by rw [(Lay_X21_9 H).2.1]; decide) (Lay_X21_9 H).2.2⟩, ⟨E.fin (by rw [H.2.1]; decide) (by rw [H.2.1]; decide +kernel) (Lay_X21_10 H).1 (by have := H.1; omega), E.tag (Lay_X21_10 H).2.1 (by decide), E.len (by rw [(Lay_X21_10 H).2.1]; decide) (Lay_X21_10 H).2.2⟩, ⟨E.fin (by rw [H.2.1]; decide) (by rw [H.2.1]; decide +kernel) (Lay_X21_11 H).1 (by have := H.1; omega), E.tag (Lay_X21_11 H).2.1 (by decide), E.len (by rw [(Lay_X21_11 H).2.1]; decide) (Lay_X21_11 H).2.2⟩, ⟨E.fin (by rw [H.2.1]; decide) (by rw [H.2.1]; decide +kernel) (Lay_X21_12 H).1 (by have := H.1; omega), E.tag (Lay_X21_12 H).2.1 (by decide), E.len (by rw [(Lay_X21_12 H).2.1]; decide) (Lay_X21_12 H).2.2⟩, ⟨E.fin (by rw [H.2.1]; decide) (by rw [H.2.1]; decide +kernel) (Lay_X21_13 H).1 (by have := H.1; omega), E.tag (Lay_X21_13 H).2.1 (by decide), E.len (by rw [(Lay_X21_13 H).2.1]; decide) (Lay_X21_13 H).2.2⟩, ⟨E.fin (by rw [H.2.1]; decide) (by rw [H.2.1]; decide +kernel) (Lay_X21_14 H).1 (by have := H.1; omega), E.tag (Lay_X21_14 H).2.1 (by decide), E.len (by rw [(Lay_X21_14 H).2.1]; decide) (Lay_X21_14 H).2.2⟩, ⟨E.fin (by rw [H.2.1]; decide) (by rw [H.2.1]; decide +kernel) (Lay_X21_15 H).1 (by have := H.1; omega), E.tag (Lay_X21_15 H).2.1 (by decide), E.len (by rw [(Lay_X21_15 H).2.1]; decide) (Lay_X21_15 H).2.2⟩, ⟨E.fin (by rw [H.2.1]; decide) (by rw [H.2.1]; decide +kernel) (Lay_X21_16 H).1 (by have := H.1; omega), E.tag (Lay_X21_16 H).2.1 (by decide), E.len (by rw [(Lay_X21_16 H).2.1]; decide) (Lay_X21_16 H).2.2⟩, ⟨E.fin (by rw [H.2.1]; decide) (by rw [H.2.1]; decide +kernel) (Lay_X21_17 H).1 (by have := H.1; omega), E.tag (Lay_X21_17 H).2.1 (by decide), E.len (by rw [(Lay_X21_17 H).2.1]; decide) (Lay_X21_17 H).2.2⟩, ⟨E.fin (by rw [H.2.1]; decide) (by rw [H.2.1]; decide +kernel) (Lay_X21_18 H).1 (by have := H.1; omega), E.tag (Lay_X21_18 H).2.1 (by decide), E.len (by rw [(Lay_X21_18 H).2.1]; decide) (Lay_X21_18 H).2.2⟩, ⟨E.fin (by rw [H.2.1]; decide) (by rw [H.2.1]; decide +kernel) (Lay_X21_19 H).1 (by have := H.1; omega), E.tag (Lay_X21_19 H).2.1 (by decide), E.len (by rw [(Lay_X21_19 H).2.1]; decide) (Lay_X21_19 H).2.2⟩, ⟨E.fin (by rw [H.2.1]; decide) (by rw [H.2.1]; decide +kernel) (Lay_X21_20 H).1 (by have := H.1; omega), E.tag (Lay_X21_20 H).2.1 (by decide), E.len (by rw [(Lay_X21_20 H).2.1]; decide) (Lay_X21_20 H).2.2⟩, ⟨E.fin (by rw [H.2.1]; decide) (by rw [H.2.1]; decide +kernel) (Lay_X21_21 H).1 (by have := H.1; omega), E.tag (Lay_X21_21 H).2.1 (by decide), E.len (by rw [(Lay_X21_21 H).2.1]; decide) (Lay_X21_21 H).2.2⟩, ⟨E.fin (by rw [H.2.1]; decide) (by rw [H.2.1]; decide +kernel) (Lay_X21_22 H).1 (by have := H.1; omega), E.tag (Lay_X21_22 H).2.1 (by decide), E.len (by rw [(Lay_X21_22 H).2.1]; decide) (Lay_X21_22 H).2.2⟩⟩
/-- the layout of NextAtBar -/
def Lay_X1 (h : Hp) (a : Int) : Prop := 1 ≤ a ∧ hT h a = 11 ∧ (hF h a 0 = a + 1 ∧ hT h (a + 1) = 2 ∧ hL h (a + 1) = 1000) ∧ (hF h a 11 = a + 2 ∧ hT h (a + 2) = 23) ∧ (hF h a 12 = a + 3 ∧ hT h (a + 3) = 24) ∧ (hF h a 13 = a + 4 ∧ hT h (a + 4) = 32) ∧ (hF h a 14 = a + 5 ∧ hT h (a + 5) = 32)
theorem Lay_X1.tag {h : Hp} {a : Int} (H : Lay_X1 h a) : hT h a = 11 := H.2.1
theorem Lay_X1_0 {h : Hp} {a : Int} (H : Lay_X1 h a) : hF h a 0 = a + 1 ∧ hT h (a + 1) = 2 ∧ hL h (a + 1) = 1000 := H.2.2.1
theorem Lay_X1_11 {h : Hp} {a : Int} (H : Lay_X1 h a) : hF h a 11 = a + 2 ∧ hT h (a + 2) = 23 := H.2.2.2.1
theorem Lay_X1_12 {h : Hp} {a : Int} (H : Lay_X1 h a) : hF h a 12 = a + 3 ∧ hT h (a + 3) = 24 := H.2.2.2.2.1
theorem Lay_X1_13 {h : Hp} {a : Int} (H : Lay_X1 h a) : hF h a 13 = a + 4 ∧ hT h (a + 4) = 32 := H.2.2.2.2.2.1
theorem Lay_X1_14 {h : Hp} {a : Int} (H : Lay_X1 h a) : hF h a 14 = a + 5 ∧ hT h (a + 5) = 32 := H.2.2.2.2.2.2
theorem Lay_X1.ext {h h2 : Hp} {a : Int} (H : Lay_X1 h a) (E : Ext h h2) : Lay_X1 h2 a := ⟨H.1, E.tag H.2.1 (by decide), ⟨E.fin (by rw [H.2.1]; decide) (by rw [H.2.1]; decide +kernel) (Lay_X1_0 H).1 (by have := H.1; omega), E.tag (Lay_X1_0 H).2.1 (by decide), E.len (by rw [(Lay_X1_0 H).2.1]; decide) (Lay_X1_0 H).2.2⟩, ⟨E.fin (by rw [H.2.1]; decide) (by rw [H.2.1]; decide +kernel) (Lay_X1_11 H).1 (by have := H.1; omega), E.tag (Lay_X1_11 H).2 (by decide)⟩, ⟨E.fin (by rw [H.2.1]; decide) (by rw [H.2.1]; decide +kernel) (Lay_X1_12 H).1 (by have := H.1; omega), E.tag (Lay_X1_12 H).2 (by decide)⟩, ⟨E.fin (by rw [H.2.1]; decide) (by rw [H.2.1]; decide +kernel) (Lay_X1_13 H).1 (by have := H.1; omega), E.tag (Lay_X1_13 H).2 (by decide)⟩, ⟨E.fin (by rw [H.2.1]; decide) (by rw [H.2.1]; decide +kernel) (Lay_X1_14 H).1 (by have := H.1; omega), E.tag (Lay_X1_14 H).2 (by decide)⟩⟩
/-- the layout of NextAtBar$House -/
def Lay_X7 (h : Hp) (a : Int) : Prop := 1 ≤ a ∧ hT h a = 12 ∧ (hF h a 3 = a + 1 ∧ hT h (a + 1) = 32) ∧ (hF h a 4 = a + 2 ∧ hT h (a + 2) = 32) ∧ (hF h a 5 = a + 3 ∧ hT h (a + 3) = 32) ∧ (hF h a 6 = a + 4 ∧ hT h (a + 4) = 32)
theorem Lay_X7.tag {h : Hp} {a : Int} (H : Lay_X7 h a) : hT h a = 12 := H.2.1
theorem Lay_X7_3 {h : Hp} {a : Int} (H : Lay_X7 h a) : hF h a 3 = a + 1 ∧ hT h (a + 1) = 32 := H.2.2.1
theorem Lay_X7_4 {h : Hp} {a : Int} (H : Lay_X7 h a) : hF h a 4 = a + 2 ∧ hT h (a + 2) = 32 := H.2.2.2.1
theorem Lay_X7_5 {h : Hp} {a : Int} (H : Lay_X7 h a) : hF h a 5 = a + 3 ∧ hT h (a + 3) = 32 := H.2.2.2.2.1
theorem Lay_X7_6 {h : Hp} {a : Int} (H : Lay_X7 h a) : hF h a 6 = a + 4 ∧ hT h (a + 4) = 32 := H.2.2.2.2.2
theorem Lay_X7.ext {h h2 : Hp} {a : Int} (H : Lay_X7 h a) (E : Ext h h2) : Lay_X7 h2 a := ⟨H.1, E.tag H.2.1 (by decide), ⟨E.fin (by rw [H.2.1]; decide) (by rw [H.2.1]; decide +kernel) (Lay_X7_3 H).1 (by have := H.1; omega), E.tag (Lay_X7_3 H).2 (by decide)⟩, ⟨E.fin (by rw [H.2.1]; decide) (by rw [H.2.1]; decide +kernel) (Lay_X7_4 H).1 (by have := H.1; omega), E.tag (Lay_X7_4 H).2 (by decide)⟩, ⟨E.fin (by rw [H.2.1]; decide) (by rw [H.2.1]; decide +kernel) (Lay_X7_5 H).1 (by have := H.1; omega), E.tag (Lay_X7_5 H).2 (by decide)⟩, ⟨E.fin (by rw [H.2.1]; decide) (by rw [H.2.1]; decide +kernel) (Lay_X7_6 H).1 (by have := H.1; omega), E.tag (Lay_X7_6 H).2 (by decide)⟩⟩
/-- the layout of NextAtBar$Person -/
def Lay_X17 (h : Hp) (a : Int) : Prop := 1 ≤ a ∧ hT h a = 14 ∧ (hF h a 2 = a + 1 ∧ hT h (a + 1) = 1 ∧ hL h (a + 1) = 5)
theorem Lay_X17.tag {h : Hp} {a : Int} (H : Lay_X17 h a) : hT h a = 14 := H.2.1
theorem Lay_X17_2 {h : Hp} {a : Int} (H : Lay_X17 h a) : hF h a 2 = a + 1 ∧ hT h (a + 1) = 1 ∧ hL h (a + 1) = 5 := H.2.2
theorem Lay_X17.ext {h h2 : Hp} {a : Int} (H : Lay_X17 h a) (E : Ext h h2) : Lay_X17 h2 a := ⟨H.1, E.tag H.2.1 (by decide), ⟨E.fin (by rw [H.2.1]; decide) (by rw [H.2.1]; decide +kernel) (Lay_X17_2 H).1 (by have := H.1; omega), E.tag (Lay_X17_2 H).2.1 (by decide), E.len (by rw [(Lay_X17_2 H).2.1]; decide) (Lay_X17_2 H).2.2⟩⟩
/-- the layout of NextAtBar$Orders -/
def Lay_X22 (h : Hp) (a : Int) : Prop := 1 ≤ a ∧ hT h a = 21 ∧ (hF h a 1 = a + 1 ∧ hT h (a + 1) = 1 ∧ hL h (a + 1) = 7) ∧ (hF h a 2 = a + 2 ∧ hT h (a + 2) = 1 ∧ hL h (a + 2) = 7)
theorem Lay_X22.tag {h : Hp} {a : Int} (H : Lay_X22 h a) : hT h a = 21 := H.2.1
theorem Lay_X22_1 {h : Hp} {a : Int} (H : Lay_X22 h a) : hF h a 1 = a + 1 ∧ hT h (a + 1) = 1 ∧ hL h (a + 1) = 7 := H.2.2.1
theorem Lay_X22_2 {h : Hp} {a : Int} (H : Lay_X22 h a) : hF h a 2 = a + 2 ∧ hT h (a + 2) = 1 ∧ hL h (a + 2) = 7 := H.2.2.2
theorem Lay_X22.ext {h h2 : Hp} {a : Int} (H : Lay_X22 h a) (E : Ext h h2) : Lay_X22 h2 a := ⟨H.1, E.tag H.2.1 (by decide), ⟨E.fin (by rw [H.2.1]; decide) (by rw [H.2.1]; decide +kernel) (Lay_X22_1 H).1 (by have := H.1; omega), E.tag (Lay_X22_1 H).2.1 (by decide), E.len (by rw [(Lay_X22_1 H).2.1]; decide) (Lay_X22_1 H).2.2⟩, ⟨E.fin (by rw [H.2.1]; decide) (by rw [H.2.1]; decide +kernel) (Lay_X22_2 H).1 (by have := H.1; omega), E.tag (Lay_X22_2 H).2.1 (by decide), E.len (by rw [(Lay_X22_2 H).2.1]; decide) (Lay_X22_2 H).2.2⟩⟩
/-- the layout of NextAtBar$Tellings -/
def Lay_X23 (h : Hp) (a : Int) : Prop := 1 ≤ a ∧ hT h a = 22 ∧ (hF h a 1 = a + 1 ∧ hT h (a + 1) = 1 ∧ hL h (a + 1) = 10)
theorem Lay_X23.tag {h : Hp} {a : Int} (H : Lay_X23 h a) : hT h a = 22 := H.2.1
theorem Lay_X23_1 {h : Hp} {a : Int} (H : Lay_X23 h a) : hF h a 1 = a + 1 ∧ hT h (a + 1) = 1 ∧ hL h (a + 1) = 10 := H.2.2
theorem Lay_X23.ext {h h2 : Hp} {a : Int} (H : Lay_X23 h a) (E : Ext h h2) : Lay_X23 h2 a := ⟨H.1, E.tag H.2.1 (by decide), ⟨E.fin (by rw [H.2.1]; decide) (by rw [H.2.1]; decide +kernel) (Lay_X23_1 H).1 (by have := H.1; omega), E.tag (Lay_X23_1 H).2.1 (by decide), E.len (by rw [(Lay_X23_1 H).2.1]; decide) (Lay_X23_1 H).2.2⟩⟩
theorem xc10 : XC 10 RX4 TX4 35 := ⟨by decide, rfl, in_X4, tyX4_ok, nmX4⟩
theorem xc11 : XC 11 RX1 TX1 15 := ⟨by decide, rfl, in_X1, tyX1_ok, nmX1⟩
theorem xc12 : XC 12 RX7 TX7 7 := ⟨by decide, rfl, in_X7, tyX7_ok, nmX7⟩
theorem xc13 : XC 13 RX21 TX21 27 := ⟨by decide, rfl, in_X21, tyX21_ok, nmX21⟩
theorem xc14 : XC 14 RX17 TX17 8 := ⟨by decide, rfl, in_X17, tyX17_ok, nmX17⟩
theorem xc15 : XC 15 RX9 TX9 4 := ⟨by decide, rfl, in_X9, tyX9_ok, nmX9⟩
theorem xc16 : XC 16 RX10 TX10 7 := ⟨by decide, rfl, in_X10, tyX10_ok, nmX10⟩
theorem xc17 : XC 17 RX20 TX20 3 := ⟨by decide, rfl, in_X20, tyX20_ok, nmX20⟩
theorem xc18 : XC 18 RX8 TX8 4 := ⟨by decide, rfl, in_X8, tyX8_ok, nmX8⟩
theorem xc19 : XC 19 RX6 TX6 3 := ⟨by decide, rfl, in_X6, tyX6_ok, nmX6⟩
theorem xc20 : XC 20 RX5 TX5 5 := ⟨by decide, rfl, in_X5, tyX5_ok, nmX5⟩
theorem xc21 : XC 21 RX22 TX22 5 := ⟨by decide, rfl, in_X22, tyX22_ok, nmX22⟩
theorem xc22 : XC 22 RX23 TX23 2 := ⟨by decide, rfl, in_X23, tyX23_ok, nmX23⟩
theorem xc23 : XC 23 RX2 TX2 1 := ⟨by decide, rfl, in_X2, tyX2_ok, nmX2⟩
theorem xc24 : XC 24 RX3 TX3 1 := ⟨by decide, rfl, in_X3, tyX3_ok, nmX3⟩
theorem xc25 : XC 25 RX18 TX18 1 := ⟨by decide, rfl, in_X18, tyX18_ok, nmX18⟩
theorem xc26 : XC 26 RX19 TX19 1 := ⟨by decide, rfl, in_X19, tyX19_ok, nmX19⟩
theorem xc27 : XC 27 RX12 xNoT 0 := ⟨by decide, rfl, (fun w h => by cases h), (fun k h => absurd h (Nat.not_lt_zero k)), (fun a h => absurd h (Nat.not_lt_zero a))⟩
theorem xc28 : XC 28 RX13 xNoT 0 := ⟨by decide, rfl, (fun w h => by cases h), (fun k h => absurd h (Nat.not_lt_zero k)), (fun a h => absurd h (Nat.not_lt_zero a))⟩
theorem xc29 : XC 29 RX14 xNoT 0 := ⟨by decide, rfl, (fun w h => by cases h), (fun k h => absurd h (Nat.not_lt_zero k)), (fun a h => absurd h (Nat.not_lt_zero a))⟩
theorem xc30 : XC 30 RX15 xNoT 0 := ⟨by decide, rfl, (fun w h => by cases h), (fun k h => absurd h (Nat.not_lt_zero k)), (fun a h => absurd h (Nat.not_lt_zero a))⟩
theorem xc31 : XC 31 RX16 xNoT 0 := ⟨by decide, rfl, (fun w h => by cases h), (fun k h => absurd h (Nat.not_lt_zero k)), (fun a h => absurd h (Nat.not_lt_zero a))⟩
theorem xc32 : XC 32 RJ2 TJ2 3 := ⟨by decide, rfl, in_J2, tyJ2_ok, nmJ2⟩
theorem xc33 : XC 33 RJ5 TJ5 4 := ⟨by decide, rfl, in_J5, tyJ5_ok, nmJ5⟩
theorem xc34 : XC 34 RJ4 TJ4 4 := ⟨by decide, rfl, in_J4, tyJ4_ok, nmJ4⟩
theorem xc35 : XC 35 RJ16 TJ16 6 := ⟨by decide, rfl, in_J16, tyJ16_ok, nmJ16⟩
theorem fd_X1_0 : FDx 11 0 RX1 TX1 15 1 := ⟨xc11, by decide, rfl⟩
theorem fd_X1_1 : FDx 11 1 RX1 TX1 15 0 := ⟨xc11, by decide, rfl⟩
theorem fd_X1_2 : FDx 11 2 RX1 TX1 15 0 := ⟨xc11, by decide, rfl⟩
theorem fd_X1_3 : FDx 11 3 RX1 TX1 15 0 := ⟨xc11, by decide, rfl⟩
theorem fd_X1_4 : FDx 11 4 RX1 TX1 15 0 := ⟨xc11, by decide, rfl⟩
theorem fd_X1_5 : FDx 11 5 RX1 TX1 15 1 := ⟨xc11, by decide, rfl⟩
theorem fd_X1_6 : FDx 11 6 RX1 TX1 15 1 := ⟨xc11, by decide, rfl⟩
theorem fd_X1_7 : FDx 11 7 RX1 TX1 15 1 := ⟨xc11, by decide, rfl⟩
theorem fd_X1_8 : FDx 11 8 RX1 TX1 15 1 := ⟨xc11, by decide, rfl⟩
theorem fd_X1_9 : FDx 11 9 RX1 TX1 15 1 := ⟨xc11, by decide, rfl⟩
theorem fd_X1_10 : FDx 11 10 RX1 TX1 15 0 := ⟨xc11, by decide, rfl⟩
theorem fd_X1_11 : FDx 11 11 RX1 TX1 15 1 := ⟨xc11, by decide, rfl⟩
theorem fd_X1_12 : FDx 11 12 RX1 TX1 15 1 := ⟨xc11, by decide, rfl⟩
theorem fd_X1_13 : FDx 11 13 RX1 TX1 15 1 := ⟨xc11, by decide, rfl⟩
theorem fd_X1_14 : FDx 11 14 RX1 TX1 15 1 := ⟨xc11, by decide, rfl⟩
theorem fd_X21_0 : FDx 13 0 RX21 TX21 27 1 := ⟨xc13, by decide, rfl⟩
theorem fd_X21_1 : FDx 13 1 RX21 TX21 27 0 := ⟨xc13, by decide, rfl⟩
theorem fd_X21_2 : FDx 13 2 RX21 TX21 27 1 := ⟨xc13, by decide, rfl⟩
theorem fd_X21_3 : FDx 13 3 RX21 TX21 27 1 := ⟨xc13, by decide, rfl⟩
theorem fd_X21_4 : FDx 13 4 RX21 TX21 27 1 := ⟨xc13, by decide, rfl⟩
theorem fd_X21_5 : FDx 13 5 RX21 TX21 27 1 := ⟨xc13, by decide, rfl⟩
theorem fd_X21_6 : FDx 13 6 RX21 TX21 27 1 := ⟨xc13, by decide, rfl⟩
theorem fd_X21_7 : FDx 13 7 RX21 TX21 27 1 := ⟨xc13, by decide, rfl⟩
theorem fd_X21_8 : FDx 13 8 RX21 TX21 27 1 := ⟨xc13, by decide, rfl⟩
theorem fd_X21_9 : FDx 13 9 RX21 TX21 27 1 := ⟨xc13, by decide, rfl⟩
theorem fd_X21_10 : FDx 13 10 RX21 TX21 27 1 := ⟨xc13, by decide, rfl⟩
theorem fd_X21_11 : FDx 13 11 RX21 TX21 27 1 := ⟨xc13, by decide, rfl⟩
theorem fd_X21_12 : FDx 13 12 RX21 TX21 27 1 := ⟨xc13, by decide, rfl⟩
theorem fd_X21_13 : FDx 13 13 RX21 TX21 27 1 := ⟨xc13, by decide, rfl⟩
theorem fd_X21_14 : FDx 13 14 RX21 TX21 27 1 := ⟨xc13, by decide, rfl⟩
theorem fd_X21_15 : FDx 13 15 RX21 TX21 27 1 := ⟨xc13, by decide, rfl⟩
theorem fd_X21_16 : FDx 13 16 RX21 TX21 27 1 := ⟨xc13, by decide, rfl⟩
theorem fd_X21_17 : FDx 13 17 RX21 TX21 27 1 := ⟨xc13, by decide, rfl⟩
theorem fd_X21_18 : FDx 13 18 RX21 TX21 27 1 := ⟨xc13, by decide, rfl⟩
theorem fd_X21_19 : FDx 13 19 RX21 TX21 27 1 := ⟨xc13, by decide, rfl⟩
theorem fd_X21_20 : FDx 13 20 RX21 TX21 27 1 := ⟨xc13, by decide, rfl⟩
theorem fd_X21_21 : FDx 13 21 RX21 TX21 27 1 := ⟨xc13, by decide, rfl⟩
theorem fd_X21_22 : FDx 13 22 RX21 TX21 27 1 := ⟨xc13, by decide, rfl⟩
theorem fd_X21_23 : FDx 13 23 RX21 TX21 27 0 := ⟨xc13, by decide, rfl⟩
theorem fd_X21_24 : FDx 13 24 RX21 TX21 27 0 := ⟨xc13, by decide, rfl⟩
theorem fd_X21_25 : FDx 13 25 RX21 TX21 27 0 := ⟨xc13, by decide, rfl⟩
theorem fd_X21_26 : FDx 13 26 RX21 TX21 27 0 := ⟨xc13, by decide, rfl⟩
theorem fd_X9_0 : FDx 15 0 RX9 TX9 4 1 := ⟨xc15, by decide, rfl⟩
theorem fd_X9_1 : FDx 15 1 RX9 TX9 4 0 := ⟨xc15, by decide, rfl⟩
theorem fd_X9_2 : FDx 15 2 RX9 TX9 4 0 := ⟨xc15, by decide, rfl⟩
theorem fd_X9_3 : FDx 15 3 RX9 TX9 4 0 := ⟨xc15, by decide, rfl⟩
theorem fd_X7_0 : FDx 12 0 RX7 TX7 7 0 := ⟨xc12, by decide, rfl⟩
theorem fd_X7_1 : FDx 12 1 RX7 TX7 7 0 := ⟨xc12, by decide, rfl⟩
theorem fd_X7_2 : FDx 12 2 RX7 TX7 7 0 := ⟨xc12, by decide, rfl⟩
theorem fd_X7_3 : FDx 12 3 RX7 TX7 7 1 := ⟨xc12, by decide, rfl⟩
theorem fd_X7_4 : FDx 12 4 RX7 TX7 7 1 := ⟨xc12, by decide, rfl⟩
theorem fd_X7_5 : FDx 12 5 RX7 TX7 7 1 := ⟨xc12, by decide, rfl⟩
theorem fd_X7_6 : FDx 12 6 RX7 TX7 7 1 := ⟨xc12, by decide, rfl⟩
theorem fd_X3_0 : FDx 24 0 RX3 TX3 1 0 := ⟨xc24, by decide, rfl⟩
theorem fd_X2_0 : FDx 23 0 RX2 TX2 1 0 := ⟨xc23, by decide, rfl⟩
theorem fd_X22_0 : FDx 21 0 RX22 TX22 5 1 := ⟨xc21, by decide, rfl⟩
theorem fd_X22_1 : FDx 21 1 RX22 TX22 5 1 := ⟨xc21, by decide, rfl⟩
theorem fd_X22_2 : FDx 21 2 RX22 TX22 5 1 := ⟨xc21, by decide, rfl⟩
theorem fd_X22_3 : FDx 21 3 RX22 TX22 5 0 := ⟨xc21, by decide, rfl⟩
theorem fd_X22_4 : FDx 21 4 RX22 TX22 5 0 := ⟨xc21, by decide, rfl⟩
theorem fd_X17_0 : FDx 14 0 RX17 TX17 8 1 := ⟨xc14, by decide, rfl⟩
theorem fd_X17_1 : FDx 14 1 RX17 TX17 8 1 := ⟨xc14, by decide, rfl⟩
theorem fd_X17_2 : FDx 14 2 RX17 TX17 8 1 := ⟨xc14, by decide, rfl⟩
theorem fd_X17_3 : FDx 14 3 RX17 TX17 8 0 := ⟨xc14, by decide, rfl⟩
theorem fd_X17_4 : FDx 14 4 RX17 TX17 8 0 := ⟨xc14, by decide, rfl⟩
theorem fd_X17_5 : FDx 14 5 RX17 TX17 8 0 := ⟨xc14, by decide, rfl⟩
theorem fd_X17_6 : FDx 14 6 RX17 TX17 8 0 := ⟨xc14, by decide, rfl⟩
theorem fd_X17_7 : FDx 14 7 RX17 TX17 8 0 := ⟨xc14, by decide, rfl⟩
theorem fd_X18_0 : FDx 25 0 RX18 TX18 1 0 := ⟨xc25, by decide, rfl⟩
theorem fd_X5_0 : FDx 20 0 RX5 TX5 5 1 := ⟨xc20, by decide, rfl⟩
theorem fd_X5_1 : FDx 20 1 RX5 TX5 5 1 := ⟨xc20, by decide, rfl⟩
theorem fd_X5_2 : FDx 20 2 RX5 TX5 5 1 := ⟨xc20, by decide, rfl⟩
theorem fd_X5_3 : FDx 20 3 RX5 TX5 5 0 := ⟨xc20, by decide, rfl⟩
theorem fd_X5_4 : FDx 20 4 RX5 TX5 5 0 := ⟨xc20, by decide, rfl⟩
theorem fd_X19_0 : FDx 26 0 RX19 TX19 1 0 := ⟨xc26, by decide, rfl⟩
theorem fd_X10_0 : FDx 16 0 RX10 TX10 7 1 := ⟨xc16, by decide, rfl⟩
theorem fd_X10_1 : FDx 16 1 RX10 TX10 7 1 := ⟨xc16, by decide, rfl⟩
theorem fd_X10_2 : FDx 16 2 RX10 TX10 7 0 := ⟨xc16, by decide, rfl⟩
theorem fd_X10_3 : FDx 16 3 RX10 TX10 7 0 := ⟨xc16, by decide, rfl⟩
theorem fd_X10_4 : FDx 16 4 RX10 TX10 7 0 := ⟨xc16, by decide, rfl⟩
theorem fd_X10_5 : FDx 16 5 RX10 TX10 7 0 := ⟨xc16, by decide, rfl⟩
theorem fd_X10_6 : FDx 16 6 RX10 TX10 7 0 := ⟨xc16, by decide, rfl⟩
theorem fd_X20_0 : FDx 17 0 RX20 TX20 3 0 := ⟨xc17, by decide, rfl⟩
theorem fd_X20_1 : FDx 17 1 RX20 TX20 3 0 := ⟨xc17, by decide, rfl⟩
theorem fd_X20_2 : FDx 17 2 RX20 TX20 3 0 := ⟨xc17, by decide, rfl⟩
theorem fd_X23_0 : FDx 22 0 RX23 TX23 2 1 := ⟨xc22, by decide, rfl⟩
theorem fd_X23_1 : FDx 22 1 RX23 TX23 2 1 := ⟨xc22, by decide, rfl⟩
theorem fd_X8_0 : FDx 18 0 RX8 TX8 4 0 := ⟨xc18, by decide, rfl⟩
theorem fd_X8_1 : FDx 18 1 RX8 TX8 4 0 := ⟨xc18, by decide, rfl⟩
theorem fd_X8_2 : FDx 18 2 RX8 TX8 4 0 := ⟨xc18, by decide, rfl⟩
theorem fd_X8_3 : FDx 18 3 RX8 TX8 4 1 := ⟨xc18, by decide, rfl⟩
theorem fd_X6_0 : FDx 19 0 RX6 TX6 3 1 := ⟨xc19, by decide, rfl⟩
theorem fd_X6_1 : FDx 19 1 RX6 TX6 3 0 := ⟨xc19, by decide, rfl⟩
theorem fd_X6_2 : FDx 19 2 RX6 TX6 3 0 := ⟨xc19, by decide, rfl⟩
theorem fd_X4_0 : FDx 10 0 RX4 TX4 35 0 := ⟨xc10, by decide, rfl⟩
theorem fd_X4_1 : FDx 10 1 RX4 TX4 35 1 := ⟨xc10, by decide, rfl⟩
theorem fd_X4_2 : FDx 10 2 RX4 TX4 35 0 := ⟨xc10, by decide, rfl⟩
theorem fd_X4_3 : FDx 10 3 RX4 TX4 35 0 := ⟨xc10, by decide, rfl⟩
theorem fd_X4_4 : FDx 10 4 RX4 TX4 35 0 := ⟨xc10, by decide, rfl⟩
theorem fd_X4_5 : FDx 10 5 RX4 TX4 35 0 := ⟨xc10, by decide, rfl⟩
theorem fd_X4_6 : FDx 10 6 RX4 TX4 35 0 := ⟨xc10, by decide, rfl⟩
theorem fd_X4_7 : FDx 10 7 RX4 TX4 35 0 := ⟨xc10, by decide, rfl⟩
theorem fd_X4_8 : FDx 10 8 RX4 TX4 35 0 := ⟨xc10, by decide, rfl⟩
theorem fd_X4_9 : FDx 10 9 RX4 TX4 35 0 := ⟨xc10, by decide, rfl⟩
theorem fd_X4_10 : FDx 10 10 RX4 TX4 35 0 := ⟨xc10, by decide, rfl⟩
theorem fd_X4_11 : FDx 10 11 RX4 TX4 35 0 := ⟨xc10, by decide, rfl⟩
theorem fd_X4_12 : FDx 10 12 RX4 TX4 35 1 := ⟨xc10, by decide, rfl⟩
theorem fd_X4_13 : FDx 10 13 RX4 TX4 35 0 := ⟨xc10, by decide, rfl⟩
theorem fd_X4_14 : FDx 10 14 RX4 TX4 35 0 := ⟨xc10, by decide, rfl⟩
theorem fd_X4_15 : FDx 10 15 RX4 TX4 35 1 := ⟨xc10, by decide, rfl⟩
theorem fd_X4_16 : FDx 10 16 RX4 TX4 35 1 := ⟨xc10, by decide, rfl⟩
theorem fd_X4_17 : FDx 10 17 RX4 TX4 35 1 := ⟨xc10, by decide, rfl⟩
theorem fd_X4_18 : FDx 10 18 RX4 TX4 35 1 := ⟨xc10, by decide, rfl⟩
theorem fd_X4_19 : FDx 10 19 RX4 TX4 35 1 := ⟨xc10, by decide, rfl⟩
theorem fd_X4_20 : FDx 10 20 RX4 TX4 35 1 := ⟨xc10, by decide, rfl⟩
theorem fd_X4_21 : FDx 10 21 RX4 TX4 35 0 := ⟨xc10, by decide, rfl⟩
theorem fd_X4_22 : FDx 10 22 RX4 TX4 35 0 := ⟨xc10, by decide, rfl⟩
theorem fd_X4_23 : FDx 10 23 RX4 TX4 35 1 := ⟨xc10, by decide, rfl⟩
theorem fd_X4_24 : FDx 10 24 RX4 TX4 35 1 := ⟨xc10, by decide, rfl⟩
theorem fd_X4_25 : FDx 10 25 RX4 TX4 35 0 := ⟨xc10, by decide, rfl⟩
theorem fd_X4_26 : FDx 10 26 RX4 TX4 35 0 := ⟨xc10, by decide, rfl⟩
theorem fd_X4_27 : FDx 10 27 RX4 TX4 35 0 := ⟨xc10, by decide, rfl⟩
theorem fd_X4_28 : FDx 10 28 RX4 TX4 35 0 := ⟨xc10, by decide, rfl⟩
theorem fd_X4_29 : FDx 10 29 RX4 TX4 35 1 := ⟨xc10, by decide, rfl⟩
theorem fd_X4_30 : FDx 10 30 RX4 TX4 35 1 := ⟨xc10, by decide, rfl⟩
theorem fd_X4_31 : FDx 10 31 RX4 TX4 35 1 := ⟨xc10, by decide, rfl⟩
theorem fd_X4_32 : FDx 10 32 RX4 TX4 35 1 := ⟨xc10, by decide, rfl⟩
theorem fd_X4_33 : FDx 10 33 RX4 TX4 35 0 := ⟨xc10, by decide, rfl⟩
theorem fd_X4_34 : FDx 10 34 RX4 TX4 35 1 := ⟨xc10, by decide, rfl⟩
theorem fd_J5_0 : FDx 33 0 RJ5 TJ5 4 1 := ⟨xc33, by decide, rfl⟩
theorem fd_J5_1 : FDx 33 1 RJ5 TJ5 4 0 := ⟨xc33, by decide, rfl⟩
theorem fd_J5_2 : FDx 33 2 RJ5 TJ5 4 0 := ⟨xc33, by decide, rfl⟩
theorem fd_J5_3 : FDx 33 3 RJ5 TJ5 4 0 := ⟨xc33, by decide, rfl⟩
theorem fd_J4_0 : FDx 34 0 RJ4 TJ4 4 1 := ⟨xc34, by decide, rfl⟩
theorem fd_J4_1 : FDx 34 1 RJ4 TJ4 4 0 := ⟨xc34, by decide, rfl⟩
theorem fd_J4_2 : FDx 34 2 RJ4 TJ4 4 0 := ⟨xc34, by decide, rfl⟩
theorem fd_J4_3 : FDx 34 3 RJ4 TJ4 4 0 := ⟨xc34, by decide, rfl⟩
theorem fd_J2_0 : FDx 32 0 RJ2 TJ2 3 0 := ⟨xc32, by decide, rfl⟩
theorem fd_J2_1 : FDx 32 1 RJ2 TJ2 3 1 := ⟨xc32, by decide, rfl⟩
theorem fd_J2_2 : FDx 32 2 RJ2 TJ2 3 0 := ⟨xc32, by decide, rfl⟩
theorem nf_X1_1 : finF 11 1 = false := by decide +kernel
theorem nf_X1_2 : finF 11 2 = false := by decide +kernel
theorem nf_X1_3 : finF 11 3 = false := by decide +kernel
theorem nf_X1_4 : finF 11 4 = false := by decide +kernel
theorem nf_X1_5 : finF 11 5 = false := by decide +kernel
theorem nf_X1_6 : finF 11 6 = false := by decide +kernel
theorem nf_X1_7 : finF 11 7 = false := by decide +kernel
theorem nf_X1_8 : finF 11 8 = false := by decide +kernel
theorem nf_X1_9 : finF 11 9 = false := by decide +kernel
theorem nf_X1_10 : finF 11 10 = false := by decide +kernel
theorem nf_X21_1 : finF 13 1 = false := by decide +kernel
theorem nf_X21_23 : finF 13 23 = false := by decide +kernel
theorem nf_X21_24 : finF 13 24 = false := by decide +kernel
theorem nf_X21_25 : finF 13 25 = false := by decide +kernel
theorem nf_X21_26 : finF 13 26 = false := by decide +kernel
theorem nf_X9_1 : finF 15 1 = false := by decide +kernel
theorem nf_X9_2 : finF 15 2 = false := by decide +kernel
theorem nf_X9_3 : finF 15 3 = false := by decide +kernel
theorem nf_X7_0 : finF 12 0 = false := by decide +kernel
theorem nf_X7_1 : finF 12 1 = false := by decide +kernel
theorem nf_X7_2 : finF 12 2 = false := by decide +kernel
theorem nf_X3_0 : finF 24 0 = false := by decide +kernel
theorem nf_X2_0 : finF 23 0 = false := by decide +kernel
theorem nf_X22_3 : finF 21 3 = false := by decide +kernel
theorem nf_X22_4 : finF 21 4 = false := by decide +kernel
theorem nf_X17_3 : finF 14 3 = false := by decide +kernel
theorem nf_X17_4 : finF 14 4 = false := by decide +kernel
theorem nf_X17_5 : finF 14 5 = false := by decide +kernel
theorem nf_X17_6 : finF 14 6 = false := by decide +kernel
theorem nf_X17_7 : finF 14 7 = false := by decide +kernel
theorem nf_X18_0 : finF 25 0 = false := by decide +kernel
theorem nf_X5_2 : finF 20 2 = false := by decide +kernel
theorem nf_X5_3 : finF 20 3 = false := by decide +kernel
theorem nf_X5_4 : finF 20 4 = false := by decide +kernel
theorem nf_X19_0 : finF 26 0 = false := by decide +kernel
theorem nf_X10_2 : finF 16 2 = false := by decide +kernel
theorem nf_X10_3 : finF 16 3 = false := by decide +kernel
theorem nf_X10_4 : finF 16 4 = false := by decide +kernel
theorem nf_X10_5 : finF 16 5 = false := by decide +kernel
theorem nf_X10_6 : finF 16 6 = false := by decide +kernel
theorem nf_X20_0 : finF 17 0 = false := by decide +kernel
theorem nf_X20_1 : finF 17 1 = false := by decide +kernel
theorem nf_X20_2 : finF 17 2 = false := by decide +kernel
theorem nf_X8_0 : finF 18 0 = false := by decide +kernel
theorem nf_X8_1 : finF 18 1 = false := by decide +kernel
theorem nf_X8_2 : finF 18 2 = false := by decide +kernel
theorem nf_X6_1 : finF 19 1 = false := by decide +kernel
theorem nf_X6_2 : finF 19 2 = false := by decide +kernel
theorem nf_X4_0 : finF 10 0 = false := by decide +kernel
theorem nf_X4_2 : finF 10 2 = false := by decide +kernel
theorem nf_X4_3 : finF 10 3 = false := by decide +kernel
theorem nf_X4_4 : finF 10 4 = false := by decide +kernel
theorem nf_X4_5 : finF 10 5 = false := by decide +kernel
theorem nf_X4_6 : finF 10 6 = false := by decide +kernel
theorem nf_X4_7 : finF 10 7 = false := by decide +kernel
theorem nf_X4_8 : finF 10 8 = false := by decide +kernel
theorem nf_X4_9 : finF 10 9 = false := by decide +kernel
theorem nf_X4_10 : finF 10 10 = false := by decide +kernel
theorem nf_X4_11 : finF 10 11 = false := by decide +kernel
theorem nf_X4_13 : finF 10 13 = false := by decide +kernel
theorem nf_X4_14 : finF 10 14 = false := by decide +kernel
theorem nf_X4_21 : finF 10 21 = false := by decide +kernel
theorem nf_X4_22 : finF 10 22 = false := by decide +kernel
theorem nf_X4_25 : finF 10 25 = false := by decide +kernel
theorem nf_X4_26 : finF 10 26 = false := by decide +kernel
theorem nf_X4_27 : finF 10 27 = false := by decide +kernel
theorem nf_X4_28 : finF 10 28 = false := by decide +kernel
theorem nf_X4_33 : finF 10 33 = false := by decide +kernel
theorem nf_J5_1 : finF 33 1 = false := by decide +kernel
theorem nf_J5_2 : finF 33 2 = false := by decide +kernel
theorem nf_J5_3 : finF 33 3 = false := by decide +kernel
theorem nf_J4_0 : finF 34 0 = false := by decide +kernel
theorem nf_J4_1 : finF 34 1 = false := by decide +kernel
theorem nf_J4_3 : finF 34 3 = false := by decide +kernel
theorem nf_J2_0 : finF 32 0 = false := by decide +kernel
theorem nf_J2_1 : finF 32 1 = false := by decide +kernel
theorem nf_J2_2 : finF 32 2 = false := by decide +kernel
theorem hy_J0_init : yJ0_init.cls = RJ0 ∧ yJ0_init.cls ≠ "java/lang/invoke/MethodHandle" ∧ yJ0_init.cls ≠ "java/lang/invoke/VarHandle" ∧ dscN yJ0_init.desc 0 := by unfold dscN; decide +kernel
theorem hy_J10_canEncode : yJ10_canEncode.cls = RJ10 ∧ yJ10_canEncode.cls ≠ "java/lang/invoke/MethodHandle" ∧ yJ10_canEncode.cls ≠ "java/lang/invoke/VarHandle" ∧ dscN yJ10_canEncode.desc 1 := by unfold dscN; decide +kernel
theorem hy_J10_charAt : yJ10_charAt.cls = RJ10 ∧ yJ10_charAt.cls ≠ "java/lang/invoke/MethodHandle" ∧ yJ10_charAt.cls ≠ "java/lang/invoke/VarHandle" ∧ dscN yJ10_charAt.desc 2 := by unfold dscN; decide +kernel
theorem hy_J10_equals : yJ10_equals.cls = RJ10 ∧ yJ10_equals.cls ≠ "java/lang/invoke/MethodHandle" ∧ yJ10_equals.cls ≠ "java/lang/invoke/VarHandle" ∧ dscN yJ10_equals.desc 2 := by unfold dscN; decide +kernel
theorem hy_J10_hashCode : yJ10_hashCode.cls = RJ10 ∧ yJ10_hashCode.cls ≠ "java/lang/invoke/MethodHandle" ∧ yJ10_hashCode.cls ≠ "java/lang/invoke/VarHandle" ∧ dscN yJ10_hashCode.desc 1 := by unfold dscN; decide +kernel
theorem hy_J11_checkIndex : yJ11_checkIndex.cls = RJ11 ∧ yJ11_checkIndex.cls ≠ "java/lang/invoke/MethodHandle" ∧ yJ11_checkIndex.cls ≠ "java/lang/invoke/VarHandle" ∧ dscN yJ11_checkIndex.desc 3 := by unfold dscN; decide +kernel
theorem hy_J12_checkIndex : yJ12_checkIndex.cls = RJ12 ∧ yJ12_checkIndex.cls ≠ "java/lang/invoke/MethodHandle" ∧ yJ12_checkIndex.cls ≠ "java/lang/invoke/VarHandle" ∧ dscN yJ12_checkIndex.desc 2 := by unfold dscN; decide +kernel
theorem hy_J1_init : yJ1_init.cls = RJ1 ∧ yJ1_init.cls ≠ "java/lang/invoke/MethodHandle" ∧ yJ1_init.cls ≠ "java/lang/invoke/VarHandle" ∧ dscN yJ1_init.desc 0 := by unfold dscN; decide +kernel
theorem hy_J2_add : yJ2_add.cls = RJ2 ∧ yJ2_add.cls ≠ "java/lang/invoke/MethodHandle" ∧ yJ2_add.cls ≠ "java/lang/invoke/VarHandle" ∧ dscN yJ2_add.desc 1 := by unfold dscN; decide +kernel
theorem hy_J2_add_2 : yJ2_add_2.cls = RJ2 ∧ yJ2_add_2.cls ≠ "java/lang/invoke/MethodHandle" ∧ yJ2_add_2.cls ≠ "java/lang/invoke/VarHandle" ∧ dscN yJ2_add_2.desc 3 := by unfold dscN; decide +kernel
theorem hy_J2_clear : yJ2_clear.cls = RJ2 ∧ yJ2_clear.cls ≠ "java/lang/invoke/MethodHandle" ∧ yJ2_clear.cls ≠ "java/lang/invoke/VarHandle" ∧ dscN yJ2_clear.desc 0 := by unfold dscN; decide +kernel
theorem hy_J2_elementData : yJ2_elementData.cls = RJ2 ∧ yJ2_elementData.cls ≠ "java/lang/invoke/MethodHandle" ∧ yJ2_elementData.cls ≠ "java/lang/invoke/VarHandle" ∧ dscN yJ2_elementData.desc 1 := by unfold dscN; decide +kernel
theorem hy_J2_fastRemove : yJ2_fastRemove.cls = RJ2 ∧ yJ2_fastRemove.cls ≠ "java/lang/invoke/MethodHandle" ∧ yJ2_fastRemove.cls ≠ "java/lang/invoke/VarHandle" ∧ dscN yJ2_fastRemove.desc 2 := by unfold dscN; decide +kernel
theorem hy_J2_get : yJ2_get.cls = RJ2 ∧ yJ2_get.cls ≠ "java/lang/invoke/MethodHandle" ∧ yJ2_get.cls ≠ "java/lang/invoke/VarHandle" ∧ dscN yJ2_get.desc 1 := by unfold dscN; decide +kernel
theorem hy_J2_grow : yJ2_grow.cls = RJ2 ∧ yJ2_grow.cls ≠ "java/lang/invoke/MethodHandle" ∧ yJ2_grow.cls ≠ "java/lang/invoke/VarHandle" ∧ dscN yJ2_grow.desc 0 := by unfold dscN; decide +kernel
theorem hy_J2_grow_2 : yJ2_grow_2.cls = RJ2 ∧ yJ2_grow_2.cls ≠ "java/lang/invoke/MethodHandle" ∧ yJ2_grow_2.cls ≠ "java/lang/invoke/VarHandle" ∧ dscN yJ2_grow_2.desc 1 := by unfold dscN; decide +kernel
theorem hy_J2_init : yJ2_init.cls = RJ2 ∧ yJ2_init.cls ≠ "java/lang/invoke/MethodHandle" ∧ yJ2_init.cls ≠ "java/lang/invoke/VarHandle" ∧ dscN yJ2_init.desc 0 := by unfold dscN; decide +kernel
theorem hy_J2_isEmpty : yJ2_isEmpty.cls = RJ2 ∧ yJ2_isEmpty.cls ≠ "java/lang/invoke/MethodHandle" ∧ yJ2_isEmpty.cls ≠ "java/lang/invoke/VarHandle" ∧ dscN yJ2_isEmpty.desc 0 := by unfold dscN; decide +kernel
theorem hy_J2_remove : yJ2_remove.cls = RJ2 ∧ yJ2_remove.cls ≠ "java/lang/invoke/MethodHandle" ∧ yJ2_remove.cls ≠ "java/lang/invoke/VarHandle" ∧ dscN yJ2_remove.desc 1 := by unfold dscN; decide +kernel
theorem hy_J2_size : yJ2_size.cls = RJ2 ∧ yJ2_size.cls ≠ "java/lang/invoke/MethodHandle" ∧ yJ2_size.cls ≠ "java/lang/invoke/VarHandle" ∧ dscN yJ2_size.desc 0 := by unfold dscN; decide +kernel
theorem hy_J3_append : yJ3_append.cls = RJ3 ∧ yJ3_append.cls ≠ "java/lang/invoke/MethodHandle" ∧ yJ3_append.cls ≠ "java/lang/invoke/VarHandle" ∧ dscN yJ3_append.desc 1 := by unfold dscN; decide +kernel
theorem hy_J3_ensureCapacityInternal : yJ3_ensureCapacityInternal.cls = RJ3 ∧ yJ3_ensureCapacityInternal.cls ≠ "java/lang/invoke/MethodHandle" ∧ yJ3_ensureCapacityInternal.cls ≠ "java/lang/invoke/VarHandle" ∧ dscN yJ3_ensureCapacityInternal.desc 1 := by unfold dscN; decide +kernel
theorem hy_J3_getValue : yJ3_getValue.cls = RJ3 ∧ yJ3_getValue.cls ≠ "java/lang/invoke/MethodHandle" ∧ yJ3_getValue.cls ≠ "java/lang/invoke/VarHandle" ∧ dscN yJ3_getValue.desc 0 := by unfold dscN; decide +kernel
theorem hy_J3_init : yJ3_init.cls = RJ3 ∧ yJ3_init.cls ≠ "java/lang/invoke/MethodHandle" ∧ yJ3_init.cls ≠ "java/lang/invoke/VarHandle" ∧ dscN yJ3_init.desc 1 := by unfold dscN; decide +kernel
theorem hy_J3_isLatin1 : yJ3_isLatin1.cls = RJ3 ∧ yJ3_isLatin1.cls ≠ "java/lang/invoke/MethodHandle" ∧ yJ3_isLatin1.cls ≠ "java/lang/invoke/VarHandle" ∧ dscN yJ3_isLatin1.desc 0 := by unfold dscN; decide +kernel
theorem hy_J3_length : yJ3_length.cls = RJ3 ∧ yJ3_length.cls ≠ "java/lang/invoke/MethodHandle" ∧ yJ3_length.cls ≠ "java/lang/invoke/VarHandle" ∧ dscN yJ3_length.desc 0 := by unfold dscN; decide +kernel
theorem hy_J4_append : yJ4_append.cls = RJ4 ∧ yJ4_append.cls ≠ "java/lang/invoke/MethodHandle" ∧ yJ4_append.cls ≠ "java/lang/invoke/VarHandle" ∧ dscN yJ4_append.desc 1 := by unfold dscN; decide +kernel
theorem hy_J4_init : yJ4_init.cls = RJ4 ∧ yJ4_init.cls ≠ "java/lang/invoke/MethodHandle" ∧ yJ4_init.cls ≠ "java/lang/invoke/VarHandle" ∧ dscN yJ4_init.desc 0 := by unfold dscN; decide +kernel
theorem hy_J4_length : yJ4_length.cls = RJ4 ∧ yJ4_length.cls ≠ "java/lang/invoke/MethodHandle" ∧ yJ4_length.cls ≠ "java/lang/invoke/VarHandle" ∧ dscN yJ4_length.desc 0 := by unfold dscN; decide +kernel
theorem hy_J4_toString : yJ4_toString.cls = RJ4 ∧ yJ4_toString.cls ≠ "java/lang/invoke/MethodHandle" ∧ yJ4_toString.cls ≠ "java/lang/invoke/VarHandle" ∧ dscN yJ4_toString.desc 0 := by unfold dscN; decide +kernel
theorem hy_J5_charAt : yJ5_charAt.cls = RJ5 ∧ yJ5_charAt.cls ≠ "java/lang/invoke/MethodHandle" ∧ yJ5_charAt.cls ≠ "java/lang/invoke/VarHandle" ∧ dscN yJ5_charAt.desc 1 := by unfold dscN; decide +kernel
theorem hy_J5_checkIndex : yJ5_checkIndex.cls = RJ5 ∧ yJ5_checkIndex.cls ≠ "java/lang/invoke/MethodHandle" ∧ yJ5_checkIndex.cls ≠ "java/lang/invoke/VarHandle" ∧ dscN yJ5_checkIndex.desc 2 := by unfold dscN; decide +kernel
theorem hy_J5_coder : yJ5_coder.cls = RJ5 ∧ yJ5_coder.cls ≠ "java/lang/invoke/MethodHandle" ∧ yJ5_coder.cls ≠ "java/lang/invoke/VarHandle" ∧ dscN yJ5_coder.desc 0 := by unfold dscN; decide +kernel
theorem hy_J5_equals : yJ5_equals.cls = RJ5 ∧ yJ5_equals.cls ≠ "java/lang/invoke/MethodHandle" ∧ yJ5_equals.cls ≠ "java/lang/invoke/VarHandle" ∧ dscN yJ5_equals.desc 1 := by unfold dscN; decide +kernel
theorem hy_J5_hashCode : yJ5_hashCode.cls = RJ5 ∧ yJ5_hashCode.cls ≠ "java/lang/invoke/MethodHandle" ∧ yJ5_hashCode.cls ≠ "java/lang/invoke/VarHandle" ∧ dscN yJ5_hashCode.desc 0 := by unfold dscN; decide +kernel
theorem hy_J5_init : yJ5_init.cls = RJ5 ∧ yJ5_init.cls ≠ "java/lang/invoke/MethodHandle" ∧ yJ5_init.cls ≠ "java/lang/invoke/VarHandle" ∧ dscN yJ5_init.desc 1 := by unfold dscN; decide +kernel
theorem hy_J5_init_2 : yJ5_init_2.cls = RJ5 ∧ yJ5_init_2.cls ≠ "java/lang/invoke/MethodHandle" ∧ yJ5_init_2.cls ≠ "java/lang/invoke/VarHandle" ∧ dscN yJ5_init_2.desc 2 := by unfold dscN; decide +kernel
theorem hy_J5_isLatin1 : yJ5_isLatin1.cls = RJ5 ∧ yJ5_isLatin1.cls ≠ "java/lang/invoke/MethodHandle" ∧ yJ5_isLatin1.cls ≠ "java/lang/invoke/VarHandle" ∧ dscN yJ5_isLatin1.desc 0 := by unfold dscN; decide +kernel
theorem hy_J5_length : yJ5_length.cls = RJ5 ∧ yJ5_length.cls ≠ "java/lang/invoke/MethodHandle" ∧ yJ5_length.cls ≠ "java/lang/invoke/VarHandle" ∧ dscN yJ5_length.desc 0 := by unfold dscN; decide +kernel
theorem hy_J7_newLength : yJ7_newLength.cls = RJ7 ∧ yJ7_newLength.cls ≠ "java/lang/invoke/MethodHandle" ∧ yJ7_newLength.cls ≠ "java/lang/invoke/VarHandle" ∧ dscN yJ7_newLength.desc 3 := by unfold dscN; decide +kernel
theorem hy_J7_signedHashCode : yJ7_signedHashCode.cls = RJ7 ∧ yJ7_signedHashCode.cls ≠ "java/lang/invoke/MethodHandle" ∧ yJ7_signedHashCode.cls ≠ "java/lang/invoke/VarHandle" ∧ dscN yJ7_signedHashCode.desc 4 := by unfold dscN; decide +kernel
theorem hy_J7_vectorizedHashCode : yJ7_vectorizedHashCode.cls = RJ7 ∧ yJ7_vectorizedHashCode.cls ≠ "java/lang/invoke/MethodHandle" ∧ yJ7_vectorizedHashCode.cls ≠ "java/lang/invoke/VarHandle" ∧ dscN yJ7_vectorizedHashCode.desc 5 := by unfold dscN; decide +kernel
theorem hy_J9_checkLength : yJ9_checkLength.cls = RJ9 ∧ yJ9_checkLength.cls ≠ "java/lang/invoke/MethodHandle" ∧ yJ9_checkLength.cls ≠ "java/lang/invoke/VarHandle" ∧ dscN yJ9_checkLength.desc 2 := by unfold dscN; decide +kernel
theorem hy_J9_copyOfRange : yJ9_copyOfRange.cls = RJ9 ∧ yJ9_copyOfRange.cls ≠ "java/lang/invoke/MethodHandle" ∧ yJ9_copyOfRange.cls ≠ "java/lang/invoke/VarHandle" ∧ dscN yJ9_copyOfRange.desc 3 := by unfold dscN; decide +kernel
theorem hy_J9_copyOfRangeByte : yJ9_copyOfRangeByte.cls = RJ9 ∧ yJ9_copyOfRangeByte.cls ≠ "java/lang/invoke/MethodHandle" ∧ yJ9_copyOfRangeByte.cls ≠ "java/lang/invoke/VarHandle" ∧ dscN yJ9_copyOfRangeByte.desc 3 := by unfold dscN; decide +kernel
theorem hy_J9_copyOf_2 : yJ9_copyOf_2.cls = RJ9 ∧ yJ9_copyOf_2.cls ≠ "java/lang/invoke/MethodHandle" ∧ yJ9_copyOf_2.cls ≠ "java/lang/invoke/VarHandle" ∧ dscN yJ9_copyOf_2.desc 2 := by unfold dscN; decide +kernel
theorem hy_J9_copyOf_3 : yJ9_copyOf_3.cls = RJ9 ∧ yJ9_copyOf_3.cls ≠ "java/lang/invoke/MethodHandle" ∧ yJ9_copyOf_3.cls ≠ "java/lang/invoke/VarHandle" ∧ dscN yJ9_copyOf_3.desc 3 := by unfold dscN; decide +kernel
theorem hy_X10_init : yX10_init.cls = RX10 ∧ yX10_init.cls ≠ "java/lang/invoke/MethodHandle" ∧ yX10_init.cls ≠ "java/lang/invoke/VarHandle" ∧ dscN yX10_init.desc 2 := by unfold dscN; decide +kernel
theorem hy_X11_init : yX11_init.cls = RX11 ∧ yX11_init.cls ≠ "java/lang/invoke/MethodHandle" ∧ yX11_init.cls ≠ "java/lang/invoke/VarHandle" ∧ dscN yX11_init.desc 0 := by unfold dscN; decide +kernel
theorem hy_X12_far : yX12_far.cls = RX12 ∧ yX12_far.cls ≠ "java/lang/invoke/MethodHandle" ∧ yX12_far.cls ≠ "java/lang/invoke/VarHandle" ∧ dscN yX12_far.desc 3 := by unfold dscN; decide +kernel
theorem hy_X12_init : yX12_init.cls = RX12 ∧ yX12_init.cls ≠ "java/lang/invoke/MethodHandle" ∧ yX12_init.cls ≠ "java/lang/invoke/VarHandle" ∧ dscN yX12_init.desc 0 := by unfold dscN; decide +kernel
theorem hy_X13_far : yX13_far.cls = RX13 ∧ yX13_far.cls ≠ "java/lang/invoke/MethodHandle" ∧ yX13_far.cls ≠ "java/lang/invoke/VarHandle" ∧ dscN yX13_far.desc 3 := by unfold dscN; decide +kernel
theorem hy_X13_init : yX13_init.cls = RX13 ∧ yX13_init.cls ≠ "java/lang/invoke/MethodHandle" ∧ yX13_init.cls ≠ "java/lang/invoke/VarHandle" ∧ dscN yX13_init.desc 0 := by unfold dscN; decide +kernel
theorem hy_X14_far : yX14_far.cls = RX14 ∧ yX14_far.cls ≠ "java/lang/invoke/MethodHandle" ∧ yX14_far.cls ≠ "java/lang/invoke/VarHandle" ∧ dscN yX14_far.desc 3 := by unfold dscN; decide +kernel
theorem hy_X14_init : yX14_init.cls = RX14 ∧ yX14_init.cls ≠ "java/lang/invoke/MethodHandle" ∧ yX14_init.cls ≠ "java/lang/invoke/VarHandle" ∧ dscN yX14_init.desc 0 := by unfold dscN; decide +kernel
theorem hy_X15_far : yX15_far.cls = RX15 ∧ yX15_far.cls ≠ "java/lang/invoke/MethodHandle" ∧ yX15_far.cls ≠ "java/lang/invoke/VarHandle" ∧ dscN yX15_far.desc 3 := by unfold dscN; decide +kernel
theorem hy_X15_init : yX15_init.cls = RX15 ∧ yX15_init.cls ≠ "java/lang/invoke/MethodHandle" ∧ yX15_init.cls ≠ "java/lang/invoke/VarHandle" ∧ dscN yX15_init.desc 0 := by unfold dscN; decide +kernel
theorem hy_X16_far : yX16_far.cls = RX16 ∧ yX16_far.cls ≠ "java/lang/invoke/MethodHandle" ∧ yX16_far.cls ≠ "java/lang/invoke/VarHandle" ∧ dscN yX16_far.desc 3 := by unfold dscN; decide +kernel
theorem hy_X16_init : yX16_init.cls = RX16 ∧ yX16_init.cls ≠ "java/lang/invoke/MethodHandle" ∧ yX16_init.cls ≠ "java/lang/invoke/VarHandle" ∧ dscN yX16_init.desc 0 := by unfold dscN; decide +kernel
theorem hy_X17_init : yX17_init.cls = RX17 ∧ yX17_init.cls ≠ "java/lang/invoke/MethodHandle" ∧ yX17_init.cls ≠ "java/lang/invoke/VarHandle" ∧ dscN yX17_init.desc 2 := by unfold dscN; decide +kernel
theorem hy_X17_isAhead : yX17_isAhead.cls = RX17 ∧ yX17_isAhead.cls ≠ "java/lang/invoke/MethodHandle" ∧ yX17_isAhead.cls ≠ "java/lang/invoke/VarHandle" ∧ dscN yX17_isAhead.desc 3 := by unfold dscN; decide +kernel
theorem hy_X18_init : yX18_init.cls = RX18 ∧ yX18_init.cls ≠ "java/lang/invoke/MethodHandle" ∧ yX18_init.cls ≠ "java/lang/invoke/VarHandle" ∧ dscN yX18_init.desc 1 := by unfold dscN; decide +kernel
theorem hy_X18_number : yX18_number.cls = RX18 ∧ yX18_number.cls ≠ "java/lang/invoke/MethodHandle" ∧ yX18_number.cls ≠ "java/lang/invoke/VarHandle" ∧ dscN yX18_number.desc 0 := by unfold dscN; decide +kernel
theorem hy_X18_says : yX18_says.cls = RX18 ∧ yX18_says.cls ≠ "java/lang/invoke/MethodHandle" ∧ yX18_says.cls ≠ "java/lang/invoke/VarHandle" ∧ dscN yX18_says.desc 1 := by unfold dscN; decide +kernel
theorem hy_X19_init : yX19_init.cls = RX19 ∧ yX19_init.cls ≠ "java/lang/invoke/MethodHandle" ∧ yX19_init.cls ≠ "java/lang/invoke/VarHandle" ∧ dscN yX19_init.desc 0 := by unfold dscN; decide +kernel
theorem hy_X19_isRegular : yX19_isRegular.cls = RX19 ∧ yX19_isRegular.cls ≠ "java/lang/invoke/MethodHandle" ∧ yX19_isRegular.cls ≠ "java/lang/invoke/VarHandle" ∧ dscN yX19_isRegular.desc 0 := by unfold dscN; decide +kernel
theorem hy_X19_number : yX19_number.cls = RX19 ∧ yX19_number.cls ≠ "java/lang/invoke/MethodHandle" ∧ yX19_number.cls ≠ "java/lang/invoke/VarHandle" ∧ dscN yX19_number.desc 0 := by unfold dscN; decide +kernel
theorem hy_X1_bestCut : yX1_bestCut.cls = RX1 ∧ yX1_bestCut.cls ≠ "java/lang/invoke/MethodHandle" ∧ yX1_bestCut.cls ≠ "java/lang/invoke/VarHandle" ∧ dscN yX1_bestCut.desc 0 := by unfold dscN; decide +kernel
theorem hy_X1_bits : yX1_bits.cls = RX1 ∧ yX1_bits.cls ≠ "java/lang/invoke/MethodHandle" ∧ yX1_bits.cls ≠ "java/lang/invoke/VarHandle" ∧ dscN yX1_bits.desc 1 := by unfold dscN; decide +kernel
theorem hy_X1_byRule : yX1_byRule.cls = RX1 ∧ yX1_byRule.cls ≠ "java/lang/invoke/MethodHandle" ∧ yX1_byRule.cls ≠ "java/lang/invoke/VarHandle" ∧ dscN yX1_byRule.desc 2 := by unfold dscN; decide +kernel
theorem hy_X1_canLet : yX1_canLet.cls = RX1 ∧ yX1_canLet.cls ≠ "java/lang/invoke/MethodHandle" ∧ yX1_canLet.cls ≠ "java/lang/invoke/VarHandle" ∧ dscN yX1_canLet.desc 2 := by unfold dscN; decide +kernel
theorem hy_X1_cutAt : yX1_cutAt.cls = RX1 ∧ yX1_cutAt.cls ≠ "java/lang/invoke/MethodHandle" ∧ yX1_cutAt.cls ≠ "java/lang/invoke/VarHandle" ∧ dscN yX1_cutAt.desc 1 := by unfold dscN; decide +kernel
theorem hy_X1_denied : yX1_denied.cls = RX1 ∧ yX1_denied.cls ≠ "java/lang/invoke/MethodHandle" ∧ yX1_denied.cls ≠ "java/lang/invoke/VarHandle" ∧ dscN yX1_denied.desc 1 := by unfold dscN; decide +kernel
theorem hy_X1_granted : yX1_granted.cls = RX1 ∧ yX1_granted.cls ≠ "java/lang/invoke/MethodHandle" ∧ yX1_granted.cls ≠ "java/lang/invoke/VarHandle" ∧ dscN yX1_granted.desc 0 := by unfold dscN; decide +kernel
theorem hy_X1_holds : yX1_holds.cls = RX1 ∧ yX1_holds.cls ≠ "java/lang/invoke/MethodHandle" ∧ yX1_holds.cls ≠ "java/lang/invoke/VarHandle" ∧ dscN yX1_holds.desc 2 := by unfold dscN; decide +kernel
theorem hy_X1_in : yX1_in.cls = RX1 ∧ yX1_in.cls ≠ "java/lang/invoke/MethodHandle" ∧ yX1_in.cls ≠ "java/lang/invoke/VarHandle" ∧ dscN yX1_in.desc 3 := by unfold dscN; decide +kernel
theorem hy_X1_isAtRest : yX1_isAtRest.cls = RX1 ∧ yX1_isAtRest.cls ≠ "java/lang/invoke/MethodHandle" ∧ yX1_isAtRest.cls ≠ "java/lang/invoke/VarHandle" ∧ dscN yX1_isAtRest.desc 1 := by unfold dscN; decide +kernel
theorem hy_X1_isPerson : yX1_isPerson.cls = RX1 ∧ yX1_isPerson.cls ≠ "java/lang/invoke/MethodHandle" ∧ yX1_isPerson.cls ≠ "java/lang/invoke/VarHandle" ∧ dscN yX1_isPerson.desc 1 := by unfold dscN; decide +kernel
theorem hy_X1_isPlace : yX1_isPlace.cls = RX1 ∧ yX1_isPlace.cls ≠ "java/lang/invoke/MethodHandle" ∧ yX1_isPlace.cls ≠ "java/lang/invoke/VarHandle" ∧ dscN yX1_isPlace.desc 1 := by unfold dscN; decide +kernel
theorem hy_X1_isServer : yX1_isServer.cls = RX1 ∧ yX1_isServer.cls ≠ "java/lang/invoke/MethodHandle" ∧ yX1_isServer.cls ≠ "java/lang/invoke/VarHandle" ∧ dscN yX1_isServer.desc 1 := by unfold dscN; decide +kernel
theorem hy_X1_isWaiting : yX1_isWaiting.cls = RX1 ∧ yX1_isWaiting.cls ≠ "java/lang/invoke/MethodHandle" ∧ yX1_isWaiting.cls ≠ "java/lang/invoke/VarHandle" ∧ dscN yX1_isWaiting.desc 1 := by unfold dscN; decide +kernel
theorem hy_X1_lied : yX1_lied.cls = RX1 ∧ yX1_lied.cls ≠ "java/lang/invoke/MethodHandle" ∧ yX1_lied.cls ≠ "java/lang/invoke/VarHandle" ∧ dscN yX1_lied.desc 1 := by unfold dscN; decide +kernel
theorem hy_X1_lost : yX1_lost.cls = RX1 ∧ yX1_lost.cls ≠ "java/lang/invoke/MethodHandle" ∧ yX1_lost.cls ≠ "java/lang/invoke/VarHandle" ∧ dscN yX1_lost.desc 2 := by unfold dscN; decide +kernel
theorem hy_X1_mannerOf : yX1_mannerOf.cls = RX1 ∧ yX1_mannerOf.cls ≠ "java/lang/invoke/MethodHandle" ∧ yX1_mannerOf.cls ≠ "java/lang/invoke/VarHandle" ∧ dscN yX1_mannerOf.desc 2 := by unfold dscN; decide +kernel
theorem hy_X1_orders : yX1_orders.cls = RX1 ∧ yX1_orders.cls ≠ "java/lang/invoke/MethodHandle" ∧ yX1_orders.cls ≠ "java/lang/invoke/VarHandle" ∧ dscN yX1_orders.desc 1 := by unfold dscN; decide +kernel
theorem hy_X1_refused : yX1_refused.cls = RX1 ∧ yX1_refused.cls ≠ "java/lang/invoke/MethodHandle" ∧ yX1_refused.cls ≠ "java/lang/invoke/VarHandle" ∧ dscN yX1_refused.desc 1 := by unfold dscN; decide +kernel
theorem hy_X1_refusesCut : yX1_refusesCut.cls = RX1 ∧ yX1_refusesCut.cls ≠ "java/lang/invoke/MethodHandle" ∧ yX1_refusesCut.cls ≠ "java/lang/invoke/VarHandle" ∧ dscN yX1_refusesCut.desc 0 := by unfold dscN; decide +kernel
theorem hy_X1_refusesSet : yX1_refusesSet.cls = RX1 ∧ yX1_refusesSet.cls ≠ "java/lang/invoke/MethodHandle" ∧ yX1_refusesSet.cls ≠ "java/lang/invoke/VarHandle" ∧ dscN yX1_refusesSet.desc 1 := by unfold dscN; decide +kernel
theorem hy_X1_remembers : yX1_remembers.cls = RX1 ∧ yX1_remembers.cls ≠ "java/lang/invoke/MethodHandle" ∧ yX1_remembers.cls ≠ "java/lang/invoke/VarHandle" ∧ dscN yX1_remembers.desc 0 := by unfold dscN; decide +kernel
theorem hy_X1_ruleOf : yX1_ruleOf.cls = RX1 ∧ yX1_ruleOf.cls ≠ "java/lang/invoke/MethodHandle" ∧ yX1_ruleOf.cls ≠ "java/lang/invoke/VarHandle" ∧ dscN yX1_ruleOf.desc 1 := by unfold dscN; decide +kernel
theorem hy_X1_shows : yX1_shows.cls = RX1 ∧ yX1_shows.cls ≠ "java/lang/invoke/MethodHandle" ∧ yX1_shows.cls ≠ "java/lang/invoke/VarHandle" ∧ dscN yX1_shows.desc 1 := by unfold dscN; decide +kernel
theorem hy_X1_toCome : yX1_toCome.cls = RX1 ∧ yX1_toCome.cls ≠ "java/lang/invoke/MethodHandle" ∧ yX1_toCome.cls ≠ "java/lang/invoke/VarHandle" ∧ dscN yX1_toCome.desc 0 := by unfold dscN; decide +kernel
theorem hy_X1_tries : yX1_tries.cls = RX1 ∧ yX1_tries.cls ≠ "java/lang/invoke/MethodHandle" ∧ yX1_tries.cls ≠ "java/lang/invoke/VarHandle" ∧ dscN yX1_tries.desc 0 := by unfold dscN; decide +kernel
theorem hy_X1_waitingNow : yX1_waitingNow.cls = RX1 ∧ yX1_waitingNow.cls ≠ "java/lang/invoke/MethodHandle" ∧ yX1_waitingNow.cls ≠ "java/lang/invoke/VarHandle" ∧ dscN yX1_waitingNow.desc 0 := by unfold dscN; decide +kernel
theorem hy_X1_well : yX1_well.cls = RX1 ∧ yX1_well.cls ≠ "java/lang/invoke/MethodHandle" ∧ yX1_well.cls ≠ "java/lang/invoke/VarHandle" ∧ dscN yX1_well.desc 1 := by unfold dscN; decide +kernel
theorem hy_X20_init : yX20_init.cls = RX20 ∧ yX20_init.cls ≠ "java/lang/invoke/MethodHandle" ∧ yX20_init.cls ≠ "java/lang/invoke/VarHandle" ∧ dscN yX20_init.desc 3 := by unfold dscN; decide +kernel
theorem hy_X21_adds : yX21_adds.cls = RX21 ∧ yX21_adds.cls ≠ "java/lang/invoke/MethodHandle" ∧ yX21_adds.cls ≠ "java/lang/invoke/VarHandle" ∧ dscN yX21_adds.desc 1 := by unfold dscN; decide +kernel
theorem hy_X21_begins : yX21_begins.cls = RX21 ∧ yX21_begins.cls ≠ "java/lang/invoke/MethodHandle" ∧ yX21_begins.cls ≠ "java/lang/invoke/VarHandle" ∧ dscN yX21_begins.desc 3 := by unfold dscN; decide +kernel
theorem hy_X21_busyHands : yX21_busyHands.cls = RX21 ∧ yX21_busyHands.cls ≠ "java/lang/invoke/MethodHandle" ∧ yX21_busyHands.cls ≠ "java/lang/invoke/VarHandle" ∧ dscN yX21_busyHands.desc 1 := by unfold dscN; decide +kernel
theorem hy_X21_copy : yX21_copy.cls = RX21 ∧ yX21_copy.cls ≠ "java/lang/invoke/MethodHandle" ∧ yX21_copy.cls ≠ "java/lang/invoke/VarHandle" ∧ dscN yX21_copy.desc 0 := by unfold dscN; decide +kernel
theorem hy_X21_doesNow : yX21_doesNow.cls = RX21 ∧ yX21_doesNow.cls ≠ "java/lang/invoke/MethodHandle" ∧ yX21_doesNow.cls ≠ "java/lang/invoke/VarHandle" ∧ dscN yX21_doesNow.desc 1 := by unfold dscN; decide +kernel
theorem hy_X21_ends : yX21_ends.cls = RX21 ∧ yX21_ends.cls ≠ "java/lang/invoke/MethodHandle" ∧ yX21_ends.cls ≠ "java/lang/invoke/VarHandle" ∧ dscN yX21_ends.desc 2 := by unfold dscN; decide +kernel
theorem hy_X21_evening : yX21_evening.cls = RX21 ∧ yX21_evening.cls ≠ "java/lang/invoke/MethodHandle" ∧ yX21_evening.cls ≠ "java/lang/invoke/VarHandle" ∧ dscN yX21_evening.desc 0 := by unfold dscN; decide +kernel
theorem hy_X21_fate : yX21_fate.cls = RX21 ∧ yX21_fate.cls ≠ "java/lang/invoke/MethodHandle" ∧ yX21_fate.cls ≠ "java/lang/invoke/VarHandle" ∧ dscN yX21_fate.desc 1 := by unfold dscN; decide +kernel
theorem hy_X21_firstFree : yX21_firstFree.cls = RX21 ∧ yX21_firstFree.cls ≠ "java/lang/invoke/MethodHandle" ∧ yX21_firstFree.cls ≠ "java/lang/invoke/VarHandle" ∧ dscN yX21_firstFree.desc 1 := by unfold dscN; decide +kernel
theorem hy_X21_freeHand : yX21_freeHand.cls = RX21 ∧ yX21_freeHand.cls ≠ "java/lang/invoke/MethodHandle" ∧ yX21_freeHand.cls ≠ "java/lang/invoke/VarHandle" ∧ dscN yX21_freeHand.desc 1 := by unfold dscN; decide +kernel
theorem hy_X21_goes : yX21_goes.cls = RX21 ∧ yX21_goes.cls ≠ "java/lang/invoke/MethodHandle" ∧ yX21_goes.cls ≠ "java/lang/invoke/VarHandle" ∧ dscN yX21_goes.desc 0 := by unfold dscN; decide +kernel
theorem hy_X21_hasIt : yX21_hasIt.cls = RX21 ∧ yX21_hasIt.cls ≠ "java/lang/invoke/MethodHandle" ∧ yX21_hasIt.cls ≠ "java/lang/invoke/VarHandle" ∧ dscN yX21_hasIt.desc 1 := by unfold dscN; decide +kernel
theorem hy_X21_init : yX21_init.cls = RX21 ∧ yX21_init.cls ≠ "java/lang/invoke/MethodHandle" ∧ yX21_init.cls ≠ "java/lang/invoke/VarHandle" ∧ dscN yX21_init.desc 1 := by unfold dscN; decide +kernel
theorem hy_X21_isOnStretch : yX21_isOnStretch.cls = RX21 ∧ yX21_isOnStretch.cls ≠ "java/lang/invoke/MethodHandle" ∧ yX21_isOnStretch.cls ≠ "java/lang/invoke/VarHandle" ∧ dscN yX21_isOnStretch.desc 2 := by unfold dscN; decide +kernel
theorem hy_X21_isSooner : yX21_isSooner.cls = RX21 ∧ yX21_isSooner.cls ≠ "java/lang/invoke/MethodHandle" ∧ yX21_isSooner.cls ≠ "java/lang/invoke/VarHandle" ∧ dscN yX21_isSooner.desc 3 := by unfold dscN; decide +kernel
theorem hy_X21_next : yX21_next.cls = RX21 ∧ yX21_next.cls ≠ "java/lang/invoke/MethodHandle" ∧ yX21_next.cls ≠ "java/lang/invoke/VarHandle" ∧ dscN yX21_next.desc 1 := by unfold dscN; decide +kernel
theorem hy_X21_serves : yX21_serves.cls = RX21 ∧ yX21_serves.cls ≠ "java/lang/invoke/MethodHandle" ∧ yX21_serves.cls ≠ "java/lang/invoke/VarHandle" ∧ dscN yX21_serves.desc 1 := by unfold dscN; decide +kernel
theorem hy_X21_sum : yX21_sum.cls = RX21 ∧ yX21_sum.cls ≠ "java/lang/invoke/MethodHandle" ∧ yX21_sum.cls ≠ "java/lang/invoke/VarHandle" ∧ dscN yX21_sum.desc 1 := by unfold dscN; decide +kernel
theorem hy_X21_takes : yX21_takes.cls = RX21 ∧ yX21_takes.cls ≠ "java/lang/invoke/MethodHandle" ∧ yX21_takes.cls ≠ "java/lang/invoke/VarHandle" ∧ dscN yX21_takes.desc 1 := by unfold dscN; decide +kernel
theorem hy_X21_takesManner : yX21_takesManner.cls = RX21 ∧ yX21_takesManner.cls ≠ "java/lang/invoke/MethodHandle" ∧ yX21_takesManner.cls ≠ "java/lang/invoke/VarHandle" ∧ dscN yX21_takesManner.desc 2 := by unfold dscN; decide +kernel
theorem hy_X21_time : yX21_time.cls = RX21 ∧ yX21_time.cls ≠ "java/lang/invoke/MethodHandle" ∧ yX21_time.cls ≠ "java/lang/invoke/VarHandle" ∧ dscN yX21_time.desc 2 := by unfold dscN; decide +kernel
theorem hy_X21_waits : yX21_waits.cls = RX21 ∧ yX21_waits.cls ≠ "java/lang/invoke/MethodHandle" ∧ yX21_waits.cls ≠ "java/lang/invoke/VarHandle" ∧ dscN yX21_waits.desc 1 := by unfold dscN; decide +kernel
theorem hy_X22_at : yX22_at.cls = RX22 ∧ yX22_at.cls ≠ "java/lang/invoke/MethodHandle" ∧ yX22_at.cls ≠ "java/lang/invoke/VarHandle" ∧ dscN yX22_at.desc 1 := by unfold dscN; decide +kernel
theorem hy_X22_goes : yX22_goes.cls = RX22 ∧ yX22_goes.cls ≠ "java/lang/invoke/MethodHandle" ∧ yX22_goes.cls ≠ "java/lang/invoke/VarHandle" ∧ dscN yX22_goes.desc 6 := by unfold dscN; decide +kernel
theorem hy_X22_init : yX22_init.cls = RX22 ∧ yX22_init.cls ≠ "java/lang/invoke/MethodHandle" ∧ yX22_init.cls ≠ "java/lang/invoke/VarHandle" ∧ dscN yX22_init.desc 4 := by unfold dscN; decide +kernel
theorem hy_X23_canBe : yX23_canBe.cls = RX23 ∧ yX23_canBe.cls ≠ "java/lang/invoke/MethodHandle" ∧ yX23_canBe.cls ≠ "java/lang/invoke/VarHandle" ∧ dscN yX23_canBe.desc 1 := by unfold dscN; decide +kernel
theorem hy_X23_init : yX23_init.cls = RX23 ∧ yX23_init.cls ≠ "java/lang/invoke/MethodHandle" ∧ yX23_init.cls ≠ "java/lang/invoke/VarHandle" ∧ dscN yX23_init.desc 1 := by unfold dscN; decide +kernel
theorem hy_X23_isAhead : yX23_isAhead.cls = RX23 ∧ yX23_isAhead.cls ≠ "java/lang/invoke/MethodHandle" ∧ yX23_isAhead.cls ≠ "java/lang/invoke/VarHandle" ∧ dscN yX23_isAhead.desc 2 := by unfold dscN; decide +kernel
theorem hy_X23_liars : yX23_liars.cls = RX23 ∧ yX23_liars.cls ≠ "java/lang/invoke/MethodHandle" ∧ yX23_liars.cls ≠ "java/lang/invoke/VarHandle" ∧ dscN yX23_liars.desc 0 := by unfold dscN; decide +kernel
theorem hy_X2_init : yX2_init.cls = RX2 ∧ yX2_init.cls ≠ "java/lang/invoke/MethodHandle" ∧ yX2_init.cls ≠ "java/lang/invoke/VarHandle" ∧ dscN yX2_init.desc 1 := by unfold dscN; decide +kernel
theorem hy_X2_isRegular : yX2_isRegular.cls = RX2 ∧ yX2_isRegular.cls ≠ "java/lang/invoke/MethodHandle" ∧ yX2_isRegular.cls ≠ "java/lang/invoke/VarHandle" ∧ dscN yX2_isRegular.desc 0 := by unfold dscN; decide +kernel
theorem hy_X2_number : yX2_number.cls = RX2 ∧ yX2_number.cls ≠ "java/lang/invoke/MethodHandle" ∧ yX2_number.cls ≠ "java/lang/invoke/VarHandle" ∧ dscN yX2_number.desc 0 := by unfold dscN; decide +kernel
theorem hy_X2_says : yX2_says.cls = RX2 ∧ yX2_says.cls ≠ "java/lang/invoke/MethodHandle" ∧ yX2_says.cls ≠ "java/lang/invoke/VarHandle" ∧ dscN yX2_says.desc 1 := by unfold dscN; decide +kernel
theorem hy_X3_init : yX3_init.cls = RX3 ∧ yX3_init.cls ≠ "java/lang/invoke/MethodHandle" ∧ yX3_init.cls ≠ "java/lang/invoke/VarHandle" ∧ dscN yX3_init.desc 1 := by unfold dscN; decide +kernel
theorem hy_X3_number : yX3_number.cls = RX3 ∧ yX3_number.cls ≠ "java/lang/invoke/MethodHandle" ∧ yX3_number.cls ≠ "java/lang/invoke/VarHandle" ∧ dscN yX3_number.desc 0 := by unfold dscN; decide +kernel
theorem hy_X3_says : yX3_says.cls = RX3 ∧ yX3_says.cls ≠ "java/lang/invoke/MethodHandle" ∧ yX3_says.cls ≠ "java/lang/invoke/VarHandle" ∧ dscN yX3_says.desc 1 := by unfold dscN; decide +kernel
theorem hy_X4_after : yX4_after.cls = RX4 ∧ yX4_after.cls ≠ "java/lang/invoke/MethodHandle" ∧ yX4_after.cls ≠ "java/lang/invoke/VarHandle" ∧ dscN yX4_after.desc 3 := by unfold dscN; decide +kernel
theorem hy_X4_allPeople : yX4_allPeople.cls = RX4 ∧ yX4_allPeople.cls ≠ "java/lang/invoke/MethodHandle" ∧ yX4_allPeople.cls ≠ "java/lang/invoke/VarHandle" ∧ dscN yX4_allPeople.desc 0 := by unfold dscN; decide +kernel
theorem hy_X4_asTold : yX4_asTold.cls = RX4 ∧ yX4_asTold.cls ≠ "java/lang/invoke/MethodHandle" ∧ yX4_asTold.cls ≠ "java/lang/invoke/VarHandle" ∧ dscN yX4_asTold.desc 0 := by unfold dscN; decide +kernel
theorem hy_X4_beOf : yX4_beOf.cls = RX4 ∧ yX4_beOf.cls ≠ "java/lang/invoke/MethodHandle" ∧ yX4_beOf.cls ≠ "java/lang/invoke/VarHandle" ∧ dscN yX4_beOf.desc 2 := by unfold dscN; decide +kernel
theorem hy_X4_begin : yX4_begin.cls = RX4 ∧ yX4_begin.cls ≠ "java/lang/invoke/MethodHandle" ∧ yX4_begin.cls ≠ "java/lang/invoke/VarHandle" ∧ dscN yX4_begin.desc 3 := by unfold dscN; decide +kernel
theorem hy_X4_begins : yX4_begins.cls = RX4 ∧ yX4_begins.cls ≠ "java/lang/invoke/MethodHandle" ∧ yX4_begins.cls ≠ "java/lang/invoke/VarHandle" ∧ dscN yX4_begins.desc 2 := by unfold dscN; decide +kernel
theorem hy_X4_canNotLet : yX4_canNotLet.cls = RX4 ∧ yX4_canNotLet.cls ≠ "java/lang/invoke/MethodHandle" ∧ yX4_canNotLet.cls ≠ "java/lang/invoke/VarHandle" ∧ dscN yX4_canNotLet.desc 2 := by unfold dscN; decide +kernel
theorem hy_X4_comma : yX4_comma.cls = RX4 ∧ yX4_comma.cls ≠ "java/lang/invoke/MethodHandle" ∧ yX4_comma.cls ≠ "java/lang/invoke/VarHandle" ∧ dscN yX4_comma.desc 0 := by unfold dscN; decide +kernel
theorem hy_X4_copy : yX4_copy.cls = RX4 ∧ yX4_copy.cls ≠ "java/lang/invoke/MethodHandle" ∧ yX4_copy.cls ≠ "java/lang/invoke/VarHandle" ∧ dscN yX4_copy.desc 5 := by unfold dscN; decide +kernel
theorem hy_X4_costsOf : yX4_costsOf.cls = RX4 ∧ yX4_costsOf.cls ≠ "java/lang/invoke/MethodHandle" ∧ yX4_costsOf.cls ≠ "java/lang/invoke/VarHandle" ∧ dscN yX4_costsOf.desc 1 := by unfold dscN; decide +kernel
theorem hy_X4_cutWhy : yX4_cutWhy.cls = RX4 ∧ yX4_cutWhy.cls ≠ "java/lang/invoke/MethodHandle" ∧ yX4_cutWhy.cls ≠ "java/lang/invoke/VarHandle" ∧ dscN yX4_cutWhy.desc 0 := by unfold dscN; decide +kernel
theorem hy_X4_drinkLine : yX4_drinkLine.cls = RX4 ∧ yX4_drinkLine.cls ≠ "java/lang/invoke/MethodHandle" ∧ yX4_drinkLine.cls ≠ "java/lang/invoke/VarHandle" ∧ dscN yX4_drinkLine.desc 0 := by unfold dscN; decide +kernel
theorem hy_X4_evening : yX4_evening.cls = RX4 ∧ yX4_evening.cls ≠ "java/lang/invoke/MethodHandle" ∧ yX4_evening.cls ≠ "java/lang/invoke/VarHandle" ∧ dscN yX4_evening.desc 0 := by unfold dscN; decide +kernel
theorem hy_X4_far : yX4_far.cls = RX4 ∧ yX4_far.cls ≠ "java/lang/invoke/MethodHandle" ∧ yX4_far.cls ≠ "java/lang/invoke/VarHandle" ∧ dscN yX4_far.desc 2 := by unfold dscN; decide +kernel
theorem hy_X4_fateOf : yX4_fateOf.cls = RX4 ∧ yX4_fateOf.cls ≠ "java/lang/invoke/MethodHandle" ∧ yX4_fateOf.cls ≠ "java/lang/invoke/VarHandle" ∧ dscN yX4_fateOf.desc 1 := by unfold dscN; decide +kernel
theorem hy_X4_find : yX4_find.cls = RX4 ∧ yX4_find.cls ≠ "java/lang/invoke/MethodHandle" ∧ yX4_find.cls ≠ "java/lang/invoke/VarHandle" ∧ dscN yX4_find.desc 0 := by unfold dscN; decide +kernel
theorem hy_X4_good : yX4_good.cls = RX4 ∧ yX4_good.cls ≠ "java/lang/invoke/MethodHandle" ∧ yX4_good.cls ≠ "java/lang/invoke/VarHandle" ∧ dscN yX4_good.desc 0 := by unfold dscN; decide +kernel
theorem hy_X4_hasBit : yX4_hasBit.cls = RX4 ∧ yX4_hasBit.cls ≠ "java/lang/invoke/MethodHandle" ∧ yX4_hasBit.cls ≠ "java/lang/invoke/VarHandle" ∧ dscN yX4_hasBit.desc 2 := by unfold dscN; decide +kernel
theorem hy_X4_hasCome : yX4_hasCome.cls = RX4 ∧ yX4_hasCome.cls ≠ "java/lang/invoke/MethodHandle" ∧ yX4_hasCome.cls ≠ "java/lang/invoke/VarHandle" ∧ dscN yX4_hasCome.desc 1 := by unfold dscN; decide +kernel
theorem hy_X4_houseLine : yX4_houseLine.cls = RX4 ∧ yX4_houseLine.cls ≠ "java/lang/invoke/MethodHandle" ∧ yX4_houseLine.cls ≠ "java/lang/invoke/VarHandle" ∧ dscN yX4_houseLine.desc 0 := by unfold dscN; decide +kernel
theorem hy_X4_isAtRest : yX4_isAtRest.cls = RX4 ∧ yX4_isAtRest.cls ≠ "java/lang/invoke/MethodHandle" ∧ yX4_isAtRest.cls ≠ "java/lang/invoke/VarHandle" ∧ dscN yX4_isAtRest.desc 1 := by unfold dscN; decide +kernel
theorem hy_X4_isBehind : yX4_isBehind.cls = RX4 ∧ yX4_isBehind.cls ≠ "java/lang/invoke/MethodHandle" ∧ yX4_isBehind.cls ≠ "java/lang/invoke/VarHandle" ∧ dscN yX4_isBehind.desc 2 := by unfold dscN; decide +kernel
theorem hy_X4_isDigit : yX4_isDigit.cls = RX4 ∧ yX4_isDigit.cls ≠ "java/lang/invoke/MethodHandle" ∧ yX4_isDigit.cls ≠ "java/lang/invoke/VarHandle" ∧ dscN yX4_isDigit.desc 1 := by unfold dscN; decide +kernel
theorem hy_X4_isDrink : yX4_isDrink.cls = RX4 ∧ yX4_isDrink.cls ≠ "java/lang/invoke/MethodHandle" ∧ yX4_isDrink.cls ≠ "java/lang/invoke/VarHandle" ∧ dscN yX4_isDrink.desc 1 := by unfold dscN; decide +kernel
theorem hy_X4_isNot : yX4_isNot.cls = RX4 ∧ yX4_isNot.cls ≠ "java/lang/invoke/MethodHandle" ∧ yX4_isNot.cls ≠ "java/lang/invoke/VarHandle" ∧ dscN yX4_isNot.desc 1 := by unfold dscN; decide +kernel
theorem hy_X4_isPerson : yX4_isPerson.cls = RX4 ∧ yX4_isPerson.cls ≠ "java/lang/invoke/MethodHandle" ∧ yX4_isPerson.cls ≠ "java/lang/invoke/VarHandle" ∧ dscN yX4_isPerson.desc 1 := by unfold dscN; decide +kernel
theorem hy_X4_isSmall : yX4_isSmall.cls = RX4 ∧ yX4_isSmall.cls ≠ "java/lang/invoke/MethodHandle" ∧ yX4_isSmall.cls ≠ "java/lang/invoke/VarHandle" ∧ dscN yX4_isSmall.desc 1 := by unfold dscN; decide +kernel
theorem hy_X4_isSpot : yX4_isSpot.cls = RX4 ∧ yX4_isSpot.cls ≠ "java/lang/invoke/MethodHandle" ∧ yX4_isSpot.cls ≠ "java/lang/invoke/VarHandle" ∧ dscN yX4_isSpot.desc 1 := by unfold dscN; decide +kernel
theorem hy_X4_isStaff : yX4_isStaff.cls = RX4 ∧ yX4_isStaff.cls ≠ "java/lang/invoke/MethodHandle" ∧ yX4_isStaff.cls ≠ "java/lang/invoke/VarHandle" ∧ dscN yX4_isStaff.desc 1 := by unfold dscN; decide +kernel
theorem hy_X4_isWaiting : yX4_isWaiting.cls = RX4 ∧ yX4_isWaiting.cls ≠ "java/lang/invoke/MethodHandle" ∧ yX4_isWaiting.cls ≠ "java/lang/invoke/VarHandle" ∧ dscN yX4_isWaiting.desc 2 := by unfold dscN; decide +kernel
theorem hy_X4_isWord : yX4_isWord.cls = RX4 ∧ yX4_isWord.cls ≠ "java/lang/invoke/MethodHandle" ∧ yX4_isWord.cls ≠ "java/lang/invoke/VarHandle" ∧ dscN yX4_isWord.desc 1 := by unfold dscN; decide +kernel
theorem hy_X4_its : yX4_its.cls = RX4 ∧ yX4_its.cls ≠ "java/lang/invoke/MethodHandle" ∧ yX4_its.cls ≠ "java/lang/invoke/VarHandle" ∧ dscN yX4_its.desc 3 := by unfold dscN; decide +kernel
theorem hy_X4_layFirst : yX4_layFirst.cls = RX4 ∧ yX4_layFirst.cls ≠ "java/lang/invoke/MethodHandle" ∧ yX4_layFirst.cls ≠ "java/lang/invoke/VarHandle" ∧ dscN yX4_layFirst.desc 1 := by unfold dscN; decide +kernel
theorem hy_X4_layHonest : yX4_layHonest.cls = RX4 ∧ yX4_layHonest.cls ≠ "java/lang/invoke/MethodHandle" ∧ yX4_layHonest.cls ≠ "java/lang/invoke/VarHandle" ∧ dscN yX4_layHonest.desc 1 := by unfold dscN; decide +kernel
theorem hy_X4_layRule : yX4_layRule.cls = RX4 ∧ yX4_layRule.cls ≠ "java/lang/invoke/MethodHandle" ∧ yX4_layRule.cls ≠ "java/lang/invoke/VarHandle" ∧ dscN yX4_layRule.desc 2 := by unfold dscN; decide +kernel
theorem hy_X4_layTellings : yX4_layTellings.cls = RX4 ∧ yX4_layTellings.cls ≠ "java/lang/invoke/MethodHandle" ∧ yX4_layTellings.cls ≠ "java/lang/invoke/VarHandle" ∧ dscN yX4_layTellings.desc 1 := by unfold dscN; decide +kernel
theorem hy_X4_liarsOf : yX4_liarsOf.cls = RX4 ∧ yX4_liarsOf.cls ≠ "java/lang/invoke/MethodHandle" ∧ yX4_liarsOf.cls ≠ "java/lang/invoke/VarHandle" ∧ dscN yX4_liarsOf.desc 0 := by unfold dscN; decide +kernel
theorem hy_X4_man : yX4_man.cls = RX4 ∧ yX4_man.cls ≠ "java/lang/invoke/MethodHandle" ∧ yX4_man.cls ≠ "java/lang/invoke/VarHandle" ∧ dscN yX4_man.desc 2 := by unfold dscN; decide +kernel
theorem hy_X4_manyWaiting : yX4_manyWaiting.cls = RX4 ∧ yX4_manyWaiting.cls ≠ "java/lang/invoke/MethodHandle" ∧ yX4_manyWaiting.cls ≠ "java/lang/invoke/VarHandle" ∧ dscN yX4_manyWaiting.desc 1 := by unfold dscN; decide +kernel
theorem hy_X4_must : yX4_must.cls = RX4 ∧ yX4_must.cls ≠ "java/lang/invoke/MethodHandle" ∧ yX4_must.cls ≠ "java/lang/invoke/VarHandle" ∧ dscN yX4_must.desc 1 := by unfold dscN; decide +kernel
theorem hy_X4_mustName : yX4_mustName.cls = RX4 ∧ yX4_mustName.cls ≠ "java/lang/invoke/MethodHandle" ∧ yX4_mustName.cls ≠ "java/lang/invoke/VarHandle" ∧ dscN yX4_mustName.desc 0 := by unfold dscN; decide +kernel
theorem hy_X4_named : yX4_named.cls = RX4 ∧ yX4_named.cls ≠ "java/lang/invoke/MethodHandle" ∧ yX4_named.cls ≠ "java/lang/invoke/VarHandle" ∧ dscN yX4_named.desc 2 := by unfold dscN; decide +kernel
theorem hy_X4_newName : yX4_newName.cls = RX4 ∧ yX4_newName.cls ≠ "java/lang/invoke/MethodHandle" ∧ yX4_newName.cls ≠ "java/lang/invoke/VarHandle" ∧ dscN yX4_newName.desc 1 := by unfold dscN; decide +kernel
theorem hy_X4_nextFor : yX4_nextFor.cls = RX4 ∧ yX4_nextFor.cls ≠ "java/lang/invoke/MethodHandle" ∧ yX4_nextFor.cls ≠ "java/lang/invoke/VarHandle" ∧ dscN yX4_nextFor.desc 2 := by unfold dscN; decide +kernel
theorem hy_X4_nextToken : yX4_nextToken.cls = RX4 ∧ yX4_nextToken.cls ≠ "java/lang/invoke/MethodHandle" ∧ yX4_nextToken.cls ≠ "java/lang/invoke/VarHandle" ∧ dscN yX4_nextToken.desc 0 := by unfold dscN; decide +kernel
theorem hy_X4_no : yX4_no.cls = RX4 ∧ yX4_no.cls ≠ "java/lang/invoke/MethodHandle" ∧ yX4_no.cls ≠ "java/lang/invoke/VarHandle" ∧ dscN yX4_no.desc 1 := by unfold dscN; decide +kernel
theorem hy_X4_noLess : yX4_noLess.cls = RX4 ∧ yX4_noLess.cls ≠ "java/lang/invoke/MethodHandle" ∧ yX4_noLess.cls ≠ "java/lang/invoke/VarHandle" ∧ dscN yX4_noLess.desc 1 := by unfold dscN; decide +kernel
theorem hy_X4_note : yX4_note.cls = RX4 ∧ yX4_note.cls ≠ "java/lang/invoke/MethodHandle" ∧ yX4_note.cls ≠ "java/lang/invoke/VarHandle" ∧ dscN yX4_note.desc 0 := by unfold dscN; decide +kernel
theorem hy_X4_number : yX4_number.cls = RX4 ∧ yX4_number.cls ≠ "java/lang/invoke/MethodHandle" ∧ yX4_number.cls ≠ "java/lang/invoke/VarHandle" ∧ dscN yX4_number.desc 2 := by unfold dscN; decide +kernel
theorem hy_X4_ones : yX4_ones.cls = RX4 ∧ yX4_ones.cls ≠ "java/lang/invoke/MethodHandle" ∧ yX4_ones.cls ≠ "java/lang/invoke/VarHandle" ∧ dscN yX4_ones.desc 1 := by unfold dscN; decide +kernel
theorem hy_X4_passedOf : yX4_passedOf.cls = RX4 ∧ yX4_passedOf.cls ≠ "java/lang/invoke/MethodHandle" ∧ yX4_passedOf.cls ≠ "java/lang/invoke/VarHandle" ∧ dscN yX4_passedOf.desc 1 := by unfold dscN; decide +kernel
theorem hy_X4_personHere : yX4_personHere.cls = RX4 ∧ yX4_personHere.cls ≠ "java/lang/invoke/MethodHandle" ∧ yX4_personHere.cls ≠ "java/lang/invoke/VarHandle" ∧ dscN yX4_personHere.desc 0 := by unfold dscN; decide +kernel
theorem hy_X4_personLine : yX4_personLine.cls = RX4 ∧ yX4_personLine.cls ≠ "java/lang/invoke/MethodHandle" ∧ yX4_personLine.cls ≠ "java/lang/invoke/VarHandle" ∧ dscN yX4_personLine.desc 0 := by unfold dscN; decide +kernel
theorem hy_X4_personPassed : yX4_personPassed.cls = RX4 ∧ yX4_personPassed.cls ≠ "java/lang/invoke/MethodHandle" ∧ yX4_personPassed.cls ≠ "java/lang/invoke/VarHandle" ∧ dscN yX4_personPassed.desc 0 := by unfold dscN; decide +kernel
theorem hy_X4_pushedOf : yX4_pushedOf.cls = RX4 ∧ yX4_pushedOf.cls ≠ "java/lang/invoke/MethodHandle" ∧ yX4_pushedOf.cls ≠ "java/lang/invoke/VarHandle" ∧ dscN yX4_pushedOf.desc 1 := by unfold dscN; decide +kernel
theorem hy_X4_readLine : yX4_readLine.cls = RX4 ∧ yX4_readLine.cls ≠ "java/lang/invoke/MethodHandle" ∧ yX4_readLine.cls ≠ "java/lang/invoke/VarHandle" ∧ dscN yX4_readLine.desc 0 := by unfold dscN; decide +kernel
theorem hy_X4_rowFrom : yX4_rowFrom.cls = RX4 ∧ yX4_rowFrom.cls ≠ "java/lang/invoke/MethodHandle" ∧ yX4_rowFrom.cls ≠ "java/lang/invoke/VarHandle" ∧ dscN yX4_rowFrom.desc 6 := by unfold dscN; decide +kernel
theorem hy_X4_rowWhy : yX4_rowWhy.cls = RX4 ∧ yX4_rowWhy.cls ≠ "java/lang/invoke/MethodHandle" ∧ yX4_rowWhy.cls ≠ "java/lang/invoke/VarHandle" ∧ dscN yX4_rowWhy.desc 1 := by unfold dscN; decide +kernel
theorem hy_X4_saysFirst : yX4_saysFirst.cls = RX4 ∧ yX4_saysFirst.cls ≠ "java/lang/invoke/MethodHandle" ∧ yX4_saysFirst.cls ≠ "java/lang/invoke/VarHandle" ∧ dscN yX4_saysFirst.desc 1 := by unfold dscN; decide +kernel
theorem hy_X4_saysLine : yX4_saysLine.cls = RX4 ∧ yX4_saysLine.cls ≠ "java/lang/invoke/MethodHandle" ∧ yX4_saysLine.cls ≠ "java/lang/invoke/VarHandle" ∧ dscN yX4_saysLine.desc 0 := by unfold dscN; decide +kernel
theorem hy_X4_second : yX4_second.cls = RX4 ∧ yX4_second.cls ≠ "java/lang/invoke/MethodHandle" ∧ yX4_second.cls ≠ "java/lang/invoke/VarHandle" ∧ dscN yX4_second.desc 1 := by unfold dscN; decide +kernel
theorem hy_X4_seen : yX4_seen.cls = RX4 ∧ yX4_seen.cls ≠ "java/lang/invoke/MethodHandle" ∧ yX4_seen.cls ≠ "java/lang/invoke/VarHandle" ∧ dscN yX4_seen.desc 1 := by unfold dscN; decide +kernel
theorem hy_X4_setWhy : yX4_setWhy.cls = RX4 ∧ yX4_setWhy.cls ≠ "java/lang/invoke/MethodHandle" ∧ yX4_setWhy.cls ≠ "java/lang/invoke/VarHandle" ∧ dscN yX4_setWhy.desc 1 := by unfold dscN; decide +kernel
theorem hy_X4_shelfLine : yX4_shelfLine.cls = RX4 ∧ yX4_shelfLine.cls ≠ "java/lang/invoke/MethodHandle" ∧ yX4_shelfLine.cls ≠ "java/lang/invoke/VarHandle" ∧ dscN yX4_shelfLine.desc 0 := by unfold dscN; decide +kernel
theorem hy_X4_staffLine : yX4_staffLine.cls = RX4 ∧ yX4_staffLine.cls ≠ "java/lang/invoke/MethodHandle" ∧ yX4_staffLine.cls ≠ "java/lang/invoke/VarHandle" ∧ dscN yX4_staffLine.desc 0 := by unfold dscN; decide +kernel
theorem hy_X4_sumOf : yX4_sumOf.cls = RX4 ∧ yX4_sumOf.cls ≠ "java/lang/invoke/MethodHandle" ∧ yX4_sumOf.cls ≠ "java/lang/invoke/VarHandle" ∧ dscN yX4_sumOf.desc 1 := by unfold dscN; decide +kernel
theorem hy_X4_takesWord : yX4_takesWord.cls = RX4 ∧ yX4_takesWord.cls ≠ "java/lang/invoke/MethodHandle" ∧ yX4_takesWord.cls ≠ "java/lang/invoke/VarHandle" ∧ dscN yX4_takesWord.desc 1 := by unfold dscN; decide +kernel
theorem hy_X4_tellEvening : yX4_tellEvening.cls = RX4 ∧ yX4_tellEvening.cls ≠ "java/lang/invoke/MethodHandle" ∧ yX4_tellEvening.cls ≠ "java/lang/invoke/VarHandle" ∧ dscN yX4_tellEvening.desc 0 := by unfold dscN; decide +kernel
theorem hy_X4_timeBehind : yX4_timeBehind.cls = RX4 ∧ yX4_timeBehind.cls ≠ "java/lang/invoke/MethodHandle" ∧ yX4_timeBehind.cls ≠ "java/lang/invoke/VarHandle" ∧ dscN yX4_timeBehind.desc 2 := by unfold dscN; decide +kernel
theorem hy_X4_timeOf : yX4_timeOf.cls = RX4 ∧ yX4_timeOf.cls ≠ "java/lang/invoke/MethodHandle" ∧ yX4_timeOf.cls ≠ "java/lang/invoke/VarHandle" ∧ dscN yX4_timeOf.desc 3 := by unfold dscN; decide +kernel
theorem hy_X4_turn : yX4_turn.cls = RX4 ∧ yX4_turn.cls ≠ "java/lang/invoke/MethodHandle" ∧ yX4_turn.cls ≠ "java/lang/invoke/VarHandle" ∧ dscN yX4_turn.desc 3 := by unfold dscN; decide +kernel
theorem hy_X4_waitIfHas : yX4_waitIfHas.cls = RX4 ∧ yX4_waitIfHas.cls ≠ "java/lang/invoke/MethodHandle" ∧ yX4_waitIfHas.cls ≠ "java/lang/invoke/VarHandle" ∧ dscN yX4_waitIfHas.desc 1 := by unfold dscN; decide +kernel
theorem hy_X4_waitOf : yX4_waitOf.cls = RX4 ∧ yX4_waitOf.cls ≠ "java/lang/invoke/MethodHandle" ∧ yX4_waitOf.cls ≠ "java/lang/invoke/VarHandle" ∧ dscN yX4_waitOf.desc 1 := by unfold dscN; decide +kernel
theorem hy_X4_wantsOf : yX4_wantsOf.cls = RX4 ∧ yX4_wantsOf.cls ≠ "java/lang/invoke/MethodHandle" ∧ yX4_wantsOf.cls ≠ "java/lang/invoke/VarHandle" ∧ dscN yX4_wantsOf.desc 2 := by unfold dscN; decide +kernel
theorem hy_X4_within : yX4_within.cls = RX4 ∧ yX4_within.cls ≠ "java/lang/invoke/MethodHandle" ∧ yX4_within.cls ≠ "java/lang/invoke/VarHandle" ∧ dscN yX4_within.desc 3 := by unfold dscN; decide +kernel
theorem hy_X4_wrong : yX4_wrong.cls = RX4 ∧ yX4_wrong.cls ≠ "java/lang/invoke/MethodHandle" ∧ yX4_wrong.cls ≠ "java/lang/invoke/VarHandle" ∧ dscN yX4_wrong.desc 2 := by unfold dscN; decide +kernel
theorem hy_X5_begins : yX5_begins.cls = RX5 ∧ yX5_begins.cls ≠ "java/lang/invoke/MethodHandle" ∧ yX5_begins.cls ≠ "java/lang/invoke/VarHandle" ∧ dscN yX5_begins.desc 2 := by unfold dscN; decide +kernel
theorem hy_X5_drink : yX5_drink.cls = RX5 ∧ yX5_drink.cls ≠ "java/lang/invoke/MethodHandle" ∧ yX5_drink.cls ≠ "java/lang/invoke/VarHandle" ∧ dscN yX5_drink.desc 0 := by unfold dscN; decide +kernel
theorem hy_X5_eatsSign : yX5_eatsSign.cls = RX5 ∧ yX5_eatsSign.cls ≠ "java/lang/invoke/MethodHandle" ∧ yX5_eatsSign.cls ≠ "java/lang/invoke/VarHandle" ∧ dscN yX5_eatsSign.desc 1 := by unfold dscN; decide +kernel
theorem hy_X5_fresh : yX5_fresh.cls = RX5 ∧ yX5_fresh.cls ≠ "java/lang/invoke/MethodHandle" ∧ yX5_fresh.cls ≠ "java/lang/invoke/VarHandle" ∧ dscN yX5_fresh.desc 0 := by unfold dscN; decide +kernel
theorem hy_X5_houseLine : yX5_houseLine.cls = RX5 ∧ yX5_houseLine.cls ≠ "java/lang/invoke/MethodHandle" ∧ yX5_houseLine.cls ≠ "java/lang/invoke/VarHandle" ∧ dscN yX5_houseLine.desc 0 := by unfold dscN; decide +kernel
theorem hy_X5_init : yX5_init.cls = RX5 ∧ yX5_init.cls ≠ "java/lang/invoke/MethodHandle" ∧ yX5_init.cls ≠ "java/lang/invoke/VarHandle" ∧ dscN yX5_init.desc 1 := by unfold dscN; decide +kernel
theorem hy_X5_isOver : yX5_isOver.cls = RX5 ∧ yX5_isOver.cls ≠ "java/lang/invoke/MethodHandle" ∧ yX5_isOver.cls ≠ "java/lang/invoke/VarHandle" ∧ dscN yX5_isOver.desc 0 := by unfold dscN; decide +kernel
theorem hy_X5_known : yX5_known.cls = RX5 ∧ yX5_known.cls ≠ "java/lang/invoke/MethodHandle" ∧ yX5_known.cls ≠ "java/lang/invoke/VarHandle" ∧ dscN yX5_known.desc 1 := by unfold dscN; decide +kernel
theorem hy_X5_line : yX5_line.cls = RX5 ∧ yX5_line.cls ≠ "java/lang/invoke/MethodHandle" ∧ yX5_line.cls ≠ "java/lang/invoke/VarHandle" ∧ dscN yX5_line.desc 0 := by unfold dscN; decide +kernel
theorem hy_X5_manner : yX5_manner.cls = RX5 ∧ yX5_manner.cls ≠ "java/lang/invoke/MethodHandle" ∧ yX5_manner.cls ≠ "java/lang/invoke/VarHandle" ∧ dscN yX5_manner.desc 0 := by unfold dscN; decide +kernel
theorem hy_X5_needs : yX5_needs.cls = RX5 ∧ yX5_needs.cls ≠ "java/lang/invoke/MethodHandle" ∧ yX5_needs.cls ≠ "java/lang/invoke/VarHandle" ∧ dscN yX5_needs.desc 1 := by unfold dscN; decide +kernel
theorem hy_X5_on : yX5_on.cls = RX5 ∧ yX5_on.cls ≠ "java/lang/invoke/MethodHandle" ∧ yX5_on.cls ≠ "java/lang/invoke/VarHandle" ∧ dscN yX5_on.desc 0 := by unfold dscN; decide +kernel
theorem hy_X5_part : yX5_part.cls = RX5 ∧ yX5_part.cls ≠ "java/lang/invoke/MethodHandle" ∧ yX5_part.cls ≠ "java/lang/invoke/VarHandle" ∧ dscN yX5_part.desc 3 := by unfold dscN; decide +kernel
theorem hy_X5_person : yX5_person.cls = RX5 ∧ yX5_person.cls ≠ "java/lang/invoke/MethodHandle" ∧ yX5_person.cls ≠ "java/lang/invoke/VarHandle" ∧ dscN yX5_person.desc 0 := by unfold dscN; decide +kernel
theorem hy_X5_personLine : yX5_personLine.cls = RX5 ∧ yX5_personLine.cls ≠ "java/lang/invoke/MethodHandle" ∧ yX5_personLine.cls ≠ "java/lang/invoke/VarHandle" ∧ dscN yX5_personLine.desc 0 := by unfold dscN; decide +kernel
theorem hy_X5_read : yX5_read.cls = RX5 ∧ yX5_read.cls ≠ "java/lang/invoke/MethodHandle" ∧ yX5_read.cls ≠ "java/lang/invoke/VarHandle" ∧ dscN yX5_read.desc 0 := by unfold dscN; decide +kernel
theorem hy_X5_ruleNumber : yX5_ruleNumber.cls = RX5 ∧ yX5_ruleNumber.cls ≠ "java/lang/invoke/MethodHandle" ∧ yX5_ruleNumber.cls ≠ "java/lang/invoke/VarHandle" ∧ dscN yX5_ruleNumber.desc 0 := by unfold dscN; decide +kernel
theorem hy_X5_says : yX5_says.cls = RX5 ∧ yX5_says.cls ≠ "java/lang/invoke/MethodHandle" ∧ yX5_says.cls ≠ "java/lang/invoke/VarHandle" ∧ dscN yX5_says.desc 0 := by unfold dscN; decide +kernel
theorem hy_X5_shelf : yX5_shelf.cls = RX5 ∧ yX5_shelf.cls ≠ "java/lang/invoke/MethodHandle" ∧ yX5_shelf.cls ≠ "java/lang/invoke/VarHandle" ∧ dscN yX5_shelf.desc 0 := by unfold dscN; decide +kernel
theorem hy_X5_staff : yX5_staff.cls = RX5 ∧ yX5_staff.cls ≠ "java/lang/invoke/MethodHandle" ∧ yX5_staff.cls ≠ "java/lang/invoke/VarHandle" ∧ dscN yX5_staff.desc 0 := by unfold dscN; decide +kernel
theorem hy_X5_whole : yX5_whole.cls = RX5 ∧ yX5_whole.cls ≠ "java/lang/invoke/MethodHandle" ∧ yX5_whole.cls ≠ "java/lang/invoke/VarHandle" ∧ dscN yX5_whole.desc 2 := by unfold dscN; decide +kernel
theorem hy_X5_wrong : yX5_wrong.cls = RX5 ∧ yX5_wrong.cls ≠ "java/lang/invoke/MethodHandle" ∧ yX5_wrong.cls ≠ "java/lang/invoke/VarHandle" ∧ dscN yX5_wrong.desc 1 := by unfold dscN; decide +kernel
theorem hy_X6_init : yX6_init.cls = RX6 ∧ yX6_init.cls ≠ "java/lang/invoke/MethodHandle" ∧ yX6_init.cls ≠ "java/lang/invoke/VarHandle" ∧ dscN yX6_init.desc 2 := by unfold dscN; decide +kernel
theorem hy_X6_look : yX6_look.cls = RX6 ∧ yX6_look.cls ≠ "java/lang/invoke/MethodHandle" ∧ yX6_look.cls ≠ "java/lang/invoke/VarHandle" ∧ dscN yX6_look.desc 0 := by unfold dscN; decide +kernel
theorem hy_X6_next : yX6_next.cls = RX6 ∧ yX6_next.cls ≠ "java/lang/invoke/MethodHandle" ∧ yX6_next.cls ≠ "java/lang/invoke/VarHandle" ∧ dscN yX6_next.desc 0 := by unfold dscN; decide +kernel
theorem hy_X7_costs : yX7_costs.cls = RX7 ∧ yX7_costs.cls ≠ "java/lang/invoke/MethodHandle" ∧ yX7_costs.cls ≠ "java/lang/invoke/VarHandle" ∧ dscN yX7_costs.desc 1 := by unfold dscN; decide +kernel
theorem hy_X7_drink : yX7_drink.cls = RX7 ∧ yX7_drink.cls ≠ "java/lang/invoke/MethodHandle" ∧ yX7_drink.cls ≠ "java/lang/invoke/VarHandle" ∧ dscN yX7_drink.desc 1 := by unfold dscN; decide +kernel
theorem hy_X7_init : yX7_init.cls = RX7 ∧ yX7_init.cls ≠ "java/lang/invoke/MethodHandle" ∧ yX7_init.cls ≠ "java/lang/invoke/VarHandle" ∧ dscN yX7_init.desc 0 := by unfold dscN; decide +kernel
theorem hy_X7_isAhead : yX7_isAhead.cls = RX7 ∧ yX7_isAhead.cls ≠ "java/lang/invoke/MethodHandle" ∧ yX7_isAhead.cls ≠ "java/lang/invoke/VarHandle" ∧ dscN yX7_isAhead.desc 2 := by unfold dscN; decide +kernel
theorem hy_X7_isName : yX7_isName.cls = RX7 ∧ yX7_isName.cls ≠ "java/lang/invoke/MethodHandle" ∧ yX7_isName.cls ≠ "java/lang/invoke/VarHandle" ∧ dscN yX7_isName.desc 1 := by unfold dscN; decide +kernel
theorem hy_X7_person : yX7_person.cls = RX7 ∧ yX7_person.cls ≠ "java/lang/invoke/MethodHandle" ∧ yX7_person.cls ≠ "java/lang/invoke/VarHandle" ∧ dscN yX7_person.desc 1 := by unfold dscN; decide +kernel
theorem hy_X7_time : yX7_time.cls = RX7 ∧ yX7_time.cls ≠ "java/lang/invoke/MethodHandle" ∧ yX7_time.cls ≠ "java/lang/invoke/VarHandle" ∧ dscN yX7_time.desc 2 := by unfold dscN; decide +kernel
theorem hy_X8_init : yX8_init.cls = RX8 ∧ yX8_init.cls ≠ "java/lang/invoke/MethodHandle" ∧ yX8_init.cls ≠ "java/lang/invoke/VarHandle" ∧ dscN yX8_init.desc 4 := by unfold dscN; decide +kernel
theorem hy_X8_is : yX8_is.cls = RX8 ∧ yX8_is.cls ≠ "java/lang/invoke/MethodHandle" ∧ yX8_is.cls ≠ "java/lang/invoke/VarHandle" ∧ dscN yX8_is.desc 1 := by unfold dscN; decide +kernel
theorem hy_X8_isName : yX8_isName.cls = RX8 ∧ yX8_isName.cls ≠ "java/lang/invoke/MethodHandle" ∧ yX8_isName.cls ≠ "java/lang/invoke/VarHandle" ∧ dscN yX8_isName.desc 0 := by unfold dscN; decide +kernel
theorem hy_X8_isSign : yX8_isSign.cls = RX8 ∧ yX8_isSign.cls ≠ "java/lang/invoke/MethodHandle" ∧ yX8_isSign.cls ≠ "java/lang/invoke/VarHandle" ∧ dscN yX8_isSign.desc 1 := by unfold dscN; decide +kernel
theorem hy_X9_init : yX9_init.cls = RX9 ∧ yX9_init.cls ≠ "java/lang/invoke/MethodHandle" ∧ yX9_init.cls ≠ "java/lang/invoke/VarHandle" ∧ dscN yX9_init.desc 4 := by unfold dscN; decide +kernel
theorem hy_X9_time : yX9_time.cls = RX9 ∧ yX9_time.cls ≠ "java/lang/invoke/MethodHandle" ∧ yX9_time.cls ≠ "java/lang/invoke/VarHandle" ∧ dscN yX9_time.desc 2 := by unfold dscN; decide +kernel
