/-! LAYER 2: the twin's honesty: the layout kept, the set's reason -/
abbrev Lof (F F' : Nat → Int) : Prop := F' 1 = F 1 ∧ F' 12 = F 12 ∧ F' 15 = F 15 ∧ F' 16 = F 16 ∧ F' 17 = F 17 ∧ F' 18 = F 18 ∧ F' 19 = F 19 ∧ F' 20 = F 20 ∧ F' 23 = F 23 ∧ F' 24 = F 24 ∧ F' 29 = F 29 ∧ F' 30 = F 30 ∧ F' 31 = F 31 ∧ F' 32 = F 32 ∧ F' 34 = F 34
def hoQ (q : Int → Int) (set : Int) : Nat → (Int → Int)
  | 0 => q
  | p + 1 => beQ (hoQ q set p) p (if bAnd (bShr set p) 1 = 1 then 1 else 0)
theorem hoQ_ok {q : Int → Int} {set : Int} (P : PplOK q) : ∀ n : Nat, PplOK (hoQ q set n)
  | 0 => P
  | n + 1 => beQ_ok (hoQ_ok P n) (by split <;> omega)
theorem hoQ_cg {q q' : Int → Int} {set : Int} (h : eqQ q q') : ∀ n : Nat, eqQ (hoQ q set n) (hoQ q' set n)
  | 0 => h
  | n + 1 => beQ_cg (hoQ_cg h n)
section EV
variable {h : Hp} {M : Int} {F : Nat → Int} {A : Int → Int → Int} {e : Int → Int} {Q : Int → Hp → Prop} {Qv : Hp → Prop} {B : Int}
theorem lay_of {F' : Nat → Int} {A' : Int → Int → Int} (L : Lay_X4 (blk h M 15 F A) M) (E : Lof F F') : Lay_X4 (blk h M 15 F' A') M := by
  obtain ⟨h1, h2, p1, p2, p3, p4, p5, p6, p7, p8, p9, p10, p11, p12, p13, p14, p15⟩ := L
  obtain ⟨e1, e2, e3, e4, e5, e6, e7, e8, e9, e10, e11, e12, e13, e14, e15⟩ := E
  rw [blk_F] at p1 p2 p3 p4 p5 p6 p7 p8 p9 p10 p11 p12 p13 p14 p15
  refine ⟨h1, h2, ?_, ?_, ?_, ?_, ?_, ?_, ?_, ?_, ?_, ?_, ?_, ?_, ?_, ?_, ?_⟩
  · rw [blk_F, e1]; exact p1
  · rw [blk_F, e2]; exact p2
  · rw [blk_F, e3]; exact p3
  · rw [blk_F, e4]; exact p4
  · rw [blk_F, e5]; exact p5
  · rw [blk_F, e6]; exact p6
  · rw [blk_F, e7]; exact p7
  · rw [blk_F, e8]; exact p8
  · rw [blk_F, e9]; exact p9
  · rw [blk_F, e10]; exact p10
  · rw [blk_F, e11]; exact p11
  · rw [blk_F, e12]; exact p12
  · rw [blk_F, e13]; exact p13
  · rw [blk_F, e14]; exact p14
  · rw [blk_F, e15]; exact p15
theorem TT.of {F : Nat → Int} (L : Lay_X4 (blk h M 15 F A) M) : TT h M := by
  obtain ⟨h1, h2, p1, p2, p3, p4, p5, p6, p7, p8, p9, p10, p11, p12, p13, p14, p15⟩ := L
  exact ⟨p1.2, p2.2, p3.2, p4.2, p5.2, p6.2, p7.2, p8.2, p9.2, p10.2, p11.2, p12.2, p13.2, p14.2, p15.2⟩
theorem shl_b : ∀ n : Nat, n < 11 → bShl 1 (n : Int) = (2 ^ n : Nat) := by decide +kernel
theorem s_allPeople (HO : HouseOK (A 3)) (hq : Q (bShl 1 (A 3 5) - 1) (blk h M 15 F A)) : g_X4_allPeople M Q (blk h M 15 F A) := by
  have hn := HO.pm
  have e := shl_b (A 3 5).toNat (by omega)
  rw [show (((A 3 5).toNat : Nat) : Int) = A 3 5 by omega] at e
  have l1 : (2 ^ (A 3 5).toNat : Nat) ≤ 2 ^ 10 := Nat.pow_le_pow_right (by omega) (by omega)
  have l2 : 1 ≤ (2 ^ (A 3 5).toNat : Nat) := Nat.one_le_two_pow
  unfold g_X4_allPeople
  simp only [tw_3]
  refine ⟨?_, hq⟩
  rw [e]; unfold i32
  generalize (2 ^ (A 3 5).toNat : Nat) = z at l1 l2 ⊢
  omega
theorem s_setWhy {set : Int} (hH : F 14 ≠ 0 → HouseOK (A 3)) (hq : Q (if F 14 = 0 then 1 else if 0 ≤ set ∧ set ≤ bShl 1 (A 3 5) - 1 then 0 else 2) (blk h M 15 F A)) : g_X4_setWhy M set Q (blk h M 15 F A) := by
  unfold g_X4_setWhy g_X4_setWhy_b28
  rw [blk_F]
  refine ⟨fun c => s_allPeople (hH c) (fun _ => t_within (fun _ => ⟨fun c2 => ?_, fun c2 => ?_⟩)), fun c => ?_⟩
  · rw [if_neg c, if_neg (zero_of c2)] at hq; exact hq
  · rw [if_neg c, if_pos (one_of c2)] at hq; exact hq
  · rw [if_pos c] at hq; exact hq
end EV
