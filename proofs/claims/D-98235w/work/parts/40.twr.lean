/-! LAYER 2: still more of the twin's calls that change nothing -/
def sizeF (F : Nat → Int) (A : Int → Int → Int) (what : Int) : Int :=
  if what = 10 then F 2 else if F 14 = 0 then (if 0 ≤ what ∧ what ≤ 9 then 0 else -1)
  else if what = 0 then A 3 1 else if what = 1 then A 3 2 else if what = 2 then A 3 3 else if what = 3 then A 3 4 else if what = 4 then A 3 5 else if what = 5 then A 3 6 else if what = 6 then A 3 7
  else if what = 7 then A 5 0 else if what = 8 then F 21 else if what = 9 then F 22 else -1
/-- of the first n people, how many wait ahead of p -/
def ledK (row : Int → Int) (i : Int) : Nat → Nat
  | 0 => 0
  | k + 1 => if ledK row i k = k ∧ ¬ (row (12 + 8 * k + 0) = 1 ∧ mwF k row = i) then k + 1 else ledK row i k
theorem ledK_le (row : Int → Int) (i : Int) : ∀ k : Nat, ledK row i k ≤ k ∧ (ledK row i k < k → row (12 + 8 * ledK row i k + 0) = 1 ∧ mwF (ledK row i k) row = i) ∧ ∀ j : Nat, j < ledK row i k → ¬ (row (12 + 8 * j + 0) = 1 ∧ mwF j row = i)
  | 0 => ⟨Nat.le_refl _, fun h => absurd h (Nat.lt_irrefl 0), fun j h => absurd h (Nat.not_lt_zero _)⟩
  | k + 1 => by
    obtain ⟨h1, h2, h3⟩ := ledK_le row i k
    by_cases c : ledK row i k = k ∧ ¬ (row (12 + 8 * k + 0) = 1 ∧ mwF k row = i)
    · rw [show ledK row i (k + 1) = k + 1 from if_pos c]
      refine ⟨Nat.le_refl _, fun h => absurd h (Nat.lt_irrefl _), fun j hj => ?_⟩
      by_cases z : j = k
      · rw [z]; exact c.2
      · exact h3 j (by omega)
    · rw [show ledK row i (k + 1) = ledK row i k from if_neg c]
      refine ⟨by omega, fun _ => ?_, h3⟩
      by_cases z : ledK row i k = k
      · rw [z]
        exact Classical.byContradiction (fun w => c ⟨z, w⟩)
      · exact h2 (by omega)
section EV
variable {h : Hp} {M : Int} {F : Nat → Int} {A : Int → Int → Int} {e : Int → Int} {Q : Int → Hp → Prop} {Qv : Hp → Prop} {B : Int}
theorem p_trouble (hq : Q (F 11) (blk h M 15 (upN F 0 0) A)) : g_X4_trouble M Q (blk h M 15 F A) := by
  unfold g_X4_trouble
  rintro m2 rfl
  rw [blk_setF, blk_F]; exact hq
theorem p_fault (hq : Q (F 9) (blk h M 15 (upN F 0 0) A)) : g_X4_fault M Q (blk h M 15 F A) := by
  unfold g_X4_fault
  rintro m2 rfl
  rw [blk_setF, blk_F]; exact hq
theorem p_thrown (hq : Q (F 0) (blk h M 15 F A)) : g_X4_thrown M Q (blk h M 15 F A) := by
  unfold g_X4_thrown
  rw [blk_F]; exact hq
theorem p_where (hq : Q (if F 11 = 4 then F 10 else -1) (blk h M 15 (upN F 0 0) A)) : g_X4_where M Q (blk h M 15 F A) := by
  unfold g_X4_where g_X4_where_b21
  rintro m2 rfl
  rw [blk_setF]
  simp only [blk_F]
  rw [upN_ne (by decide), upN_ne (by decide)]
  refine ⟨fun c => ?_, fun c => ?_⟩
  · rw [if_neg c] at hq; exact hq
  · rw [if_pos c] at hq; exact hq
theorem p_size {what : Int} (hq : Q (sizeF F A what) (blk h M 15 (upN F 0 0) A)) : g_X4_size M what Q (blk h M 15 F A) := by
  unfold g_X4_size
  rintro m2 rfl
  rw [blk_setF]
  simp only [blk_F, tw_3, tw_5]
  unfold g_X4_size_b38
  rw [upN_ne (by decide), upN_ne (by decide), upN_ne (by decide), upN_ne (by decide)]
  unfold sizeF at hq
  refine ⟨fun c => ⟨fun c1 => ?_, fun c1 => t_within (fun _ => ⟨fun c2 => ?_, fun c2 => ?_⟩)⟩, fun c => ?_⟩
  · rw [if_neg c, if_neg c1] at hq
    refine ⟨fun z => ?_, fun z => ?_, fun z => ?_, fun z => ?_, fun z => ?_, fun z => ?_, fun z => ?_, fun z => ?_, fun z => ?_, fun z => ?_, fun z => ?_⟩
    rotate_right
    · obtain ⟨z0, z1, z2, z3, z4, z5, z6, z7, z8, z9⟩ := z
      rw [if_neg z0, if_neg z1, if_neg z2, if_neg z3, if_neg z4, if_neg z5, if_neg z6, if_neg z7, if_neg z8, if_neg z9] at hq; exact hq
    all_goals
      subst z
      exact hq
  · rw [if_neg c, if_pos c1, if_neg (zero_of c2)] at hq; exact hq
  · rw [if_neg c, if_pos c1, if_pos (one_of c2)] at hq; exact hq
  · rw [if_pos c] at hq; exact hq
theorem p_led {i : Int} (hH : HR B F A)
    (no : (F 14 = 0 ∨ (F 14 ≠ 0 ∧ ledK (A 5) i (A 3 5).toNat = (A 3 5).toNat)) → Q 0 (blk h M 15 (upN F 0 1) A))
    (yes : F 14 ≠ 0 → ledK (A 5) i (A 3 5).toNat < (A 3 5).toNat → Q (ledK (A 5) i (A 3 5).toNat) (blk h M 15 (upN F 0 0) A)) : g_X4_led M i Q (blk h M 15 F A) := by
  have hk : (5 : Int) = 5 ∨ (5 : Int) = 6 := Or.inl rfl
  unfold g_X4_led
  by_cases c0 : F 14 = 0
  · have no := no (Or.inl c0)
    refine Lp2_for 0 0 (fun _ => 0) (fun _ => blk h M 15 F A) (fun K j hj hK => absurd hj (Nat.not_lt_zero _)) (fun K => ?_)
    unfold g_X4_led_L4 g_X4_led_b56
    rw [blk_F]
    refine ⟨fun _ => ?_, fun c => absurd c0 c⟩
    rintro m58 rfl
    rw [blk_setF]; exact no
  · obtain ⟨HO, R⟩ := hH c0
    have hn := HO.pm
    obtain ⟨l1, l2, l3⟩ := ledK_le (A 5) i (A 3 5).toNat
    have b56 : ledK (A 5) i (A 3 5).toNat = (A 3 5).toNat → g_X4_led_b56 M i Q (blk h M 15 F A) := by
      intro z
      unfold g_X4_led_b56
      rintro m58 rfl
      rw [blk_setF]; exact no (Or.inr ⟨c0, z⟩)
    rw [RW_self h M F A 5] at b56 ⊢
    refine Lp2_for (ledK (A 5) i (A 3 5).toNat) 0 (fun j => mwF j (A 5)) (fun _ => RW h M F A 5 (A 5)) (fun K j hj hK => ?_) (fun K => ?_)
    · have e1 : mwF (j + 1) (A 5) = mwF j (A 5) + (if A 5 (12 + 8 * (j : Int) + 0) = 1 then 1 else 0) := rfl
      have h2 : 0 ≤ mwF j (A 5) ∧ mwF j (A 5) ≤ j := sumN_01 j (fun i hi => by (try dsimp only); split <;> omega)
      have h3 := l3 j hj
      rw [Int.zero_add]
      unfold g_X4_led_L4 g_X4_led_b50
      simp only [RW_3 hk, RW_F]
      refine ⟨fun c => absurd c c0, fun c => ⟨fun c1 => absurd c1 (by omega), fun c1 => t_isWaiting hk ⟨by omega, by omega⟩ (fun _ => ⟨fun c2 => ⟨fun c3 => ⟨(by first | omega | (unfold i32; omega)), ?_⟩, fun c3 => absurd ⟨one_of c2, c3⟩ h3⟩, fun c2 => ⟨(by first | omega | (unfold i32; omega)), fun y ey => hK _ _ _ (by rw [e1, if_neg (zero_of c2)]; omega) (by omega) rfl⟩⟩)⟩⟩
      rintro y rfl
      exact ⟨(by first | omega | (unfold i32; omega)), fun y ey => hK _ _ _ (by rw [e1, if_pos (one_of c2)]) (by omega) rfl⟩
    · rw [Int.zero_add]
      unfold g_X4_led_L4 g_X4_led_b40
      simp only [RW_3 hk, RW_F]
      refine ⟨fun c => absurd c c0, fun c => ⟨fun c1 => b56 (by omega), fun c1 => t_isWaiting hk ⟨by omega, by omega⟩ (fun _ => ?_)⟩⟩
      obtain ⟨w1, w2⟩ := l2 (by omega)
      refine ⟨fun c2 => ⟨fun c3 => absurd w2 c3, fun c3 => ?_⟩, fun c2 => absurd w1 (zero_of c2)⟩
      rintro m42 rfl
      have fin := yes c0 (by omega)
      rw [show RW h M F A 5 (A 5) = blk h M 15 F A from (RW_self h M F A 5).symm, blk_setF]
      exact fin
theorem p_so (T : TT h M) (S : Scr F A) (hH : HR B F A)
    (no : F 14 = 0 → ∀ F' A', Post F A 1 F' A' → Q (-1) (blk h M 15 F' A'))
    (yes : F 14 ≠ 0 → ∀ c q, asC (A 3) c → asP (A 3) q → ∀ F' A', Post F A 0 F' A' → Q (soF (A 3) q) (blk h M 15 F' A')) : g_X4_so M Q (blk h M 15 F A) := by
  unfold g_X4_so
  refine t_good (fun _ => ?_)
  rw [blk_F, gF_o (by decide) (by decide)]
  refine ⟨fun c0 => ?_, fun c0 => t_no (fun _ => no c0 _ _ (post_no S))⟩
  obtain ⟨HO, R⟩ := hH c0
  have hs := HO.sm
  have hn := HO.pm
  have ht := HO.tm
  have hk : (5 : Int) = 5 ∨ (5 : Int) = 6 := Or.inl rfl
  refine t_asTold T HO S.1 (fun c q hc hqq _ => ?_)
  have fin := yes c0 c q hc hqq (upN (gF F) 25 (A 3 4)) (upR (upR A 9 c) 10 q) ⟨⟨⟨rfl, rfl, rfl, rfl, rfl⟩, fun j h0 h1 h2 _ _ _ _ => by rw [upN_ne h2, gF_o h0 h1], hc.1, S.2.1, show 0 ≤ A 3 4 by omega, show A 3 4 ≤ 4 by omega⟩, rfl, rfl⟩
  rw [RW_self h M (upN (gF F) 25 (A 3 4)) (upR (upR A 9 c) 10 q) 5] at fin ⊢
  have e3 : upR (upR A 9 c) 10 q 3 = A 3 := rfl
  have e10 : upR (upR A 9 c) 10 q 10 = q := rfl
  refine Lp2_for (A 3 7).toNat 0 (fun j => sumN (fun k => if behind q (A 3 (161 + 3 * k + 2)) (A 3 (161 + 3 * k + 1)) then 1 else 0) j) (fun _ => RW h M (upN (gF F) 25 (A 3 4)) (upR (upR A 9 c) 10 q) 5 (upR (upR A 9 c) 10 q 5)) (fun K j hj hK => ?_) (fun K => ?_)
  · have h2 := sumN_01 (f := fun k => if behind q (A 3 (161 + 3 * k + 2)) (A 3 (161 + 3 * k + 1)) then 1 else 0) j (fun i hi => by (try dsimp only); split <;> omega)
    have t1 := HO.tells j 1 (by omega) (by omega) (by omega) (by omega)
    have t2 := HO.tells j 2 (by omega) (by omega) (by omega) (by omega)
    rw [Int.zero_add]
    unfold g_X4_so_L25 g_X4_so_b77
    simp only [RW_3 hk, e3]
    refine ⟨fun c => absurd c (by omega), fun c => ⟨(by first | omega | (unfold i32; omega)), (by first | omega | (unfold i32; omega)), (by first | omega | (unfold i32; omega)), (by first | omega | (unfold i32; omega)), (by first | omega | (unfold i32; omega)), (by first | omega | (unfold i32; omega)), (by first | omega | (unfold i32; omega)), (by first | omega | (unfold i32; omega)), t_isBehind hk ⟨by omega, by omega⟩ ⟨by omega, by omega⟩ (fun _ => ⟨fun c2 => ⟨(by first | omega | (unfold i32; omega)), ?_⟩, fun c2 => ⟨(by first | omega | (unfold i32; omega)), ?_⟩⟩)⟩⟩
    · rw [e10] at c2
      rintro y rfl
      exact ⟨(by first | omega | (unfold i32; omega)), fun y ey => hK _ _ _ (by simp only [sumN]; rw [if_neg (zero_of c2)]) (by omega) rfl⟩
    · rw [e10] at c2
      rintro y rfl
      exact ⟨(by first | omega | (unfold i32; omega)), fun y ey => hK _ _ _ (by simp only [sumN]; rw [if_pos (one_of c2)]) (by omega) rfl⟩
  · unfold g_X4_so_L25 g_X4_so_b85
    simp only [RW_3 hk, e3]
    exact ⟨fun _ => fin, fun c => absurd c (by omega)⟩
end EV
