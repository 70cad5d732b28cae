/-! LAYER 2: the twin's acts -/
def noteN (n : Int) : Int := if n = 12 then 12 else n + 1
def noteU (un st : Int → Int) (n : Int) : Int → Int := fun j =>
  if n = 12 then (if 1188 ≤ j ∧ j < 1296 then st (j - 1188) else if 0 ≤ j ∧ j < 1188 then un (j + 108) else un j)
  else if 108 * n ≤ j ∧ j < 108 * n + 108 then st (j - 108 * n) else un j
abbrev PostA (F : Nat → Int) (A : Int → Int → Int) (st : Int → Int) (F' : Nat → Int) (A' : Int → Int → Int) : Prop :=
  (A' 1 = A 1 ∧ A' 3 = A 3 ∧ A' 5 = st ∧ A' 7 = noteU (A 7) (A 5) (F 21) ∧ A' 8 = A 8) ∧ F' 0 = 0 ∧ F' 11 = 0 ∧ F' 21 = noteN (F 21) ∧ (∀ j : Nat, j ≠ 0 → j ≠ 11 → j ≠ 21 → j ≠ 25 → j ≠ 26 → j ≠ 27 → j ≠ 28 → j ≠ 33 → F' j = F j) ∧ Scr F' A'
section EV
variable {h : Hp} {M : Int} {F : Nat → Int} {A : Int → Int → Int} {e : Int → Int} {Q : Int → Hp → Prop} {Qv : Hp → Prop} {B : Int}
theorem t_note (T : TT h M) (hu : 0 ≤ F 21 ∧ F 21 ≤ 12) (hq : Qv (blk h M 15 (upN F 21 (noteN (F 21))) (upR A 7 (noteU (A 7) (A 5) (F 21))))) : g_X4_note M Qv (blk h M 15 F A) := by
  have b49 : ∀ (F1 : Nat → Int) (A1 : Int → Int → Int), 0 ≤ F1 21 ∧ F1 21 ≤ 11 → Qv (blk h M 15 (upN F1 21 (F1 21 + 1)) (upR A1 7 (fun j => if 108 * F1 21 ≤ j ∧ j < 108 * F1 21 + 108 then A1 5 (j - 108 * F1 21) else A1 7 j))) → g_X4_note_b49 M Qv (blk h M 15 F1 A1) := by
    intro F1 A1 h1 hq1
    unfold g_X4_note_b49
    simp only [blk_F]
    refine ⟨(by first | omega | (unfold i32; omega)), s_copy (i := 5) (j := 7) (by omega) (by omega) (by omega) (by omega) T.t5.1 T.t7.1 (by rw [T.t5.2]; omega) (by rw [T.t7.2]; omega) (fun _ => ?_)⟩
    simp only [blk_F]
    refine ⟨(by first | omega | (unfold i32; omega)), ?_⟩
    rintro m77 rfl
    rw [blk_setF]
    have e1 : (fun t => if 108 * F1 21 ≤ t ∧ t < 108 * F1 21 + 108 then A1 5 (0 + (t - 108 * F1 21)) else A1 7 t) = (fun j => if 108 * F1 21 ≤ j ∧ j < 108 * F1 21 + 108 then A1 5 (j - 108 * F1 21) else A1 7 j) := by
      funext t; rw [show 0 + (t - 108 * F1 21) = t - 108 * F1 21 by omega]
    rw [e1]; exact hq1
  unfold g_X4_note
  rw [blk_F]
  refine ⟨fun c => b49 F A ⟨hu.1, by omega⟩ ?_, fun c => ?_⟩
  · have e1 : noteU (A 7) (A 5) (F 21) = (fun j => if 108 * F 21 ≤ j ∧ j < 108 * F 21 + 108 then A 5 (j - 108 * F 21) else A 7 j) := by
      funext j; unfold noteU; rw [if_neg c]
    rw [e1, show noteN (F 21) = F 21 + 1 from if_neg c] at hq
    exact hq
  · have e0 : blk h M 15 F A = blk h M 15 F (upR A 7 (fun j => if 0 ≤ j ∧ j < ((0 : Nat) : Int) then A 7 (j + 108) else A 7 j)) := by
      rw [show (fun j => if 0 ≤ j ∧ j < ((0 : Nat) : Int) then A 7 (j + 108) else A 7 j) = A 7 from by funext j; rw [if_neg (by omega)]]
      rw [show upR A 7 (A 7) = A from by funext j; unfold upR; by_cases e : j = 7 <;> simp [e]]
    rw [e0]
    refine Lp1_for 1188 0 (fun i => blk h M 15 F (upR A 7 (fun j => if 0 ≤ j ∧ j < (i : Int) then A 7 (j + 108) else A 7 j))) (fun K i hi hK => ?_) (fun K => ?_)
    · rw [Int.zero_add]
      unfold g_X4_note_L11
      simp only [tw_7]
      refine ⟨fun z => absurd z (by omega), fun z => ⟨(by first | omega | (unfold i32; omega)), (by first | omega | (unfold i32; omega)), (by first | omega | (unfold i32; omega)), ?_⟩⟩
      rintro m32 rfl
      refine ⟨(by first | omega | (unfold i32; omega)), fun y ey => hK _ _ (by omega) ?_⟩
      rw [tws_7, upR_up, upR_eq]
      have e1 : upI (fun j => if 0 ≤ j ∧ j < (i : Int) then A 7 (j + 108) else A 7 j) i ((fun j => if 0 ≤ j ∧ j < (i : Int) then A 7 (j + 108) else A 7 j) ((i : Int) + 108)) = (fun j => if 0 ≤ j ∧ j < ((i + 1 : Nat) : Int) then A 7 (j + 108) else A 7 j) := by
        funext j
        simp only [upI]
        by_cases e1 : j = i
        · rw [if_pos e1, if_neg (by omega), if_pos (by omega), e1]
        · rw [if_neg e1]
          by_cases e2 : 0 ≤ j ∧ j < (i : Int)
          · rw [if_pos e2, if_pos (by omega)]
          · rw [if_neg e2, if_neg (by omega)]
      rw [← e1]
    · unfold g_X4_note_L11 g_X4_note_b39
      rw [blk_F]
      refine ⟨fun _ => ⟨(by first | omega | (unfold i32; omega)), ?_⟩, fun z => absurd z (by omega)⟩
      rintro m46 rfl
      rw [blk_setF]
      refine b49 _ _ (by rw [upN_eq]; omega) ?_
      rw [upN_eq, upN_up, upR_up, upR_eq, upR_ne (by omega)]
      have e1 : noteU (A 7) (A 5) (F 21) = (fun j => if 108 * (F 21 - 1) ≤ j ∧ j < 108 * (F 21 - 1) + 108 then A 5 (j - 108 * (F 21 - 1)) else (fun j => if 0 ≤ j ∧ j < ((1188 : Nat) : Int) then A 7 (j + 108) else A 7 j) j) := by
        funext j; unfold noteU
        rw [if_pos c, c]
        rfl
      rw [e1, show noteN (F 21) = F 21 - 1 + 1 by unfold noteN; rw [if_pos c]; omega] at hq
      exact hq
theorem post_A {st : Int → Int} (S : Scr F A) : PostA F A st (upN (gF F) 21 (noteN (F 21))) (upR (upR A 7 (noteU (A 7) (A 5) (F 21))) 5 st) :=
  ⟨⟨rfl, rfl, rfl, rfl, rfl⟩, rfl, rfl, rfl, fun j h0 h1 h2 _ _ _ _ _ => by rw [upN_ne h2, gF_o h0 h1], S⟩
theorem s_hasCome {p : Int} (hp : 0 ≤ p ∧ p < 10) (hq : Q (if A 5 (12 + 8 * p + 0) ≠ 0 then 1 else 0) (blk h M 15 F A)) : g_X4_hasCome M p Q (blk h M 15 F A) := by
  unfold g_X4_hasCome g_X4_hasCome_b17
  refine s_its (by omega) (by omega) hp ⟨by omega, by omega⟩ (fun _ => ⟨fun c => ⟨Or.inl rfl, ?_⟩, fun c => ⟨Or.inr rfl, ?_⟩⟩)
  · rw [if_neg (by omega)] at hq; exact hq
  · rw [if_pos c] at hq; exact hq
theorem s_isWaiting {p : Int} (hp : 0 ≤ p ∧ p < 10) (hq : Q (if A 5 (12 + 8 * p + 0) = 1 then 1 else 0) (blk h M 15 F A)) : g_X4_isWaiting (M + 5) p Q (blk h M 15 F A) := by
  rw [RW_self h M F A 5] at hq ⊢
  exact t_isWaiting (Or.inl rfl) hp hq
abbrev canLet (st : Int → Int) (p o : Int) : Prop := st (12 + 8 * p + 0) = 1 ∧ st (12 + 8 * o + 0) = 1 ∧ st (12 + 8 * p + 3) ≤ st (12 + 8 * o + 3)
theorem s_canNotLet {p o : Int} (hp : 0 ≤ p ∧ p < 10) (ho : 0 ≤ o ∧ o < 10) (hq : Q (if canLet (A 5) p o then 0 else 1) (blk h M 15 F A)) : g_X4_canNotLet M p o Q (blk h M 15 F A) := by
  unfold g_X4_canNotLet g_X4_canNotLet_b43 g_X4_canNotLet_b48
  have no : ¬ canLet (A 5) p o → ((1 : Int) = 0 ∨ (1 : Int) = 1) ∧ Q 1 (blk h M 15 F A) := fun z => ⟨Or.inr rfl, by rw [if_neg z] at hq; exact hq⟩
  refine s_isWaiting hp (fun _ => ⟨fun c => no (fun z => zero_of c z.1), fun c => s_isWaiting ho (fun _ => ⟨fun c2 => no (fun z => zero_of c2 z.2.1), fun c2 => s_its (by omega) (by omega) hp ⟨by omega, by omega⟩ (fun _ => s_its (by omega) (by omega) ho ⟨by omega, by omega⟩ (fun _ => ⟨fun c3 => ⟨Or.inl rfl, ?_⟩, fun c3 => no (fun z => by have := z.2.2; omega)⟩))⟩)⟩)
  rw [if_pos ⟨one_of c, one_of c2, c3⟩] at hq; exact hq
theorem p_moves {p spot : Int} (T : TT h M) (S : Scr F A) (hH : HR B F A) (hu : 0 ≤ F 21 ∧ F 21 ≤ 12)
    (no : ¬ (isP F A p ∧ isL F A spot) → ∀ F' A', Post F A 1 F' A' → Q 0 (blk h M 15 F' A'))
    (no5 : isP F A p ∧ isL F A spot → ¬ (A 5 (12 + 8 * p + 0) = 1 ∧ A 5 (12 + 8 * p + 1) ≠ spot) → ∀ F' A', Post F A 5 F' A' → Q 0 (blk h M 15 F' A'))
    (yes : isP F A p ∧ isL F A spot → (A 5 (12 + 8 * p + 0) = 1 ∧ A 5 (12 + 8 * p + 1) ≠ spot) → ∀ F' A', PostA F A (upI (A 5) (12 + 8 * p + 1) spot) F' A' → Q 1 (blk h M 15 F' A')) : g_X4_moves M p spot Q (blk h M 15 F A) := by
  unfold g_X4_moves g_X4_moves_b20 g_X4_moves_b50
  refine t_good (fun _ => t_isPerson (fun z => (hH z).1) (fun _ => ⟨fun c1 => t_isNot (fun _ => ⟨Or.inl rfl, no (fun z => zero_of c1 z.1) _ _ (post_no S)⟩), fun c1 => t_isSpot (fun z => (hH z).1) (fun _ => ⟨fun c2 => ?_, fun c2 => t_isNot (fun _ => ⟨Or.inl rfl, no (fun z => zero_of c2 z.2) _ _ (post_no S)⟩)⟩)⟩))
  have c1 : isP F A p := one_of c1
  have c2 : isL F A spot := one_of c2
  obtain ⟨HO, R⟩ := hH c1.1
  have hn := HO.pm
  have hp : 0 ≤ p ∧ p < 10 := ⟨c1.2.1, by omega⟩
  refine s_isWaiting hp (fun _ => ⟨fun c3 => t_isNot (fun _ => ⟨Or.inl rfl, no5 ⟨c1, c2⟩ (fun z => zero_of c3 z.1) _ _ (post_no S)⟩), fun c3 => s_its (by omega) (by omega) hp ⟨by omega, by omega⟩ (fun _ => ⟨fun c4 => ?_, fun c4 => t_isNot (fun _ => ⟨Or.inl rfl, no5 ⟨c1, c2⟩ (fun z => z.2 c4) _ _ (post_no S)⟩)⟩)⟩)
  have c3 := one_of c3
  refine t_note T (show 0 ≤ gF F 21 ∧ gF F 21 ≤ 12 from hu) (fun _ => ⟨(by first | omega | (unfold i32; omega)), (by first | omega | (unfold i32; omega)), (by first | omega | (unfold i32; omega)), (by first | omega | (unfold i32; omega)), ?_⟩)
  rintro m74 rfl
  rw [tws_5]
  exact yes ⟨c1, c2⟩ ⟨c3, c4⟩ _ _ (post_A S)
theorem p_lets {p o : Int} (T : TT h M) (hB : 10000 ≤ B ∧ B ≤ 100000) (S : Scr F A) (hH : HR B F A) (hu : 0 ≤ F 21 ∧ F 21 ≤ 12)
    (no : ¬ (isP F A p ∧ isP F A o ∧ p ≠ o) → ∀ F' A', Post F A 1 F' A' → Q 0 (blk h M 15 F' A'))
    (no5 : (isP F A p ∧ isP F A o ∧ p ≠ o) → ¬ canLet (A 5) p o → ∀ F' A', Post F A 5 F' A' → Q 0 (blk h M 15 F' A'))
    (yes : (isP F A p ∧ isP F A o ∧ p ≠ o) → canLet (A 5) p o → ∀ F' A', PostA F A (upI (A 5) (12 + 8 * p + 3) (A 5 (12 + 8 * o + 3) + 1)) F' A' → Q 1 (blk h M 15 F' A')) : g_X4_lets M p o Q (blk h M 15 F A) := by
  unfold g_X4_lets g_X4_lets_b25
  refine t_good (fun _ => t_isPerson (fun z => (hH z).1) (fun _ => ⟨fun c1 => t_isNot (fun _ => ⟨Or.inl rfl, no (fun z => zero_of c1 z.1) _ _ (post_no S)⟩), fun c1 => t_isPerson (fun z => (hH z).1) (fun _ => ⟨fun c2 => t_isNot (fun _ => ⟨Or.inl rfl, no (fun z => zero_of c2 z.2.1) _ _ (post_no S)⟩), fun c2 => ⟨fun c3 => ?_, fun c3 => t_isNot (fun _ => ⟨Or.inl rfl, no (fun z => z.2.2 c3) _ _ (post_no S)⟩)⟩⟩)⟩))
  have c1 : isP F A p := one_of c1
  have c2 : isP F A o := one_of c2
  obtain ⟨HO, R⟩ := hH c1.1
  have hn := HO.pm
  have hp : 0 ≤ p ∧ p < 10 := ⟨c1.2.1, by omega⟩
  have ho : 0 ≤ o ∧ o < 10 := ⟨c2.2.1, by omega⟩
  have cc := R.cells (12 + 8 * o + 3)
  refine s_canNotLet hp ho (fun _ => ⟨fun c4 => ?_, fun c4 => t_isNot (fun _ => ⟨Or.inl rfl, no5 ⟨c1, c2, c3⟩ (fun z => by rw [if_pos z] at c4; exact c4 rfl) _ _ (post_no S)⟩)⟩)
  have c4 : canLet (A 5) p o := by
    by_cases z : canLet (A 5) p o
    · exact z
    · rw [if_neg z] at c4; omega
  refine t_note T (show 0 ≤ gF F 21 ∧ gF F 21 ≤ 12 from hu) (fun _ => ⟨(by first | omega | (unfold i32; omega)), (by first | omega | (unfold i32; omega)), (by first | omega | (unfold i32; omega)), s_its (by omega) (by omega) ho ⟨by omega, by omega⟩ (fun _ => ⟨?_, (by first | omega | (unfold i32; omega)), ?_⟩)⟩)
  · show i32 (A 5 (12 + 8 * o + 3) + 1)
    unfold i32; omega
  rintro m74 rfl
  rw [tws_5]
  exact yes ⟨c1, c2, c3⟩ c4 _ _ (post_A S)
theorem p_leaves {p : Int} (T : TT h M) (S : Scr F A) (hH : HR B F A) (hu : 0 ≤ F 21 ∧ F 21 ≤ 12)
    (no : ¬ isP F A p → ∀ F' A', Post F A 1 F' A' → Q 0 (blk h M 15 F' A'))
    (no5 : isP F A p → A 5 (12 + 8 * p + 0) ≠ 1 → ∀ F' A', Post F A 5 F' A' → Q 0 (blk h M 15 F' A'))
    (yes : isP F A p → A 5 (12 + 8 * p + 0) = 1 → ∀ F' A', PostA F A (upI (upI (A 5) (12 + 8 * p + 0) 5) (12 + 8 * p + 7) (A 5 0)) F' A' → Q 1 (blk h M 15 F' A')) : g_X4_leaves M p Q (blk h M 15 F A) := by
  unfold g_X4_leaves
  refine t_good (fun _ => t_isPerson (fun z => (hH z).1) (fun _ => ⟨fun c1 => ?_, fun c1 => t_isNot (fun _ => ⟨Or.inl rfl, no (zero_of c1) _ _ (post_no S)⟩)⟩))
  have c1 : isP F A p := one_of c1
  obtain ⟨HO, R⟩ := hH c1.1
  have hn := HO.pm
  have hp : 0 ≤ p ∧ p < 10 := ⟨c1.2.1, by omega⟩
  refine s_isWaiting hp (fun _ => ⟨fun c3 => ?_, fun c3 => t_isNot (fun _ => ⟨Or.inl rfl, no5 c1 (zero_of c3) _ _ (post_no S)⟩)⟩)
  refine t_note T (show 0 ≤ gF F 21 ∧ gF F 21 ≤ 12 from hu) (fun _ => ⟨(by first | omega | (unfold i32; omega)), (by first | omega | (unfold i32; omega)), (by first | omega | (unfold i32; omega)), (by first | omega | (unfold i32; omega)), ?_⟩)
  rintro m53 rfl
  rw [tws_5]
  simp only [tw_5]
  refine ⟨(by first | omega | (unfold i32; omega)), (by first | omega | (unfold i32; omega)), (by first | omega | (unfold i32; omega)), (by first | omega | (unfold i32; omega)), ?_⟩
  rintro m74 rfl
  rw [tws_5, upR_up, upR_eq]
  have e0 : upI (upR A 7 (noteU (A 7) (A 5) (gF F 21)) 5) (12 + 8 * p + 0) 5 0 = A 5 0 := by unfold upI; rw [if_neg (by omega)]; rfl
  rw [e0]
  exact yes c1 (one_of c3) _ _ (post_A S)
theorem p_calls {p : Int} (T : TT h M) (hB : 10000 ≤ B ∧ B ≤ 100000) (S : Scr F A) (hH : HR B F A) (hu : 0 ≤ F 21 ∧ F 21 ≤ 12)
    (no : ¬ isP F A p → ∀ F' A', Post F A 1 F' A' → Q (-1) (blk h M 15 F' A'))
    (no5 : isP F A p → A 5 (12 + 8 * p + 0) ≠ 1 → ∀ F' A', Post F A 5 F' A' → Q (-1) (blk h M 15 F' A'))
    (yes : isP F A p → A 5 (12 + 8 * p + 0) = 1 → ∀ F' A', PostA F A (upI (A 5) (12 + 8 * p + 2) (if 99 < A 5 (12 + 8 * p + 2) + 5 then 99 else A 5 (12 + 8 * p + 2) + 5)) F' A' → Q (if 99 < A 5 (12 + 8 * p + 2) + 5 then 99 else A 5 (12 + 8 * p + 2) + 5) (blk h M 15 F' A')) : g_X4_calls M p Q (blk h M 15 F A) := by
  unfold g_X4_calls
  refine t_good (fun _ => t_isPerson (fun z => (hH z).1) (fun _ => ⟨fun c1 => ?_, fun c1 => t_no (fun _ => no (zero_of c1) _ _ (post_no S))⟩))
  have c1 : isP F A p := one_of c1
  obtain ⟨HO, R⟩ := hH c1.1
  have hn := HO.pm
  have hp : 0 ≤ p ∧ p < 10 := ⟨c1.2.1, by omega⟩
  have cc := R.cells (12 + 8 * p + 2)
  refine s_isWaiting hp (fun _ => ⟨fun c3 => ?_, fun c3 => t_no (fun _ => no5 c1 (zero_of c3) _ _ (post_no S))⟩)
  refine t_note T (show 0 ≤ gF F 21 ∧ gF F 21 ≤ 12 from hu) (fun _ => ⟨(by first | omega | (unfold i32; omega)), (by first | omega | (unfold i32; omega)), (by first | omega | (unfold i32; omega)), ?_⟩)
  rintro y48 rfl
  simp only [tw_5]
  have e5 : upR A 7 (noteU (A 7) (A 5) (gF F 21)) 5 = A 5 := rfl
  rw [e5]
  have fin : ∀ v : Int, v = (if 99 < A 5 (12 + 8 * p + 2) + 5 then 99 else A 5 (12 + 8 * p + 2) + 5) → g_X4_calls_b80 M p Q (12 + 8 * p + 2) (M + 5) (12 + 8 * p + 2) v (blk h M 15 (upN (gF F) 21 (noteN (gF F 21))) (upR A 7 (noteU (A 7) (A 5) (gF F 21)))) := by
    intro v hv
    unfold g_X4_calls_b80
    refine ⟨T.t5.1, ⟨by omega, by show 12 + 8 * p + 2 < hL h (M + 5); rw [T.t5.2]; omega⟩, ?_⟩
    rintro m80 rfl
    rw [tws_5, tw_5, e5, upR_eq]
    refine ⟨(by first | omega | (unfold i32; omega)), ?_⟩
    rw [show upI (A 5) (12 + 8 * p + 2) v (12 + 8 * p + 2) = v from if_pos rfl, hv]
    exact yes c1 (one_of c3) _ _ (post_A S)
  refine ⟨(by first | omega | (unfold i32; omega)), (by first | omega | (unfold i32; omega)), fun c4 => ⟨(by first | omega | (unfold i32; omega)), (by first | omega | (unfold i32; omega)), fin _ (by rw [if_neg (by omega)])⟩, fun c4 => fin _ (by rw [if_pos c4])⟩
end EV
