/-! LAYER 2: an evening, second by second: what the twin's code does to a row -/
def CrewOK (c : Int → Int) : Prop := (∀ s : Int, 0 ≤ s → s < 4 → 0 ≤ c (6 * s + 0) ∧ c (6 * s + 0) ≤ 4) ∧ (∀ s : Int, 0 ≤ s → s < 4 → 0 ≤ c (6 * s + 1) ∧ c (6 * s + 1) ≤ 19) ∧ (∀ s : Int, 0 ≤ s → s < 4 → 0 ≤ c (6 * s + 2) ∧ c (6 * s + 2) ≤ 19) ∧ (∀ s : Int, 0 ≤ s → s < 4 → 0 ≤ c (6 * s + 3) ∧ c (6 * s + 3) ≤ 19) ∧ (∀ s : Int, 0 ≤ s → s < 4 → 0 ≤ c (6 * s + 4) ∧ c (6 * s + 4) ≤ 9) ∧ (∀ s : Int, 0 ≤ s → s < 4 → 0 ≤ c (6 * s + 5) ∧ c (6 * s + 5) ≤ 2)
theorem CrewOK.rule {c : Int → Int} (H : CrewOK c) : ∀ s : Int, 0 ≤ s → s < 4 → 0 ≤ c (6 * s + 0) ∧ c (6 * s + 0) ≤ 4 := H.1
theorem CrewOK.stands {c : Int → Int} (H : CrewOK c) : ∀ s : Int, 0 ≤ s → s < 4 → 0 ≤ c (6 * s + 1) ∧ c (6 * s + 1) ≤ 19 := H.2.1
theorem CrewOK.frm {c : Int → Int} (H : CrewOK c) : ∀ s : Int, 0 ≤ s → s < 4 → 0 ≤ c (6 * s + 2) ∧ c (6 * s + 2) ≤ 19 := H.2.2.1
theorem CrewOK.til {c : Int → Int} (H : CrewOK c) : ∀ s : Int, 0 ≤ s → s < 4 → 0 ≤ c (6 * s + 3) ∧ c (6 * s + 3) ≤ 19 := H.2.2.2.1
theorem CrewOK.step {c : Int → Int} (H : CrewOK c) : ∀ s : Int, 0 ≤ s → s < 4 → 0 ≤ c (6 * s + 4) ∧ c (6 * s + 4) ≤ 9 := H.2.2.2.2.1
theorem CrewOK.hands {c : Int → Int} (H : CrewOK c) : ∀ s : Int, 0 ≤ s → s < 4 → 0 ≤ c (6 * s + 5) ∧ c (6 * s + 5) ≤ 2 := H.2.2.2.2.2
def PplOK (q : Int → Int) : Prop := (∀ p : Int, 0 ≤ p → p < 10 → 0 ≤ q (7 * p + 0) ∧ q (7 * p + 0) ≤ 3) ∧ (∀ p : Int, 0 ≤ p → p < 10 → 0 ≤ q (7 * p + 1) ∧ q (7 * p + 1) ≤ 99) ∧ (∀ p : Int, 0 ≤ p → p < 10 → 0 ≤ q (7 * p + 2) ∧ q (7 * p + 2) ≤ 600) ∧ (∀ p : Int, 0 ≤ p → p < 10 → 0 ≤ q (7 * p + 3) ∧ q (7 * p + 3) ≤ 19) ∧ (∀ p : Int, 0 ≤ p → p < 10 → 0 ≤ q (7 * p + 4) ∧ q (7 * p + 4) ≤ 600) ∧ (∀ p : Int, 0 ≤ p → p < 10 → 0 ≤ q (7 * p + 5) ∧ q (7 * p + 5) ≤ 99) ∧ (∀ p : Int, 0 ≤ p → p < 10 → 0 ≤ q (7 * p + 6) ∧ q (7 * p + 6) ≤ 601)
theorem PplOK.manner {q : Int → Int} (H : PplOK q) : ∀ p : Int, 0 ≤ p → p < 10 → 0 ≤ q (7 * p + 0) ∧ q (7 * p + 0) ≤ 3 := H.1
theorem PplOK.bys {q : Int → Int} (H : PplOK q) : ∀ p : Int, 0 ≤ p → p < 10 → 0 ≤ q (7 * p + 1) ∧ q (7 * p + 1) ≤ 99 := H.2.1
theorem PplOK.comes {q : Int → Int} (H : PplOK q) : ∀ p : Int, 0 ≤ p → p < 10 → 0 ≤ q (7 * p + 2) ∧ q (7 * p + 2) ≤ 600 := H.2.2.1
theorem PplOK.spot {q : Int → Int} (H : PplOK q) : ∀ p : Int, 0 ≤ p → p < 10 → 0 ≤ q (7 * p + 3) ∧ q (7 * p + 3) ≤ 19 := H.2.2.2.1
theorem PplOK.patience {q : Int → Int} (H : PplOK q) : ∀ p : Int, 0 ≤ p → p < 10 → 0 ≤ q (7 * p + 4) ∧ q (7 * p + 4) ≤ 600 := H.2.2.2.2.1
theorem PplOK.looks {q : Int → Int} (H : PplOK q) : ∀ p : Int, 0 ≤ p → p < 10 → 0 ≤ q (7 * p + 5) ∧ q (7 * p + 5) ≤ 99 := H.2.2.2.2.2.1
theorem PplOK.shelf {q : Int → Int} (H : PplOK q) : ∀ p : Int, 0 ≤ p → p < 10 → 0 ≤ q (7 * p + 6) ∧ q (7 * p + 6) ≤ 601 := H.2.2.2.2.2.2
/-- how many of n people are as a test says -/
def cnt (f : Int → Prop) [DecidablePred f] (n : Nat) : Int := sumN (fun p => if f p then 1 else 0) n
def far (a b : Int) : Int := if a < b then b - a else a - b
def turnF (c q row : Int → Int) (s p : Int) : Int :=
  if c (6 * s + 0) = 0 then (if row (12 + 8 * p + 1) < row (92 + 4 * s) then 1000000 + row (12 + 8 * p + 1) else row (12 + 8 * p + 1) - row (92 + 4 * s))
  else if c (6 * s + 0) = 1 then 2 * far (row (12 + 8 * p + 1)) (row (92 + 4 * s)) + (if row (92 + 4 * s) < row (12 + 8 * p + 1) then 1 else 0)
  else if c (6 * s + 0) = 2 then - row (12 + 8 * p + 2)
  else if c (6 * s + 0) = 3 then row (12 + 8 * p + 3)
  else if q (7 * p + 0) = 3 then 0 else 1
/-- whether p is taken instead of the best so far -/
abbrev nxT (c q row : Int → Int) (s best p : Int) : Prop :=
  row (12 + 8 * p + 0) = 1 ∧ c (6 * s + 2) ≤ row (12 + 8 * p + 1) ∧ row (12 + 8 * p + 1) ≤ c (6 * s + 3) ∧
    (best = -2 ∨ turnF c q row s p < turnF c q row s best ∨ (turnF c q row s p = turnF c q row s best ∧ q (7 * p + 2) < q (7 * best + 2)))
def nxN (c q row : Int → Int) (s : Int) : Nat → Int
  | 0 => -2
  | n + 1 => if nxT c q row s (nxN c q row s n) n then (n : Int) else nxN c q row s n
theorem nxN_b (c q row : Int → Int) (s : Int) : ∀ n : Nat, nxN c q row s n = -2 ∨ (0 ≤ nxN c q row s n ∧ nxN c q row s n < n ∧ row (12 + 8 * nxN c q row s n + 0) = 1)
  | 0 => Or.inl rfl
  | n + 1 => by
    have ih := nxN_b c q row s n
    by_cases e : nxT c q row s (nxN c q row s n) n
    · rw [show nxN c q row s (n + 1) = (n : Int) from if_pos e]
      exact Or.inr ⟨by omega, by omega, e.1⟩
    · rw [show nxN c q row s (n + 1) = nxN c q row s n from if_neg e]
      rcases ih with z | z
      · exact Or.inl z
      · exact Or.inr ⟨z.1, by omega, z.2.2⟩
/-- the row when s has begun with p -/
def bgnR (row : Int → Int) (s hand p done : Int) : Int → Int := fun j =>
  if j = 1 then row 1 + 1 else if j = 2 + row 1 then p else if j = 92 + 4 * s + 3 then p + 1 else if j = 92 + 4 * s + hand then done else if j = 92 + 4 * s then row (12 + 8 * p + 1)
  else if j = 12 + 8 * p + 6 then s else if j = 12 + 8 * p + 5 then done else if j = 12 + 8 * p + 4 then row 0 else if j = 12 + 8 * p + 0 then 2 else row j
def doneF (r c row : Int → Int) (s p : Int) : Int := row 0 + c (6 * s + 4) * far (row (92 + 4 * s)) (row (12 + 8 * p + 1)) + tbF r (row (92 + 4 * s + 3) - 1) p
def begN (r c q : Int → Int) (n : Nat) (s hand : Int) : Nat → (Int → Int) → Int → (Int → Int)
  | 0, row, _ => row
  | k + 1, row, p => if p = -2 then row else
      begN r c q n s hand k (bgnR row s hand p (doneF r c row s p)) (if doneF r c row s p ≤ row 0 then nxN c q (bgnR row s hand p (doneF r c row s p)) s n else -2)
def RW (h : Hp) (M : Int) (F : Nat → Int) (A : Int → Int → Int) (k : Int) (row : Int → Int) : Hp := blk h M 15 F (upR A k row)
theorem RW_self (h : Hp) (M : Int) (F : Nat → Int) (A : Int → Int → Int) (k : Int) : blk h M 15 F A = RW h M F A k (A k) := by
  unfold RW
  rw [show upR A k (A k) = A from by funext j; unfold upR; by_cases e : j = k <;> simp [e]]
section EV
variable {h : Hp} {M : Int} {F : Nat → Int} {A : Int → Int → Int} {k : Int} {row : Int → Int} {Q : Int → Hp → Prop} {Qv : Hp → Prop}
theorem RW_k (hk : k = 5 ∨ k = 6) (j : Int) : hA (RW h M F A k row) (M + k) j = row j := by
  unfold RW; rw [blk_A (by omega) (by omega)]; simp [upR]
theorem RW_set (hk : k = 5 ∨ k = 6) (i v : Int) : setA (RW h M F A k row) (M + k) i v = RW h M F A k (upI row i v) := by
  unfold RW; rw [blk_setA (by omega) (by omega), upR_up]; simp [upR]
theorem RW_3 (hk : k = 5 ∨ k = 6) (j : Int) : hA (RW h M F A k row) (M + 3) j = A 3 j := by
  unfold RW; rw [tw_3]; simp only [upR]; rw [if_neg (by omega)]
theorem RW_9 (hk : k = 5 ∨ k = 6) (j : Int) : hA (RW h M F A k row) (M + 9) j = A 9 j := by
  unfold RW; rw [tw_9]; simp only [upR]; rw [if_neg (by omega)]
theorem RW_10 (hk : k = 5 ∨ k = 6) (j : Int) : hA (RW h M F A k row) (M + 10) j = A 10 j := by
  unfold RW; rw [tw_10]; simp only [upR]; rw [if_neg (by omega)]
theorem RW_F (j : Nat) : hF (RW h M F A k row) M j = F j := blk_F j
theorem t_wantsOf (hk : k = 5 ∨ k = 6) {p d : Int} (hp : 0 ≤ p ∧ p < 10) (hd : 0 ≤ d ∧ d < 5) (hq : Q (A 3 (111 + 5 * p + d)) (RW h M F A k row)) : g_X4_wantsOf M p d Q (RW h M F A k row) :=
  s_wantsOf hp hd (by rw [show upR A k row 3 = A 3 from if_neg (by omega)]; exact hq)
theorem t_man (hk : k = 5 ∨ k = 6) {p w : Int} (hp : 0 ≤ p ∧ p < 10) (hd : 0 ≤ w ∧ w < 7) (hq : Q (A 10 (7 * p + w)) (RW h M F A k row)) : g_X4_man M p w Q (RW h M F A k row) :=
  s_man hp hd (by rw [show upR A k row 10 = A 10 from if_neg (by omega)]; exact hq)
theorem t_its (hk : k = 5 ∨ k = 6) {p w : Int} (hp : 0 ≤ p ∧ p < 10) (hd : 0 ≤ w ∧ w < 8) (hq : Q (row (12 + 8 * p + w)) (RW h M F A k row)) : g_X4_its (M + k) p w Q (RW h M F A k row) :=
  s_its (by omega) (by omega) hp hd (by rw [show upR A k row k = row from if_pos rfl]; exact hq)
theorem t_timeBehind (hk : k = 5 ∨ k = 6) (HO : HouseOK (A 3)) {last p : Int} (hl : last < 10) (hp : 0 ≤ p ∧ p < 10) (hq : Q (tbF (A 3) last p) (RW h M F A k row)) : g_X4_timeBehind M last p Q (RW h M F A k row) :=
  s_timeBehind (by rw [show upR A k row 3 = A 3 from if_neg (by omega)]; exact HO) hl hp (by rw [show upR A k row 3 = A 3 from if_neg (by omega)]; exact hq)
theorem t_isWaiting (hk : k = 5 ∨ k = 6) {p : Int} (hp : 0 ≤ p ∧ p < 10) (hq : Q (if row (12 + 8 * p + 0) = 1 then 1 else 0) (RW h M F A k row)) : g_X4_isWaiting (M + k) p Q (RW h M F A k row) := by
  unfold g_X4_isWaiting g_X4_isWaiting_b15
  refine t_its hk hp ⟨by omega, by omega⟩ (fun _ => ⟨fun c => ⟨Or.inl rfl, ?_⟩, fun c => ⟨Or.inr rfl, ?_⟩⟩)
  · rw [if_neg c] at hq; exact hq
  · rw [if_pos c] at hq; exact hq
theorem t_within {x a b : Int} {H : Hp} (hq : Q (if a ≤ x ∧ x ≤ b then 1 else 0) H) : g_X4_within x a b Q H := by
  unfold g_X4_within g_X4_within_b14 g_X4_within_b15
  refine ⟨fun c => ⟨Or.inl rfl, ?_⟩, fun c => ⟨fun c2 => ⟨Or.inl rfl, ?_⟩, fun c2 => ⟨Or.inr rfl, ?_⟩⟩⟩
  · rw [if_neg (by omega)] at hq; exact hq
  · rw [if_neg (by omega)] at hq; exact hq
  · rw [if_pos (by omega)] at hq; exact hq
theorem t_far {a b : Int} {H : Hp} (h1 : -100000 ≤ a ∧ a ≤ 100000) (h2 : -100000 ≤ b ∧ b ≤ 100000) (hq : Q (far a b) H) : g_X4_far a b Q H := by
  unfold g_X4_far g_X4_far_b14
  refine ⟨fun c => ⟨(by first | omega | (unfold i32; omega)), ?_⟩, fun c => ⟨(by first | omega | (unfold i32; omega)), ?_⟩⟩
  · rw [show far a b = a - b from if_neg (by omega)] at hq; exact hq
  · rw [show far a b = b - a from if_pos c] at hq; exact hq
theorem t_turn (hk : k = 5 ∨ k = 6) (C : CrewOK (A 9)) (hr : ∀ j : Int, -100000 ≤ row j ∧ row j ≤ 100000) {s p : Int} (hs : 0 ≤ s ∧ s < 4) (hp : 0 ≤ p ∧ p < 10) (hq : Q (turnF (A 9) (A 10) row s p) (RW h M F A k row)) : g_X4_turn M (M + k) s p Q (RW h M F A k row) := by
  have b1 := hr (92 + 4 * s)
  have b2 := hr (12 + 8 * p + 1)
  have b3 := hr (12 + 8 * p + 2)
  have b4 := C.rule s hs.1 hs.2
  unfold turnF at hq
  unfold g_X4_turn g_X4_turn_b81 g_X4_turn_b103 g_X4_turn_b135
  simp only [RW_k hk]
  refine ⟨(by first | omega | (unfold i32; omega)), (by first | omega | (unfold i32; omega)), (by first | omega | (unfold i32; omega)), ?_⟩
  rintro y8 rfl
  refine t_its hk hp ⟨by omega, by omega⟩ (fun _ => ?_)
  simp only [RW_9 hk]
  refine ⟨(by first | omega | (unfold i32; omega)), (by first | omega | (unfold i32; omega)), (by first | omega | (unfold i32; omega)), fun c => ?_, fun c => ?_, fun c => ?_, fun c => ?_, fun c => ?_⟩
  · rw [if_pos c] at hq
    refine ⟨fun c2 => ⟨(by first | omega | (unfold i32; omega)), ?_⟩, fun c2 => ⟨(by first | omega | (unfold i32; omega)), ?_⟩⟩
    · rw [if_pos c2] at hq; exact hq
    · rw [if_neg (by omega)] at hq; exact hq
  · rw [if_neg (by omega), if_pos c] at hq
    have b5 : 0 ≤ far (row (12 + 8 * p + 1)) (row (92 + 4 * s)) ∧ far (row (12 + 8 * p + 1)) (row (92 + 4 * s)) ≤ 200000 := by unfold far; split <;> omega
    refine t_far b2 b1 (fun _ => ⟨(by first | omega | (unfold i32; omega)), fun c2 => ⟨(by first | omega | (unfold i32; omega)), ?_⟩, fun c2 => ⟨(by first | omega | (unfold i32; omega)), ?_⟩⟩)
    · rw [if_neg (by omega)] at hq; exact hq
    · rw [if_pos c2] at hq; exact hq
  · rw [if_neg (by omega), if_neg (by omega), if_pos c] at hq
    refine t_its hk hp ⟨by omega, by omega⟩ (fun _ => ⟨(by first | omega | (unfold i32; omega)), hq⟩)
  · rw [if_neg (by omega), if_neg (by omega), if_neg (by omega), if_pos c] at hq
    exact t_its hk hp ⟨by omega, by omega⟩ (fun _ => hq)
  · rw [if_neg c.1, if_neg c.2.1, if_neg c.2.2.1, if_neg c.2.2.2] at hq
    refine t_man hk hp ⟨by omega, by omega⟩ (fun _ => ⟨fun c2 => ?_, fun c2 => ?_⟩)
    · rw [if_neg c2] at hq; exact hq
    · rw [if_pos c2] at hq; exact hq
theorem t_nextFor (hk : k = 5 ∨ k = 6) (HO : HouseOK (A 3)) (C : CrewOK (A 9)) (hr : ∀ j : Int, -100000 ≤ row j ∧ row j ≤ 100000) {s : Int} (hs : 0 ≤ s ∧ s < 4) (hq : Q (nxN (A 9) (A 10) row s (A 3 5).toNat) (RW h M F A k row)) : g_X4_nextFor M (M + k) s Q (RW h M F A k row) := by
  have hn := HO.pm
  unfold g_X4_nextFor
  refine Lp2_for (A 3 5).toNat 0 (nxN (A 9) (A 10) row s) (fun _ => RW h M F A k row) (fun K j hj hK => ?_) (fun K => ?_)
  · have hp : 0 ≤ (j : Int) ∧ (j : Int) < 10 := ⟨by omega, by omega⟩
    have hb := nxN_b (A 9) (A 10) row s j
    rw [Int.zero_add]
    unfold g_X4_nextFor_L6 g_X4_nextFor_b128 g_X4_nextFor_b125
    simp only [RW_3 hk]
    have no : ¬ nxT (A 9) (A 10) row s (nxN (A 9) (A 10) row s j) j → (i32 ((j : Int) + 1)) ∧ (∀ y128 : Int, y128 = (j : Int) + 1 → (K (nxN (A 9) (A 10) row s j) y128 (RW h M F A k row))) := fun c => ⟨(by first | omega | (unfold i32; omega)), fun y e => hK _ _ _ (by rw [show nxN (A 9) (A 10) row s (j + 1) = nxN (A 9) (A 10) row s j from if_neg c]) (by omega) rfl⟩
    have yes : nxT (A 9) (A 10) row s (nxN (A 9) (A 10) row s j) j → (i32 ((j : Int) + 1)) ∧ (∀ y128 : Int, y128 = (j : Int) + 1 → (K (j : Int) y128 (RW h M F A k row))) := fun c => ⟨(by first | omega | (unfold i32; omega)), fun y e => hK _ _ _ (by rw [show nxN (A 9) (A 10) row s (j + 1) = (j : Int) from if_pos c]) (by omega) rfl⟩
    refine ⟨fun c => absurd c (by omega), fun c => t_isWaiting hk hp (fun _ => ⟨fun c1 => no (fun z => ?_), fun c1 => t_its hk hp ⟨by omega, by omega⟩ (fun _ => ?_)⟩)⟩
    · rw [if_pos z.1] at c1; omega
    · have w : row (12 + 8 * (j : Int) + 0) = 1 := by
        by_cases e : row (12 + 8 * (j : Int) + 0) = 1
        · exact e
        · rw [if_neg e] at c1; exact absurd rfl c1
      simp only [RW_9 hk]
      refine ⟨(by first | omega | (unfold i32; omega)), (by first | omega | (unfold i32; omega)), (by first | omega | (unfold i32; omega)), (by first | omega | (unfold i32; omega)), (by first | omega | (unfold i32; omega)), (by first | omega | (unfold i32; omega)), t_within (fun _ => ⟨fun c2 => ⟨fun c3 => ?_, fun c3 => ?_⟩, fun c2 => no (fun z => ?_)⟩)⟩
      · have v : A 9 (6 * s + 2) ≤ row (12 + 8 * (j : Int) + 1) ∧ row (12 + 8 * (j : Int) + 1) ≤ A 9 (6 * s + 3) := by
          by_cases e : A 9 (6 * s + 2) ≤ row (12 + 8 * (j : Int) + 1) ∧ row (12 + 8 * (j : Int) + 1) ≤ A 9 (6 * s + 3)
          · exact e
          · rw [if_neg e] at c2; exact absurd rfl c2
        have hb2 : 0 ≤ nxN (A 9) (A 10) row s j ∧ nxN (A 9) (A 10) row s j < 10 := by omega
        refine t_turn hk C hr hs hp (fun _ => t_turn hk C hr hs hb2 (fun _ => ⟨fun c4 => yes ⟨w, v.1, v.2, Or.inr (Or.inl c4)⟩, fun c4 => ⟨fun c5 => no ?_, fun c5 => t_man hk hp ⟨by omega, by omega⟩ (fun _ => t_man hk hb2 ⟨by omega, by omega⟩ (fun _ => ⟨fun c6 => no ?_, fun c6 => yes ⟨w, v.1, v.2, Or.inr (Or.inr ⟨c5, c6⟩)⟩⟩))⟩⟩))
        · rintro ⟨-, -, -, z | z | z⟩
          · exact c3 z
          · omega
          · exact c5 z.1
        · rintro ⟨-, -, -, z | z | z⟩
          · exact c3 z
          · omega
          · omega
      · have v : A 9 (6 * s + 2) ≤ row (12 + 8 * (j : Int) + 1) ∧ row (12 + 8 * (j : Int) + 1) ≤ A 9 (6 * s + 3) := by
          by_cases e : A 9 (6 * s + 2) ≤ row (12 + 8 * (j : Int) + 1) ∧ row (12 + 8 * (j : Int) + 1) ≤ A 9 (6 * s + 3)
          · exact e
          · rw [if_neg e] at c2; exact absurd rfl c2
        exact yes ⟨w, v.1, v.2, Or.inl c3⟩
      · rw [if_pos ⟨z.2.1, z.2.2.1⟩] at c2; omega
  · unfold g_X4_nextFor_L6 g_X4_nextFor_b134
    simp only [RW_3 hk]
    exact ⟨fun _ => hq, fun c => absurd c (by omega)⟩
end EV
