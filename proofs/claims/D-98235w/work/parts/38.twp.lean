/-! LAYER 2: the twin's calls that change nothing (printed by tools/mk38.py) -/
abbrev Scr (F : Nat → Int) (A : Int → Int → Int) : Prop := CrewOK (A 9) ∧ (∀ j : Int, j < 0 ∨ 108 ≤ j → A 6 j = 0) ∧ 0 ≤ F 25 ∧ F 25 ≤ 4
abbrev Per (F : Nat → Int) (A : Int → Int → Int) (F' : Nat → Int) (A' : Int → Int → Int) : Prop :=
  (A' 1 = A 1 ∧ A' 3 = A 3 ∧ A' 5 = A 5 ∧ A' 7 = A 7 ∧ A' 8 = A 8) ∧ (∀ j : Nat, j ≠ 0 → j ≠ 11 → j ≠ 25 → j ≠ 26 → j ≠ 27 → j ≠ 28 → j ≠ 33 → F' j = F j) ∧ Scr F' A'
abbrev Post (F : Nat → Int) (A : Int → Int → Int) (tr : Int) (F' : Nat → Int) (A' : Int → Int → Int) : Prop := Per F A F' A' ∧ F' 0 = 0 ∧ F' 11 = tr
abbrev HR (B : Int) (F : Nat → Int) (A : Int → Int → Int) : Prop := F 14 ≠ 0 → HouseOK (A 3) ∧ RowOK B (A 5)
abbrev isP (F : Nat → Int) (A : Int → Int → Int) (p : Int) : Prop := F 14 ≠ 0 ∧ 0 ≤ p ∧ p ≤ A 3 5 - 1
abbrev isS (F : Nat → Int) (A : Int → Int → Int) (p : Int) : Prop := F 14 ≠ 0 ∧ 0 ≤ p ∧ p ≤ A 3 4 - 1
abbrev isL (F : Nat → Int) (A : Int → Int → Int) (p : Int) : Prop := F 14 ≠ 0 ∧ 0 ≤ p ∧ p ≤ A 3 1 - 1
abbrev isD (F : Nat → Int) (A : Int → Int → Int) (p : Int) : Prop := F 14 ≠ 0 ∧ 0 ≤ p ∧ p ≤ A 3 3 - 1
theorem upN_ne {F : Nat → Int} {k j : Nat} {v : Int} (h : j ≠ k) : upN F k v j = F j := if_neg h
theorem upN_eq {F : Nat → Int} {k : Nat} {v : Int} : upN F k v k = v := if_pos rfl
theorem one_of {P : Prop} [Decidable P] (h : (if P then (1 : Int) else 0) ≠ 0) : P := by
  by_cases c : P
  · exact c
  · rw [if_neg c] at h; exact absurd rfl h
theorem zero_of {P : Prop} [Decidable P] (h : (if P then (1 : Int) else 0) = 0) : ¬ P := by
  intro c
  rw [if_pos c] at h; omega
def gF (F : Nat → Int) : Nat → Int := upN (upN F 0 0) 11 0
theorem gF_o {F : Nat → Int} {j : Nat} (h0 : j ≠ 0) (h1 : j ≠ 11) : gF F j = F j := by unfold gF; rw [upN_ne h1, upN_ne h0]
section EV
variable {h : Hp} {M : Int} {F : Nat → Int} {A : Int → Int → Int} {e : Int → Int} {Q : Int → Hp → Prop} {Qv : Hp → Prop} {B : Int}
theorem t_good (hq : Qv (blk h M 15 (gF F) A)) : g_X4_good M Qv (blk h M 15 F A) := by
  unfold g_X4_good
  rintro m2 rfl m7 rfl
  rw [blk_setF, blk_setF]; exact hq
theorem t_no {tr : Int} (hq : Q (-1) (blk h M 15 (upN F 11 tr) A)) : g_X4_no M tr Q (blk h M 15 F A) := by
  unfold g_X4_no
  rintro m2 rfl
  rw [blk_setF]; exact hq
theorem t_noLess {v : Int} (hq : Q v (blk h M 15 (upN F 11 1) A)) : g_X4_noLess M v Q (blk h M 15 F A) := by
  unfold g_X4_noLess
  rintro m2 rfl
  rw [blk_setF]; exact hq
theorem t_isNot {tr : Int} (hq : Q 0 (blk h M 15 (upN F 11 tr) A)) : g_X4_isNot M tr Q (blk h M 15 F A) := by
  unfold g_X4_isNot
  rintro m2 rfl
  rw [blk_setF]; exact hq
theorem post_no {tr : Int} (S : Scr F A) : Post F A tr (upN (gF F) 11 tr) A :=
  ⟨⟨⟨rfl, rfl, rfl, rfl, rfl⟩, fun j h0 h1 _ _ _ _ _ => by rw [upN_ne h1, gF_o h0 h1], S⟩, rfl, rfl⟩
theorem post_g (S : Scr F A) : Post F A 0 (gF F) A :=
  ⟨⟨⟨rfl, rfl, rfl, rfl, rfl⟩, fun j h0 h1 _ _ _ _ _ => gF_o h0 h1, S⟩, rfl, rfl⟩

theorem t_isPerson {p : Int} (hH : F 14 ≠ 0 → HouseOK (A 3)) (hq : Q (if isP F A p then 1 else 0) (blk h M 15 F A)) : g_X4_isPerson M p Q (blk h M 15 F A) := by
  unfold g_X4_isPerson
  simp only [blk_F, tw_3]
  unfold g_X4_isPerson_b27 g_X4_isPerson_b28
  refine ⟨fun c => ⟨Or.inl rfl, ?_⟩, fun c => ⟨?_, t_within (fun _ => ⟨fun c2 => ⟨Or.inl rfl, ?_⟩, fun c2 => ⟨Or.inr rfl, ?_⟩⟩)⟩⟩
  · rw [if_neg (fun z => z.1 c)] at hq; exact hq
  · have := (hH c).long; have := (hH c).dm; have := (hH c).sm; have := (hH c).pm
    unfold i32; omega
  · rw [if_neg (fun z => zero_of c2 z.2)] at hq; exact hq
  · rw [if_pos ⟨c, one_of c2⟩] at hq; exact hq

theorem t_isStaff {p : Int} (hH : F 14 ≠ 0 → HouseOK (A 3)) (hq : Q (if isS F A p then 1 else 0) (blk h M 15 F A)) : g_X4_isStaff M p Q (blk h M 15 F A) := by
  unfold g_X4_isStaff
  simp only [blk_F, tw_3]
  unfold g_X4_isStaff_b27 g_X4_isStaff_b28
  refine ⟨fun c => ⟨Or.inl rfl, ?_⟩, fun c => ⟨?_, t_within (fun _ => ⟨fun c2 => ⟨Or.inl rfl, ?_⟩, fun c2 => ⟨Or.inr rfl, ?_⟩⟩)⟩⟩
  · rw [if_neg (fun z => z.1 c)] at hq; exact hq
  · have := (hH c).long; have := (hH c).dm; have := (hH c).sm; have := (hH c).pm
    unfold i32; omega
  · rw [if_neg (fun z => zero_of c2 z.2)] at hq; exact hq
  · rw [if_pos ⟨c, one_of c2⟩] at hq; exact hq

theorem t_isSpot {p : Int} (hH : F 14 ≠ 0 → HouseOK (A 3)) (hq : Q (if isL F A p then 1 else 0) (blk h M 15 F A)) : g_X4_isSpot M p Q (blk h M 15 F A) := by
  unfold g_X4_isSpot
  simp only [blk_F, tw_3]
  unfold g_X4_isSpot_b27 g_X4_isSpot_b28
  refine ⟨fun c => ⟨Or.inl rfl, ?_⟩, fun c => ⟨?_, t_within (fun _ => ⟨fun c2 => ⟨Or.inl rfl, ?_⟩, fun c2 => ⟨Or.inr rfl, ?_⟩⟩)⟩⟩
  · rw [if_neg (fun z => z.1 c)] at hq; exact hq
  · have := (hH c).long; have := (hH c).dm; have := (hH c).sm; have := (hH c).pm
    unfold i32; omega
  · rw [if_neg (fun z => zero_of c2 z.2)] at hq; exact hq
  · rw [if_pos ⟨c, one_of c2⟩] at hq; exact hq

theorem t_isDrink {p : Int} (hH : F 14 ≠ 0 → HouseOK (A 3)) (hq : Q (if isD F A p then 1 else 0) (blk h M 15 F A)) : g_X4_isDrink M p Q (blk h M 15 F A) := by
  unfold g_X4_isDrink
  simp only [blk_F, tw_3]
  unfold g_X4_isDrink_b27 g_X4_isDrink_b28
  refine ⟨fun c => ⟨Or.inl rfl, ?_⟩, fun c => ⟨?_, t_within (fun _ => ⟨fun c2 => ⟨Or.inl rfl, ?_⟩, fun c2 => ⟨Or.inr rfl, ?_⟩⟩)⟩⟩
  · rw [if_neg (fun z => z.1 c)] at hq; exact hq
  · have := (hH c).long; have := (hH c).dm; have := (hH c).sm; have := (hH c).pm
    unfold i32; omega
  · rw [if_neg (fun z => zero_of c2 z.2)] at hq; exact hq
  · rw [if_pos ⟨c, one_of c2⟩] at hq; exact hq

/-- what lies where the evening has been told -/
abbrev LayT (F : Nat → Int) (A : Int → Int → Int) (c q : Int → Int) (cm bell : Int) (F' : Nat → Int) (A' : Int → Int → Int) : Prop :=
  A' = upR (upR A 9 c) 10 q ∧ F' 25 = cm ∧ F' 26 = bell ∧ ∀ j : Nat, j ≠ 25 → j ≠ 26 → F' j = F j
theorem post_T {c q e : Int → Int} {cm bell : Int} {F' : Nat → Int} {A' : Int → Int → Int} (C : CrewOK c) (hcm : 0 ≤ cm ∧ cm ≤ 4) (R : RowOK B e) (L : LayT (gF F) A c q cm bell F' A') : Post F A 0 F' (upR A' 6 e) := by
  obtain ⟨rfl, l1, l2, l3⟩ := L
  refine ⟨⟨⟨rfl, rfl, rfl, rfl, rfl⟩, fun j h0 h1 h2 h3 _ _ _ => by rw [l3 j h2 h3, gF_o h0 h1], C, fun j hj => R.out j hj, by rw [l1]; exact hcm.1, by rw [l1]; exact hcm.2⟩, by rw [l3 0 (by decide) (by decide)]; rfl, by rw [l3 11 (by decide) (by decide)]; rfl⟩
theorem t_tellEvening (T : TT h M) (hB : 10000 ≤ B ∧ B ≤ 100000) (HO : HouseOK (A 3)) (S : Scr F A) (R : RowOK B (A 5))
    (hq : ∀ (c q : Int → Int) (F' : Nat → Int) (A' : Int → Int → Int), asC (A 3) c → asP (A 3) q → LayT F A c q (A 3 4) (A 3 2) F' A' → RowOK B (evF (A 3) c q (A 3 4).toNat (A 3 2) (A 5)) → Qv (RW h M F' A' 6 (evF (A 3) c q (A 3 4).toNat (A 3 2) (A 5)))) : g_X4_tellEvening M Qv (blk h M 15 F A) := by
  have b1 := HO.bell
  have b2 := HO.sm
  unfold g_X4_tellEvening
  refine t_asTold T HO S.1 (fun c q hc hqq _ => ?_)
  rintro m11 rfl
  rw [tw_3, blk_setF]
  refine t_evening (F := upN (upN F 25 (A 3 4)) 26 (A 3 2)) (A := upR (upR A 9 c) 10 q) T hB HO hc.1 hqq.1 (show 0 ≤ A 3 4 ∧ A 3 4 ≤ 4 by omega) (show 0 ≤ A 3 2 ∧ A 3 2 ≤ 900 by omega) R S.2.1 (fun _ => ?_)
  exact hq c q _ _ hc hqq ⟨rfl, rfl, rfl, fun j h0 h1 => by rw [upN_ne h1, upN_ne h0]⟩ (evF_ok hB.1 HO hc.1 (by omega) ⟨by omega, by omega⟩ R).1

theorem p_fate {p : Int} (T : TT h M) (hB : 10000 ≤ B ∧ B ≤ 100000) (S : Scr F A) (hH : HR B F A)
    (no : ¬ isP F A p → ∀ F' A', Post F A 1 F' A' → Q (-1) (blk h M 15 F' A'))
    (yes : isP F A p → ∀ c q, asC (A 3) c → asP (A 3) q → ∀ F' A', Post F A 0 F' A' → Q (fateF (evF (A 3) c q (A 3 4).toNat (A 3 2) (A 5)) p) (blk h M 15 F' A')) : g_X4_fate M p Q (blk h M 15 F A) := by
  unfold g_X4_fate
  refine t_good (fun _ => t_isPerson (fun z => (hH z).1) (fun _ => ⟨fun c1 => ?_, fun c1 => t_no (fun _ => no (zero_of c1) _ _ (post_no S))⟩))
  have c1 : isP F A p := one_of c1
  obtain ⟨HO, R⟩ := hH c1.1
  have hn := HO.pm
  have hbl := HO.bell
  have hcm := HO.sm
  have hp : 0 ≤ p ∧ p < 10 := ⟨c1.2.1, by omega⟩
  refine t_tellEvening T hB HO S R (fun c q F' A' hc hqq L RE _ => ?_)
  have fin := yes c1 c q hc hqq F' _ (post_T hc.1 ⟨by omega, by omega⟩ RE L)
  have Pq := hqq.1
  have bb : 0 ≤ F' 26 ∧ F' 26 ≤ 900 := by rw [L.2.2.1]; omega
  have e26 := L.2.2.1
  obtain ⟨rfl, -⟩ := L
  exact t_fateOf hp (fun _ => fin)

theorem p_waits {p : Int} (T : TT h M) (hB : 10000 ≤ B ∧ B ≤ 100000) (S : Scr F A) (hH : HR B F A)
    (no : ¬ isP F A p → ∀ F' A', Post F A 1 F' A' → Q (-1) (blk h M 15 F' A'))
    (yes : isP F A p → ∀ c q, asC (A 3) c → asP (A 3) q → ∀ F' A', Post F A 0 F' A' → Q (waitF q (evF (A 3) c q (A 3 4).toNat (A 3 2) (A 5)) (A 3 2) p) (blk h M 15 F' A')) : g_X4_waits M p Q (blk h M 15 F A) := by
  unfold g_X4_waits
  refine t_good (fun _ => t_isPerson (fun z => (hH z).1) (fun _ => ⟨fun c1 => ?_, fun c1 => t_no (fun _ => no (zero_of c1) _ _ (post_no S))⟩))
  have c1 : isP F A p := one_of c1
  obtain ⟨HO, R⟩ := hH c1.1
  have hn := HO.pm
  have hbl := HO.bell
  have hcm := HO.sm
  have hp : 0 ≤ p ∧ p < 10 := ⟨c1.2.1, by omega⟩
  refine t_tellEvening T hB HO S R (fun c q F' A' hc hqq L RE _ => ?_)
  have fin := yes c1 c q hc hqq F' _ (post_T hc.1 ⟨by omega, by omega⟩ RE L)
  have Pq := hqq.1
  have bb : 0 ≤ F' 26 ∧ F' 26 ≤ 900 := by rw [L.2.2.1]; omega
  have e26 := L.2.2.1
  obtain ⟨rfl, -⟩ := L
  exact t_waitOf hB Pq RE bb hp (fun _ => by rw [e26]; exact fin)

theorem p_whom {p : Int} (T : TT h M) (hB : 10000 ≤ B ∧ B ≤ 100000) (S : Scr F A) (hH : HR B F A)
    (no : ¬ isP F A p → ∀ F' A', Post F A 1 F' A' → Q (-1) (blk h M 15 F' A'))
    (yes : isP F A p → ∀ c q, asC (A 3) c → asP (A 3) q → ∀ F' A', Post F A 0 F' A' → Q ((evF (A 3) c q (A 3 4).toNat (A 3 2) (A 5)) (12 + 8 * p + 6)) (blk h M 15 F' A')) : g_X4_whom M p Q (blk h M 15 F A) := by
  unfold g_X4_whom
  refine t_good (fun _ => t_isPerson (fun z => (hH z).1) (fun _ => ⟨fun c1 => ?_, fun c1 => t_no (fun _ => no (zero_of c1) _ _ (post_no S))⟩))
  have c1 : isP F A p := one_of c1
  obtain ⟨HO, R⟩ := hH c1.1
  have hn := HO.pm
  have hbl := HO.bell
  have hcm := HO.sm
  have hp : 0 ≤ p ∧ p < 10 := ⟨c1.2.1, by omega⟩
  refine t_tellEvening T hB HO S R (fun c q F' A' hc hqq L RE _ => ?_)
  have fin := yes c1 c q hc hqq F' _ (post_T hc.1 ⟨by omega, by omega⟩ RE L)
  have Pq := hqq.1
  have bb : 0 ≤ F' 26 ∧ F' 26 ≤ 900 := by rw [L.2.2.1]; omega
  have e26 := L.2.2.1
  obtain ⟨rfl, -⟩ := L
  exact t_its (Or.inr rfl) hp ⟨by omega, by omega⟩ (fun _ => fin)

theorem p_has {p : Int} (T : TT h M) (hB : 10000 ≤ B ∧ B ≤ 100000) (S : Scr F A) (hH : HR B F A)
    (no : ¬ isP F A p → ∀ F' A', Post F A 1 F' A' → Q (-1) (blk h M 15 F' A'))
    (yes : isP F A p → ∀ c q, asC (A 3) c → asP (A 3) q → ∀ F' A', Post F A 0 F' A' → Q ((evF (A 3) c q (A 3 4).toNat (A 3 2) (A 5)) (12 + 8 * p + 5)) (blk h M 15 F' A')) : g_X4_has M p Q (blk h M 15 F A) := by
  unfold g_X4_has
  refine t_good (fun _ => t_isPerson (fun z => (hH z).1) (fun _ => ⟨fun c1 => ?_, fun c1 => t_no (fun _ => no (zero_of c1) _ _ (post_no S))⟩))
  have c1 : isP F A p := one_of c1
  obtain ⟨HO, R⟩ := hH c1.1
  have hn := HO.pm
  have hbl := HO.bell
  have hcm := HO.sm
  have hp : 0 ≤ p ∧ p < 10 := ⟨c1.2.1, by omega⟩
  refine t_tellEvening T hB HO S R (fun c q F' A' hc hqq L RE _ => ?_)
  have fin := yes c1 c q hc hqq F' _ (post_T hc.1 ⟨by omega, by omega⟩ RE L)
  have Pq := hqq.1
  have bb : 0 ≤ F' 26 ∧ F' 26 ≤ 900 := by rw [L.2.2.1]; omega
  have e26 := L.2.2.1
  obtain ⟨rfl, -⟩ := L
  exact t_its (Or.inr rfl) hp ⟨by omega, by omega⟩ (fun _ => fin)

theorem p_passed {p : Int} (T : TT h M) (hB : 10000 ≤ B ∧ B ≤ 100000) (S : Scr F A) (hH : HR B F A)
    (no : ¬ isP F A p → ∀ F' A', Post F A 1 F' A' → Q (-1) (blk h M 15 F' A'))
    (yes : isP F A p → ∀ c q, asC (A 3) c → asP (A 3) q → ∀ F' A', Post F A 0 F' A' → Q (pasF q (evF (A 3) c q (A 3 4).toNat (A 3 2) (A 5)) p) (blk h M 15 F' A')) : g_X4_passed M p Q (blk h M 15 F A) := by
  unfold g_X4_passed
  refine t_good (fun _ => t_isPerson (fun z => (hH z).1) (fun _ => ⟨fun c1 => ?_, fun c1 => t_no (fun _ => no (zero_of c1) _ _ (post_no S))⟩))
  have c1 : isP F A p := one_of c1
  obtain ⟨HO, R⟩ := hH c1.1
  have hn := HO.pm
  have hbl := HO.bell
  have hcm := HO.sm
  have hp : 0 ≤ p ∧ p < 10 := ⟨c1.2.1, by omega⟩
  refine t_tellEvening T hB HO S R (fun c q F' A' hc hqq L RE _ => ?_)
  have fin := yes c1 c q hc hqq F' _ (post_T hc.1 ⟨by omega, by omega⟩ RE L)
  have Pq := hqq.1
  have bb : 0 ≤ F' 26 ∧ F' 26 ≤ 900 := by rw [L.2.2.1]; omega
  have e26 := L.2.2.1
  obtain ⟨rfl, -⟩ := L
  exact t_passedOf Pq RE hp (fun _ => fin)

theorem p_pushed {p : Int} (T : TT h M) (hB : 10000 ≤ B ∧ B ≤ 100000) (S : Scr F A) (hH : HR B F A)
    (no : ¬ isP F A p → ∀ F' A', Post F A 1 F' A' → Q (-1) (blk h M 15 F' A'))
    (yes : isP F A p → ∀ c q, asC (A 3) c → asP (A 3) q → ∀ F' A', Post F A 0 F' A' → Q (pusF q (evF (A 3) c q (A 3 4).toNat (A 3 2) (A 5)) (A 3 5).toNat p) (blk h M 15 F' A')) : g_X4_pushed M p Q (blk h M 15 F A) := by
  unfold g_X4_pushed
  refine t_good (fun _ => t_isPerson (fun z => (hH z).1) (fun _ => ⟨fun c1 => ?_, fun c1 => t_no (fun _ => no (zero_of c1) _ _ (post_no S))⟩))
  have c1 : isP F A p := one_of c1
  obtain ⟨HO, R⟩ := hH c1.1
  have hn := HO.pm
  have hbl := HO.bell
  have hcm := HO.sm
  have hp : 0 ≤ p ∧ p < 10 := ⟨c1.2.1, by omega⟩
  refine t_tellEvening T hB HO S R (fun c q F' A' hc hqq L RE _ => ?_)
  have fin := yes c1 c q hc hqq F' _ (post_T hc.1 ⟨by omega, by omega⟩ RE L)
  have Pq := hqq.1
  have bb : 0 ≤ F' 26 ∧ F' 26 ≤ 900 := by rw [L.2.2.1]; omega
  have e26 := L.2.2.1
  obtain ⟨rfl, -⟩ := L
  exact t_pushedOf HO Pq RE hp (fun _ => fin)

end EV
