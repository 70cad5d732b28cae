/-! LAYER 2: more of the twin's calls that change nothing -/
def mwF (n : Nat) (row : Int → Int) : Int := sumN (fun p => if row (12 + 8 * p + 0) = 1 then 1 else 0) n
def elF (n : Nat) (row : Int → Int) (spot : Int) : Int := sumN (fun p => if row (12 + 8 * p + 0) = 1 ∧ row (12 + 8 * p + 1) = spot then 1 else 0) n
def soF (r q : Int → Int) : Int := sumN (fun k => if behind q (r (161 + 3 * k + 2)) (r (161 + 3 * k + 1)) then 1 else 0) (r 7).toNat
def perF (st : Int → Int) (p what : Int) : Int := if what = 0 then (if st (12 + 8 * p + 0) = 2 ∧ st (12 + 8 * p + 5) ≤ st 0 then 3 else st (12 + 8 * p + 0)) else st (12 + 8 * p + what)
def toldF (r : Int → Int) (p what : Int) : Int := if what < 6 then r (41 + 7 * p + what) else if r (41 + 7 * p + what) = 0 then -2 else r (41 + 7 * p + what) - 1
section EV
variable {h : Hp} {M : Int} {F : Nat → Int} {A : Int → Int → Int} {e : Int → Int} {Q : Int → Hp → Prop} {Qv : Hp → Prop} {B : Int}
theorem isP_g {p : Int} : isP (gF F) A p ↔ isP F A p := Iff.rfl
theorem post_tr {t tr : Int} {F' : Nat → Int} {A' : Int → Int → Int} (P : Post F A t F' A') : Post F A tr (upN F' 11 tr) A' :=
  ⟨⟨P.1.1, fun j h0 h1 h2 h3 h4 h5 h6 => by rw [upN_ne h1]; exact P.1.2.1 j h0 h1 h2 h3 h4 h5 h6, P.1.2.2⟩, by rw [upN_ne (by decide)]; exact P.2.1, upN_eq⟩
theorem p_sum {what : Int} (T : TT h M) (hB : 10000 ≤ B ∧ B ≤ 100000) (S : Scr F A) (hH : HR B F A)
    (no : ¬ (F 14 ≠ 0 ∧ 0 ≤ what ∧ what ≤ 5) → ∀ F' A', Post F A 1 F' A' → Q (-1) (blk h M 15 F' A'))
    (yes : (F 14 ≠ 0 ∧ 0 ≤ what ∧ what ≤ 5) → ∀ c q, asC (A 3) c → asP (A 3) q → ∀ F' A', Post F A 0 F' A' → Q (sumF (A 3) q (evF (A 3) c q (A 3 4).toNat (A 3 2) (A 5)) (A 3 2) what) (blk h M 15 F' A')) : g_X4_sum M what Q (blk h M 15 F A) := by
  unfold g_X4_sum g_X4_sum_b20
  refine t_good (fun _ => ?_)
  rw [blk_F, gF_o (by decide) (by decide)]
  refine ⟨fun c0 => t_no (fun _ => no (fun z => z.1 c0) _ _ (post_no S)), fun c0 => t_within (fun _ => ⟨fun c1 => ?_, fun c1 => t_no (fun _ => no (fun z => zero_of c1 z.2) _ _ (post_no S))⟩)⟩
  obtain ⟨HO, R⟩ := hH c0
  have hbl := HO.bell
  have hcm := HO.sm
  refine t_tellEvening T hB HO S R (fun c q F' A' hc hqq L RE _ => ?_)
  have fin := yes ⟨c0, one_of c1⟩ c q hc hqq F' _ (post_T hc.1 ⟨by omega, by omega⟩ RE L)
  have bb : 0 ≤ F' 26 ∧ F' 26 ≤ 900 := by rw [L.2.2.1]; omega
  have e26 := L.2.2.1
  obtain ⟨rfl, -⟩ := L
  exact t_sumOf hB HO hqq.1 RE bb (fun _ => by rw [e26]; exact fin)
theorem p_served {i : Int} (T : TT h M) (hB : 10000 ≤ B ∧ B ≤ 100000) (S : Scr F A) (hH : HR B F A)
    (no : ¬ (F 14 ≠ 0 ∧ 0 ≤ i) → ∀ F' A', Post F A 1 F' A' → Q (-1) (blk h M 15 F' A'))
    (yes : (F 14 ≠ 0 ∧ 0 ≤ i) → ∀ c q, asC (A 3) c → asP (A 3) q → (i < evF (A 3) c q (A 3 4).toNat (A 3 2) (A 5) 1 → ∀ F' A', Post F A 0 F' A' → Q (evF (A 3) c q (A 3 4).toNat (A 3 2) (A 5) (2 + i)) (blk h M 15 F' A')) ∧ (evF (A 3) c q (A 3 4).toNat (A 3 2) (A 5) 1 ≤ i → ∀ F' A', Post F A 1 F' A' → Q (-1) (blk h M 15 F' A'))) : g_X4_served M i Q (blk h M 15 F A) := by
  have hk : (6 : Int) = 5 ∨ (6 : Int) = 6 := Or.inr rfl
  unfold g_X4_served g_X4_served_b15 g_X4_served_b51
  refine t_good (fun _ => ?_)
  rw [blk_F, gF_o (by decide) (by decide)]
  refine ⟨fun c0 => t_no (fun _ => no (fun z => z.1 c0) _ _ (post_no S)), fun c0 => ⟨fun c1 => ?_, fun c1 => t_no (fun _ => no (fun z => by omega) _ _ (post_no S))⟩⟩
  obtain ⟨HO, R⟩ := hH c0
  have hbl := HO.bell
  have hcm := HO.sm
  refine t_tellEvening T hB HO S R (fun c q F' A' hc hqq L RE _ => ?_)
  obtain ⟨y1, y2⟩ := yes ⟨c0, c1⟩ c q hc hqq
  have P := post_T hc.1 ⟨by omega, by omega⟩ RE L
  have r1 := RE.room
  have r2 := RE.served
  have r3 := cw_b (evF (A 3) c q (A 3 4).toNat (A 3 2) (A 5))
  simp only [RW_k hk]
  refine ⟨fun c2 => t_no (fun _ => y2 c2 (upN F' 11 1) _ (post_tr P)), fun c2 => ⟨(by first | omega | (unfold i32; omega)), (by first | omega | (unfold i32; omega)), y1 c2 _ _ P⟩⟩
theorem t_manyWaiting {k : Int} {row : Int → Int} (hk : k = 5 ∨ k = 6) (HO : HouseOK (A 3)) (hq : Q (mwF (A 3 5).toNat row) (RW h M F A k row)) : g_X4_manyWaiting M (M + k) Q (RW h M F A k row) := by
  have hn := HO.pm
  unfold g_X4_manyWaiting
  refine Lp2_for (A 3 5).toNat 0 (fun j => mwF j row) (fun _ => RW h M F A k row) (fun K j hj hK => ?_) (fun K => ?_)
  · have h1 := sumN_01 (f := fun p => if row (12 + 8 * p + 0) = 1 then 1 else 0) j (fun i hi => by (try dsimp only); split <;> omega)
    have e1 : mwF (j + 1) row = mwF j row + (if row (12 + 8 * (j : Int) + 0) = 1 then 1 else 0) := rfl
    have h2 : 0 ≤ mwF j row ∧ mwF j row ≤ j := h1
    rw [Int.zero_add]
    unfold g_X4_manyWaiting_L4 g_X4_manyWaiting_b28
    simp only [RW_3 hk]
    refine ⟨fun c => absurd c (by omega), fun c => t_isWaiting hk ⟨by omega, by omega⟩ (fun _ => ⟨fun c1 => ⟨(by first | omega | (unfold i32; omega)), ?_⟩, fun c1 => ⟨(by first | omega | (unfold i32; omega)), ?_⟩⟩)⟩
    · rintro y rfl
      exact ⟨(by first | omega | (unfold i32; omega)), fun y ey => hK _ _ _ (by rw [e1, if_neg (zero_of c1)]) (by omega) rfl⟩
    · rintro y rfl
      exact ⟨(by first | omega | (unfold i32; omega)), fun y ey => hK _ _ _ (by rw [e1, if_pos (one_of c1)]) (by omega) rfl⟩
  · unfold g_X4_manyWaiting_L4 g_X4_manyWaiting_b36
    simp only [RW_3 hk]
    exact ⟨fun _ => hq, fun c => absurd c (by omega)⟩
/-- the evening up to another bell -/
theorem t_bellTo {bl : Int} (T : TT h M) (hB : 10000 ≤ B ∧ B ≤ 100000) (HO : HouseOK (A 3)) (S : Scr F A) (R : RowOK B (A 5)) (hbl : 0 ≤ bl ∧ bl ≤ 900)
    (hq : ∀ (c q : Int → Int) (F' : Nat → Int) (A' : Int → Int → Int), asC (A 3) c → asP (A 3) q → LayT F A c q (A 3 4) bl F' A' → RowOK B (evF (A 3) c q (A 3 4).toNat bl (A 5)) → Qv (RW h M F' A' 6 (evF (A 3) c q (A 3 4).toNat bl (A 5)))) :
    g_X4_asTold M (fun m43 => Ext (blk h M 15 F A) m43 → (∀ m48 : Hp, m48 = setF m43 M 26 bl → (g_X4_evening M (fun m52 => Ext m48 m52 → Qv m52) m48))) (blk h M 15 F A) := by
  have b2 := HO.sm
  refine t_asTold T HO S.1 (fun c q hc hqq _ => ?_)
  rintro m11 rfl
  rw [blk_setF]
  refine t_evening (F := upN (upN F 25 (A 3 4)) 26 bl) (A := upR (upR A 9 c) 10 q) T hB HO hc.1 hqq.1 (show 0 ≤ A 3 4 ∧ A 3 4 ≤ 4 by omega) hbl R S.2.1 (fun _ => ?_)
  exact hq c q _ _ hc hqq ⟨rfl, rfl, rfl, fun j h0 h1 => by rw [upN_ne h1, upN_ne h0]⟩ (evF_ok hB.1 HO hc.1 (by omega) hbl R).1
theorem p_waitingAt {s : Int} (T : TT h M) (hB : 10000 ≤ B ∧ B ≤ 100000) (S : Scr F A) (hH : HR B F A)
    (no : F 14 = 0 → ∀ F' A', Post F A 1 F' A' → Q (-1) (blk h M 15 F' A'))
    (no2 : F 14 ≠ 0 → ¬ (A 5 0 ≤ s ∧ s ≤ A 3 2) → ∀ F' A', Post F A 2 F' A' → Q (-1) (blk h M 15 F' A'))
    (yes : F 14 ≠ 0 → (A 5 0 ≤ s ∧ s ≤ A 3 2) → ∀ c q, asC (A 3) c → asP (A 3) q → ∀ F' A', Post F A 0 F' A' → Q (mwF (A 3 5).toNat (evF (A 3) c q (A 3 4).toNat s (A 5))) (blk h M 15 F' A')) : g_X4_waitingAt M s Q (blk h M 15 F A) := by
  unfold g_X4_waitingAt
  refine t_good (fun _ => ?_)
  rw [blk_F, gF_o (by decide) (by decide)]
  refine ⟨fun c0 => ?_, fun c0 => t_no (fun _ => no c0 _ _ (post_no S))⟩
  obtain ⟨HO, R⟩ := hH c0
  have hbl := HO.bell
  have hcm := HO.sm
  have h0 := R.now
  rw [tw_5, tw_3]
  refine t_within (fun _ => ⟨fun c1 => ?_, fun c1 => t_no (fun _ => no2 c0 (zero_of c1) _ _ (post_no S))⟩)
  have c1 := one_of c1
  refine t_bellTo T hB HO S R (by omega) (fun c q F' A' hc hqq L RE => ?_)
  have fin := yes c0 c1 c q hc hqq F' _ (post_T hc.1 ⟨by omega, by omega⟩ RE L)
  obtain ⟨rfl, -⟩ := L
  exact t_manyWaiting (Or.inr rfl) HO (fun _ => fin)
theorem p_bell {s what : Int} (T : TT h M) (hB : 10000 ≤ B ∧ B ≤ 100000) (S : Scr F A) (hH : HR B F A)
    (no : ¬ (F 14 ≠ 0 ∧ 0 ≤ what ∧ what ≤ 5) → ∀ F' A', Post F A 1 F' A' → Q (-1) (blk h M 15 F' A'))
    (no2 : (F 14 ≠ 0 ∧ 0 ≤ what ∧ what ≤ 5) → ¬ (A 5 0 ≤ s ∧ s ≤ 900) → ∀ F' A', Post F A 2 F' A' → Q (-1) (blk h M 15 F' A'))
    (yes : (F 14 ≠ 0 ∧ 0 ≤ what ∧ what ≤ 5) → (A 5 0 ≤ s ∧ s ≤ 900) → ∀ c q, asC (A 3) c → asP (A 3) q → ∀ F' A', Post F A 0 F' A' → Q (sumF (A 3) q (evF (A 3) c q (A 3 4).toNat s (A 5)) s what) (blk h M 15 F' A')) : g_X4_bell M s what Q (blk h M 15 F A) := by
  unfold g_X4_bell g_X4_bell_b20
  refine t_good (fun _ => ?_)
  rw [blk_F, gF_o (by decide) (by decide)]
  refine ⟨fun c0 => t_no (fun _ => no (fun z => z.1 c0) _ _ (post_no S)), fun c0 => t_within (fun _ => ⟨fun c1 => ?_, fun c1 => t_no (fun _ => no (fun z => zero_of c1 z.2) _ _ (post_no S))⟩)⟩
  have c1 := one_of c1
  obtain ⟨HO, R⟩ := hH c0
  have hbl := HO.bell
  have hcm := HO.sm
  have h0 := R.now
  rw [tw_5]
  refine t_within (fun _ => ⟨fun c2 => ?_, fun c2 => t_no (fun _ => no2 ⟨c0, c1⟩ (zero_of c2) _ _ (post_no S))⟩)
  have c2 := one_of c2
  refine t_bellTo T hB HO S R (by omega) (fun c q F' A' hc hqq L RE => ?_)
  have fin := yes ⟨c0, c1⟩ c2 c q hc hqq F' _ (post_T hc.1 ⟨by omega, by omega⟩ RE L)
  have bb : 0 ≤ F' 26 ∧ F' 26 ≤ 900 := by rw [L.2.2.1]; omega
  have e26 := L.2.2.1
  obtain ⟨rfl, -⟩ := L
  exact t_sumOf hB HO hqq.1 RE bb (fun _ => by rw [e26]; exact fin)
theorem p_waiting (S : Scr F A) (hH : HR B F A)
    (no : F 14 = 0 → ∀ F' A', Post F A 1 F' A' → Q (-1) (blk h M 15 F' A'))
    (yes : F 14 ≠ 0 → ∀ F' A', Post F A 0 F' A' → Q (mwF (A 3 5).toNat (A 5)) (blk h M 15 F' A')) : g_X4_waiting M Q (blk h M 15 F A) := by
  unfold g_X4_waiting g_X4_waiting_b27
  refine t_good (fun _ => ?_)
  rw [blk_F, gF_o (by decide) (by decide)]
  refine ⟨fun c0 => t_no (fun _ => no c0 _ _ (post_no S)), fun c0 => ?_⟩
  have fin := yes c0 _ _ (post_g S)
  rw [RW_self h M (gF F) A 5] at fin ⊢
  exact t_manyWaiting (Or.inl rfl) (hH c0).1 (fun _ => fin)
theorem p_costs {p : Int} (S : Scr F A) (hH : HR B F A)
    (no : ¬ isP F A p → ∀ F' A', Post F A 1 F' A' → Q (-1) (blk h M 15 F' A'))
    (yes : isP F A p → ∀ F' A', Post F A 0 F' A' → Q (costF (A 3) p) (blk h M 15 F' A')) : g_X4_costs M p Q (blk h M 15 F A) := by
  unfold g_X4_costs g_X4_costs_b25
  refine t_good (fun _ => t_isPerson (fun z => (hH z).1) (fun _ => ⟨fun c1 => t_no (fun _ => no (zero_of c1) _ _ (post_no S)), fun c1 => ?_⟩))
  have c1 : isP F A p := one_of c1
  have hn := (hH c1.1).1.pm
  have fin := yes c1 _ _ (post_g S)
  rw [RW_self h M (gF F) A 5] at fin ⊢
  exact t_costsOf (Or.inl rfl) (hH c1.1).1 ⟨c1.2.1, by omega⟩ (fun _ => fin)
theorem p_time {s p : Int} (S : Scr F A) (hH : HR B F A)
    (no : ¬ (isS F A s ∧ isP F A p) → ∀ F' A', Post F A 1 F' A' → Q (-1) (blk h M 15 F' A'))
    (yes : isS F A s ∧ isP F A p → ∀ F' A', Post F A 0 F' A' → Q (tbF (A 3) (A 5 (92 + 4 * s + 3) - 1) p) (blk h M 15 F' A')) : g_X4_time M s p Q (blk h M 15 F A) := by
  unfold g_X4_time g_X4_time_b33 g_X4_time_b38
  refine t_good (fun _ => t_isStaff (fun z => (hH z).1) (fun _ => ⟨fun c1 => t_no (fun _ => no (fun z => zero_of c1 z.1) _ _ (post_no S)), fun c1 => t_isPerson (fun z => (hH z).1) (fun _ => ⟨fun c2 => t_no (fun _ => no (fun z => zero_of c2 z.2) _ _ (post_no S)), fun c2 => ?_⟩)⟩))
  have c1 : isS F A s := one_of c1
  have c2 : isP F A p := one_of c2
  obtain ⟨HO, R⟩ := hH c1.1
  have hn := HO.pm
  have hs := HO.sm
  have fin := yes ⟨c1, c2⟩ _ _ (post_g S)
  rw [RW_self h M (gF F) A 5] at fin ⊢
  exact t_timeOf (Or.inl rfl) HO R ⟨c1.2.1, by omega⟩ ⟨c2.2.1, by omega⟩ (fun _ => fin)
theorem p_next {s : Int} (T : TT h M) (hB : 10000 ≤ B ∧ B ≤ 100000) (S : Scr F A) (hH : HR B F A)
    (no : ¬ isS F A s → ∀ F' A', Post F A 1 F' A' → Q (-1) (blk h M 15 F' A'))
    (yes : isS F A s → ∀ c q, asC (A 3) c → asP (A 3) q → ∀ F' A', Post F A 0 F' A' → Q (nxN c q (A 5) s (A 3 5).toNat) (blk h M 15 F' A')) : g_X4_next M s Q (blk h M 15 F A) := by
  unfold g_X4_next
  refine t_good (fun _ => t_isStaff (fun z => (hH z).1) (fun _ => ⟨fun c1 => ?_, fun c1 => t_no (fun _ => no (zero_of c1) _ _ (post_no S))⟩))
  have c1 : isS F A s := one_of c1
  obtain ⟨HO, R⟩ := hH c1.1
  have hs := HO.sm
  refine t_asTold T HO S.1 (fun c q hc hqq _ => ?_)
  have fin := yes c1 c q hc hqq (upN (gF F) 25 (A 3 4)) (upR (upR A 9 c) 10 q) ⟨⟨⟨rfl, rfl, rfl, rfl, rfl⟩, fun j h0 h1 h2 _ _ _ _ => by rw [upN_ne h2, gF_o h0 h1], hc.1, S.2.1, show 0 ≤ A 3 4 by omega, show A 3 4 ≤ 4 by omega⟩, rfl, rfl⟩
  rw [RW_self h M (upN (gF F) 25 (A 3 4)) (upR (upR A 9 c) 10 q) 5] at fin ⊢
  exact t_nextFor (A := upR (upR A 9 c) 10 q) (row := A 5) (Or.inl rfl) HO hc.1 (fun j => by have := R.cells j; show -100000 ≤ A 5 j ∧ A 5 j ≤ 100000; omega) ⟨c1.2.1, by omega⟩ (fun _ => fin)
theorem p_elbows {spot : Int} (S : Scr F A) (hH : HR B F A)
    (no : ¬ isL F A spot → ∀ F' A', Post F A 1 F' A' → Q (-1) (blk h M 15 F' A'))
    (yes : isL F A spot → ∀ F' A', Post F A 0 F' A' → Q (elF (A 3 5).toNat (A 5) spot) (blk h M 15 F' A')) : g_X4_elbows M spot Q (blk h M 15 F A) := by
  unfold g_X4_elbows
  refine t_good (fun _ => t_isSpot (fun z => (hH z).1) (fun _ => ⟨fun c1 => ?_, fun c1 => t_no (fun _ => no (zero_of c1) _ _ (post_no S))⟩))
  have c1 : isL F A spot := one_of c1
  obtain ⟨HO, R⟩ := hH c1.1
  have hn := HO.pm
  have fin := yes c1 _ _ (post_g S)
  have hk : (5 : Int) = 5 ∨ (5 : Int) = 6 := Or.inl rfl
  rw [RW_self h M (gF F) A 5] at fin ⊢
  refine Lp2_for (A 3 5).toNat 0 (fun j => elF j (A 5) spot) (fun _ => RW h M (gF F) A 5 (A 5)) (fun K j hj hK => ?_) (fun K => ?_)
  · have h1 := sumN_01 (f := fun p => if A 5 (12 + 8 * p + 0) = 1 ∧ A 5 (12 + 8 * p + 1) = spot then 1 else 0) j (fun i hi => by (try dsimp only); split <;> omega)
    have e1 : elF (j + 1) (A 5) spot = elF j (A 5) spot + (if A 5 (12 + 8 * (j : Int) + 0) = 1 ∧ A 5 (12 + 8 * (j : Int) + 1) = spot then 1 else 0) := rfl
    have h2 : 0 ≤ elF j (A 5) spot ∧ elF j (A 5) spot ≤ j := h1
    have no : ¬ (A 5 (12 + 8 * (j : Int) + 0) = 1 ∧ A 5 (12 + 8 * (j : Int) + 1) = spot) → g_X4_elbows_b61 M spot Q K j (elF j (A 5) spot) (RW h M (gF F) A 5 (A 5)) := by
      intro z
      unfold g_X4_elbows_b61 g_X4_elbows_b62
      refine ⟨(by first | omega | (unfold i32; omega)), ?_⟩
      rintro y rfl
      exact ⟨(by first | omega | (unfold i32; omega)), fun y ey => hK _ _ _ (by rw [e1, if_neg z]) (by omega) rfl⟩
    rw [Int.zero_add]
    unfold g_X4_elbows_L22 g_X4_elbows_b62
    simp only [RW_3 hk]
    refine ⟨fun c => absurd c (by omega), fun c => t_isWaiting hk ⟨by omega, by omega⟩ (fun _ => ⟨fun c1 => no (fun z => zero_of c1 z.1), fun c1 => t_its hk ⟨by omega, by omega⟩ ⟨by omega, by omega⟩ (fun _ => ⟨fun c2 => no (fun z => c2 z.2), fun c2 => ⟨(by first | omega | (unfold i32; omega)), ?_⟩⟩)⟩)⟩
    rintro y rfl
    exact ⟨(by first | omega | (unfold i32; omega)), fun y ey => hK _ _ _ (by rw [e1, if_pos ⟨one_of c1, c2⟩]) (by omega) rfl⟩
  · unfold g_X4_elbows_L22 g_X4_elbows_b70
    simp only [RW_3 hk]
    exact ⟨fun _ => fin, fun c => absurd c (by omega)⟩
theorem p_wants {p d : Int} (S : Scr F A) (hH : HR B F A)
    (no : ¬ (isP F A p ∧ isD F A d) → ∀ F' A', Post F A 1 F' A' → Q (-1) (blk h M 15 F' A'))
    (yes : isP F A p ∧ isD F A d → ∀ F' A', Post F A 0 F' A' → Q (A 3 (111 + 5 * p + d)) (blk h M 15 F' A')) : g_X4_wants M p d Q (blk h M 15 F A) := by
  unfold g_X4_wants g_X4_wants_b29 g_X4_wants_b34
  refine t_good (fun _ => t_isPerson (fun z => (hH z).1) (fun _ => ⟨fun c1 => t_no (fun _ => no (fun z => zero_of c1 z.1) _ _ (post_no S)), fun c1 => t_isDrink (fun z => (hH z).1) (fun _ => ⟨fun c2 => t_no (fun _ => no (fun z => zero_of c2 z.2) _ _ (post_no S)), fun c2 => ?_⟩)⟩))
  have c1 : isP F A p := one_of c1
  have c2 : isD F A d := one_of c2
  obtain ⟨HO, R⟩ := hH c1.1
  have hn := HO.pm
  have hs := HO.dm
  exact s_wantsOf ⟨c1.2.1, by omega⟩ ⟨c2.2.1, by omega⟩ (fun _ => yes ⟨c1, c2⟩ _ _ (post_g S))
theorem p_told {p what : Int} (S : Scr F A) (hH : HR B F A)
    (no : ¬ (isP F A p ∧ 0 ≤ what ∧ what ≤ 6) → ∀ F' A', Post F A 1 F' A' → Q (-1) (blk h M 15 F' A'))
    (yes : isP F A p ∧ 0 ≤ what ∧ what ≤ 6 → ∀ F' A', Post F A 0 F' A' → Q (toldF (A 3) p what) (blk h M 15 F' A')) : g_X4_told M p what Q (blk h M 15 F A) := by
  unfold g_X4_told g_X4_told_b22 g_X4_told_b65
  refine t_good (fun _ => t_isPerson (fun z => (hH z).1) (fun _ => ⟨fun c1 => t_no (fun _ => no (fun z => zero_of c1 z.1) _ _ (post_no S)), fun c1 => t_within (fun _ => ⟨fun c2 => ?_, fun c2 => t_no (fun _ => no (fun z => zero_of c2 z.2) _ _ (post_no S))⟩)⟩))
  have c1 : isP F A p := one_of c1
  have c2 := one_of c2
  obtain ⟨HO, R⟩ := hH c1.1
  have hn := HO.pm
  have fin := yes ⟨c1, c2⟩ _ _ (post_g S)
  unfold toldF at fin
  simp only [tw_3]
  refine ⟨(by first | omega | (unfold i32; omega)), (by first | omega | (unfold i32; omega)), (by first | omega | (unfold i32; omega)), (by first | omega | (unfold i32; omega)), ?_⟩
  rintro y42 rfl
  refine ⟨fun c3 => ⟨fun c4 => ⟨?_, ?_⟩, fun c4 => ?_⟩, fun c3 => ?_⟩
  · have := HO.shelf p c1.2.1 (by omega)
    have e : what = 6 := by omega
    subst e
    rw [show 41 + 7 * p + 6 = 41 + (7 * p + 6) by omega]
    exact (by first | omega | (unfold i32; omega))
  · rw [if_neg (by omega), if_neg c4] at fin; exact fin
  · rw [if_neg (by omega), if_pos c4] at fin; exact fin
  · rw [if_pos c3] at fin; exact fin
theorem p_person {p what : Int} (S : Scr F A) (hH : HR B F A)
    (no : ¬ (isP F A p ∧ 0 ≤ what ∧ what ≤ 5) → ∀ F' A', Post F A 1 F' A' → Q (-1) (blk h M 15 F' A'))
    (yes : isP F A p ∧ 0 ≤ what ∧ what ≤ 5 → ∀ F' A', Post F A 0 F' A' → Q (perF (A 5) p what) (blk h M 15 F' A')) : g_X4_person M p what Q (blk h M 15 F A) := by
  unfold g_X4_person g_X4_person_b97 g_X4_person_b105
  refine t_good (fun _ => t_isPerson (fun z => (hH z).1) (fun _ => ⟨fun c1 => ?_, fun c1 => t_no (fun _ => no (fun z => zero_of c1 z.1) _ _ (post_no S))⟩))
  have c1 : isP F A p := one_of c1
  obtain ⟨HO, R⟩ := hH c1.1
  have hn := HO.pm
  have fin := fun z => yes ⟨c1, z⟩ _ _ (post_g S)
  unfold perF at fin
  simp only [tw_5]
  refine ⟨(by first | omega | (unfold i32; omega)), (by first | omega | (unfold i32; omega)), ?_⟩
  rintro y25 rfl
  refine ⟨fun c => ?_, fun c => ?_, fun c => ?_, fun c => ?_, fun c => ?_, fun c => ?_, fun c => t_no (fun _ => no (fun z => by omega) _ _ (post_no S))⟩
  · subst c
    have fin := fin ⟨by omega, by omega⟩
    rw [if_pos rfl] at fin
    refine ⟨(by first | omega | (unfold i32; omega)), (by first | omega | (unfold i32; omega)), fun c2 => ⟨(by first | omega | (unfold i32; omega)), (by first | omega | (unfold i32; omega)), ?_⟩, fun c2 => ⟨(by first | omega | (unfold i32; omega)), (by first | omega | (unfold i32; omega)), fun c3 => ⟨(by first | omega | (unfold i32; omega)), (by first | omega | (unfold i32; omega)), ?_⟩, fun c3 => ?_⟩⟩
    · rw [if_neg (fun z => c2 z.1)] at fin; exact fin
    · rw [if_neg (by omega)] at fin; exact fin
    · rw [if_pos ⟨c2, c3⟩] at fin; exact fin
  all_goals
    subst c
    have fin := fin ⟨by omega, by omega⟩
    rw [if_neg (by omega)] at fin
    exact ⟨(by first | omega | (unfold i32; omega)), (by first | omega | (unfold i32; omega)), fin⟩
end EV
